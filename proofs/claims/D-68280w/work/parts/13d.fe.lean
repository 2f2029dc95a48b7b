/-! effects (gen/fe.py) -/
def wI_mSeals_tallyOf_b153 (v0 : Nat) (v1 : Int) (v2 : Int) (v4 : Int) (s0 : Int) (s1 : Int) (s2 : Int) (h : Hp) (x k : Nat) : Prop := x = hR h v0 20 ∨ x = hR h v0 22 ∨ x = hR h v0 23
def wJ_mSeals_tallyOf_b153 (v0 : Nat) (v1 : Int) (v2 : Int) (v4 : Int) (s0 : Int) (s1 : Int) (s2 : Int) (h : Hp) (x k : Nat) : Prop := False
def wI_mSeals_tallyOf_b107 (v0 : Nat) (v1 : Int) (v2 : Int) (v3 : Int) (v4 : Int) (h : Hp) (x k : Nat) : Prop := x = hR h v0 20 ∨ x = hR h v0 22 ∨ x = hR h v0 23
def wJ_mSeals_tallyOf_b107 (v0 : Nat) (v1 : Int) (v2 : Int) (v3 : Int) (v4 : Int) (h : Hp) (x k : Nat) : Prop := False
def wI_mSeals_tallyOf_b281 (v0 : Nat) (v3 : Int) (v4 : Int) (s0 : Int) (s1 : Int) (h : Hp) (x k : Nat) : Prop := x = hR h v0 23
def wJ_mSeals_tallyOf_b281 (v0 : Nat) (v3 : Int) (v4 : Int) (s0 : Int) (s1 : Int) (h : Hp) (x k : Nat) : Prop := False
def wI_mSeals_tallyOf_b252 (v0 : Nat) (v2 : Int) (v3 : Int) (v4 : Int) (h : Hp) (x k : Nat) : Prop := x = hR h v0 23
def wJ_mSeals_tallyOf_b252 (v0 : Nat) (v2 : Int) (v3 : Int) (v4 : Int) (h : Hp) (x k : Nat) : Prop := False
def wI_mSeals_tallyOf_b246 (v0 : Nat) (s0 : Int) (h : Hp) (x k : Nat) : Prop := x = hR h v0 23
def wJ_mSeals_tallyOf_b246 (v0 : Nat) (s0 : Int) (h : Hp) (x k : Nat) : Prop := False
def wI_mSeals_tallyOf_b193 (v0 : Nat) (v2 : Int) (v3 : Int) (h : Hp) (x k : Nat) : Prop := x = hR h v0 22 ∨ x = hR h v0 23
def wJ_mSeals_tallyOf_b193 (v0 : Nat) (v2 : Int) (v3 : Int) (h : Hp) (x k : Nat) : Prop := False
def wI_mSeals_tallyOf_b97 (v0 : Nat) (v1 : Int) (v2 : Int) (h : Hp) (x k : Nat) : Prop := x = hR h v0 20 ∨ x = hR h v0 22 ∨ x = hR h v0 23
def wJ_mSeals_tallyOf_b97 (v0 : Nat) (v1 : Int) (v2 : Int) (h : Hp) (x k : Nat) : Prop := False
def wI_mSeals_tallyOf_b76 (v0 : Nat) (v1 : Int) (v2 : Int) (h : Hp) (x k : Nat) : Prop := x = hR h v0 20 ∨ x = hR h v0 22 ∨ x = hR h v0 23
def wJ_mSeals_tallyOf_b76 (v0 : Nat) (v1 : Int) (v2 : Int) (h : Hp) (x k : Nat) : Prop := False
def wI_mSeals_tallyOf_b68 (v0 : Nat) (v1 : Int) (v2 : Int) (h : Hp) (x k : Nat) : Prop := x = hR h v0 20 ∨ x = hR h v0 21 ∨ x = hR h v0 22 ∨ x = hR h v0 23
def wJ_mSeals_tallyOf_b68 (v0 : Nat) (v1 : Int) (v2 : Int) (h : Hp) (x k : Nat) : Prop := False
def wI_mSeals_tallyOf_b42 (v0 : Nat) (v1 : Int) (v2 : Int) (h : Hp) (x k : Nat) : Prop := x = hR h v0 20 ∨ x = hR h v0 21 ∨ x = hR h v0 22 ∨ x = hR h v0 23
def wJ_mSeals_tallyOf_b42 (v0 : Nat) (v1 : Int) (v2 : Int) (h : Hp) (x k : Nat) : Prop := False
def wI_mSeals_tallyOf_b2 (v0 : Nat) (v1 : Int) (v2 : Int) (h : Hp) (x k : Nat) : Prop := x = hR h v0 20 ∨ x = hR h v0 21 ∨ x = hR h v0 22 ∨ x = hR h v0 23
def wJ_mSeals_tallyOf_b2 (v0 : Nat) (v1 : Int) (v2 : Int) (h : Hp) (x k : Nat) : Prop := False
def wI_mSeals_tallyOf (v0 : Nat) (v1 : Int) (h : Hp) (x k : Nat) : Prop := x = hR h v0 20 ∨ x = hR h v0 21 ∨ x = hR h v0 22 ∨ x = hR h v0 23
def wJ_mSeals_tallyOf (v0 : Nat) (v1 : Int) (h : Hp) (x k : Nat) : Prop := False
theorem fe_mSeals_tallyOf_b153 {k97 : Nat → Int → Int → Hp → Option (Hp)} (hk97 : ∀ (v0 : Nat) (v1 : Int) (v2 : Int) (h : Hp), Feo (wI_mSeals_tallyOf_b97 v0 v1 v2 h) (wJ_mSeals_tallyOf_b97 v0 v1 v2 h) h id (k97 v0 v1 v2 h)) {k107 : Nat → Int → Int → Int → Int → Hp → Option (Hp)} (hk107 : ∀ (v0 : Nat) (v1 : Int) (v2 : Int) (v3 : Int) (v4 : Int) (h : Hp), Feo (wI_mSeals_tallyOf_b107 v0 v1 v2 v3 v4 h) (wJ_mSeals_tallyOf_b107 v0 v1 v2 v3 v4 h) h id (k107 v0 v1 v2 v3 v4 h)) (v0 : Nat) (v1 : Int) (v2 : Int) (v4 : Int) (s0 : Int) (s1 : Int) (s2 : Int) (h : Hp) : Feo (wI_mSeals_tallyOf_b153 v0 v1 v2 v4 s0 s1 s2 h) (wJ_mSeals_tallyOf_b153 v0 v1 v2 v4 s0 s1 s2 h) h id (f_mSeals_tallyOf_b153 k97 k107 v0 v1 v2 v4 s0 s1 s2 h) := by
  unfold f_mSeals_tallyOf_b153
  refine fe_v (fun y43 => ?_)
  refine fe_it fe_no ?_
  refine fe_it ?_ fe_no
  refine fe_I Fe.rf (Or.inl (rfl)) (fun h46 F1 => ?_)
  refine fe_v (fun y47 => ?_)
  exact fe_j F1 (hk107 _ _ _ _ _ _) (fun x k hx => by simp only [wI_mSeals_tallyOf_b107, F1.r] at hx; rcases hx with e | e | e <;> first | exact Or.inl (e) | exact Or.inr (Or.inl (e)) | exact Or.inr (Or.inr (e))) (fun x k hx => False.elim hx)
theorem fe_mSeals_tallyOf_b107 {k97 : Nat → Int → Int → Hp → Option (Hp)} (hk97 : ∀ (v0 : Nat) (v1 : Int) (v2 : Int) (h : Hp), Feo (wI_mSeals_tallyOf_b97 v0 v1 v2 h) (wJ_mSeals_tallyOf_b97 v0 v1 v2 h) h id (k97 v0 v1 v2 h)) {k107 : Nat → Int → Int → Int → Int → Hp → Option (Hp)} (hk107 : ∀ (v0 : Nat) (v1 : Int) (v2 : Int) (v3 : Int) (v4 : Int) (h : Hp), Feo (wI_mSeals_tallyOf_b107 v0 v1 v2 v3 v4 h) (wJ_mSeals_tallyOf_b107 v0 v1 v2 v3 v4 h) h id (k107 v0 v1 v2 v3 v4 h)) (v0 : Nat) (v1 : Int) (v2 : Int) (v3 : Int) (v4 : Int) (h : Hp) : Feo (wI_mSeals_tallyOf_b107 v0 v1 v2 v3 v4 h) (wJ_mSeals_tallyOf_b107 v0 v1 v2 v3 v4 h) h id (f_mSeals_tallyOf_b107 k97 k107 v0 v1 v2 v3 v4 h) := by
  unfold f_mSeals_tallyOf_b107
  refine fe_it ?_ ?_
  · refine fe_b1 Fe.rf (fe_mSeals_multiply _ _) (fun x k hx => by simp only [wI_mSeals_multiply] at hx; rcases hx with e | e <;> first | exact Or.inl (e) | exact Or.inr (Or.inl (e))) (fun x k hx => False.elim hx) (fun h37 F1 => ?_)
    exact fe_j F1 (hk97 _ _ _ _) (fun x k hx => by simp only [wI_mSeals_tallyOf_b97, F1.r] at hx; rcases hx with e | e | e <;> first | exact Or.inl (e) | exact Or.inr (Or.inl (e)) | exact Or.inr (Or.inr (e))) (fun x k hx => False.elim hx)
  · refine fe_it fe_no ?_
    refine fe_it ?_ fe_no
    refine fe_it ?_ ?_
    · refine fe_it ?_ ?_
      · exact fe_j Fe.rf (fe_mSeals_tallyOf_b153 hk97 hk107 _ _ _ _ _ _ _ _) (fun x k hx => by simp only [wI_mSeals_tallyOf_b153] at hx; rcases hx with e | e | e <;> first | exact Or.inl (e) | exact Or.inr (Or.inl (e)) | exact Or.inr (Or.inr (e))) (fun x k hx => False.elim hx)
      · exact fe_j Fe.rf (fe_mSeals_tallyOf_b153 hk97 hk107 _ _ _ _ _ _ _ _) (fun x k hx => by simp only [wI_mSeals_tallyOf_b153] at hx; rcases hx with e | e | e <;> first | exact Or.inl (e) | exact Or.inr (Or.inl (e)) | exact Or.inr (Or.inr (e))) (fun x k hx => False.elim hx)
    · refine fe_it fe_no ?_
      refine fe_it ?_ fe_no
      exact fe_j Fe.rf (fe_mSeals_tallyOf_b153 hk97 hk107 _ _ _ _ _ _ _ _) (fun x k hx => by simp only [wI_mSeals_tallyOf_b153] at hx; rcases hx with e | e | e <;> first | exact Or.inl (e) | exact Or.inr (Or.inl (e)) | exact Or.inr (Or.inr (e))) (fun x k hx => False.elim hx)
theorem fe_mSeals_tallyOf_b107_lp {k97 : Nat → Int → Int → Hp → Option (Hp)} (hk97 : ∀ (v0 : Nat) (v1 : Int) (v2 : Int) (h : Hp), Feo (wI_mSeals_tallyOf_b97 v0 v1 v2 h) (wJ_mSeals_tallyOf_b97 v0 v1 v2 h) h id (k97 v0 v1 v2 h)) (n : Nat) : ∀ (v0 : Nat) (v1 : Int) (v2 : Int) (v3 : Int) (v4 : Int) (h : Hp), Feo (wI_mSeals_tallyOf_b107 v0 v1 v2 v3 v4 h) (wJ_mSeals_tallyOf_b107 v0 v1 v2 v3 v4 h) h id (f_mSeals_tallyOf_b107_lp k97 n v0 v1 v2 v3 v4 h) := by
  induction n with
  | zero => intro v0 v1 v2 v3 v4 h; exact fe_no
  | succ n ih => intro v0 v1 v2 v3 v4 h; exact fe_mSeals_tallyOf_b107 hk97 ih v0 v1 v2 v3 v4 h
theorem fe_mSeals_tallyOf_b281 {k252 : Nat → Int → Int → Int → Hp → Option (Hp)} (hk252 : ∀ (v0 : Nat) (v2 : Int) (v3 : Int) (v4 : Int) (h : Hp), Feo (wI_mSeals_tallyOf_b252 v0 v2 v3 v4 h) (wJ_mSeals_tallyOf_b252 v0 v2 v3 v4 h) h id (k252 v0 v2 v3 v4 h)) (v0 : Nat) (v3 : Int) (v4 : Int) (s0 : Int) (s1 : Int) (h : Hp) : Feo (wI_mSeals_tallyOf_b281 v0 v3 v4 s0 s1 h) (wJ_mSeals_tallyOf_b281 v0 v3 v4 s0 s1 h) h id (f_mSeals_tallyOf_b281 k252 v0 v3 v4 s0 s1 h) := by
  unfold f_mSeals_tallyOf_b281
  refine fe_it fe_no ?_
  refine fe_it ?_ fe_no
  refine fe_v (fun y32 => ?_)
  refine fe_it fe_no ?_
  refine fe_it ?_ fe_no
  refine fe_I Fe.rf (rfl) (fun h35 F1 => ?_)
  refine fe_v (fun y36 => ?_)
  exact fe_j F1 (hk252 _ _ _ _ _) (fun x k hx => by simp only [wI_mSeals_tallyOf_b252, F1.r] at hx; have e := hx; exact e) (fun x k hx => False.elim hx)
theorem fe_mSeals_tallyOf_b252 {k252 : Nat → Int → Int → Int → Hp → Option (Hp)} (hk252 : ∀ (v0 : Nat) (v2 : Int) (v3 : Int) (v4 : Int) (h : Hp), Feo (wI_mSeals_tallyOf_b252 v0 v2 v3 v4 h) (wJ_mSeals_tallyOf_b252 v0 v2 v3 v4 h) h id (k252 v0 v2 v3 v4 h)) (v0 : Nat) (v2 : Int) (v3 : Int) (v4 : Int) (h : Hp) : Feo (wI_mSeals_tallyOf_b252 v0 v2 v3 v4 h) (wJ_mSeals_tallyOf_b252 v0 v2 v3 v4 h) h id (f_mSeals_tallyOf_b252 k252 v0 v2 v3 v4 h) := by
  unfold f_mSeals_tallyOf_b252
  refine fe_it ?_ ?_
  · exact fe_so Fe.rf
  · refine fe_it ?_ ?_
    · refine fe_it fe_no ?_
      refine fe_it ?_ fe_no
      exact fe_j Fe.rf (fe_mSeals_tallyOf_b281 hk252 _ _ _ _ _ _) (fun x k hx => by simp only [wI_mSeals_tallyOf_b281] at hx; have e := hx; exact e) (fun x k hx => False.elim hx)
    · refine fe_it fe_no ?_
      refine fe_it ?_ fe_no
      exact fe_j Fe.rf (fe_mSeals_tallyOf_b281 hk252 _ _ _ _ _ _) (fun x k hx => by simp only [wI_mSeals_tallyOf_b281] at hx; have e := hx; exact e) (fun x k hx => False.elim hx)
theorem fe_mSeals_tallyOf_b252_lp (n : Nat) : ∀ (v0 : Nat) (v2 : Int) (v3 : Int) (v4 : Int) (h : Hp), Feo (wI_mSeals_tallyOf_b252 v0 v2 v3 v4 h) (wJ_mSeals_tallyOf_b252 v0 v2 v3 v4 h) h id (f_mSeals_tallyOf_b252_lp n v0 v2 v3 v4 h) := by
  induction n with
  | zero => intro v0 v2 v3 v4 h; exact fe_no
  | succ n ih => intro v0 v2 v3 v4 h; exact fe_mSeals_tallyOf_b252 ih v0 v2 v3 v4 h
theorem fe_mSeals_tallyOf_b246 (v0 : Nat) (s0 : Int) (h : Hp) : Feo (wI_mSeals_tallyOf_b246 v0 s0 h) (wJ_mSeals_tallyOf_b246 v0 s0 h) h id (f_mSeals_tallyOf_b246 v0 s0 h) := by
  unfold f_mSeals_tallyOf_b246
  exact fe_j Fe.rf (fe_mSeals_tallyOf_b252_lp FU _ _ _ _ _) (fun x k hx => by simp only [wI_mSeals_tallyOf_b252] at hx; have e := hx; exact e) (fun x k hx => False.elim hx)
theorem fe_mSeals_tallyOf_b193 {k193 : Nat → Int → Int → Hp → Option (Hp)} (hk193 : ∀ (v0 : Nat) (v2 : Int) (v3 : Int) (h : Hp), Feo (wI_mSeals_tallyOf_b193 v0 v2 v3 h) (wJ_mSeals_tallyOf_b193 v0 v2 v3 h) h id (k193 v0 v2 v3 h)) (v0 : Nat) (v2 : Int) (v3 : Int) (h : Hp) : Feo (wI_mSeals_tallyOf_b193 v0 v2 v3 h) (wJ_mSeals_tallyOf_b193 v0 v2 v3 h) h id (f_mSeals_tallyOf_b193 k193 v0 v2 v3 h) := by
  unfold f_mSeals_tallyOf_b193
  refine fe_it ?_ ?_
  · refine fe_it fe_no ?_
    refine fe_it ?_ fe_no
    refine fe_it ?_ ?_
    · exact fe_j Fe.rf (fe_mSeals_tallyOf_b246 _ _ _) (fun x k hx => by simp only [wI_mSeals_tallyOf_b246] at hx; have e := hx; exact Or.inr (e)) (fun x k hx => False.elim hx)
    · exact fe_j Fe.rf (fe_mSeals_tallyOf_b246 _ _ _) (fun x k hx => by simp only [wI_mSeals_tallyOf_b246] at hx; have e := hx; exact Or.inr (e)) (fun x k hx => False.elim hx)
  · refine fe_it fe_no ?_
    refine fe_it ?_ fe_no
    refine fe_v (fun y21 => ?_)
    refine fe_it fe_no ?_
    refine fe_it ?_ fe_no
    refine fe_I Fe.rf (Or.inl (rfl)) (fun h24 F1 => ?_)
    refine fe_v (fun y25 => ?_)
    exact fe_j F1 (hk193 _ _ _ _) (fun x k hx => by simp only [wI_mSeals_tallyOf_b193, F1.r] at hx; rcases hx with e | e <;> first | exact Or.inl (e) | exact Or.inr (e)) (fun x k hx => False.elim hx)
theorem fe_mSeals_tallyOf_b193_lp (n : Nat) : ∀ (v0 : Nat) (v2 : Int) (v3 : Int) (h : Hp), Feo (wI_mSeals_tallyOf_b193 v0 v2 v3 h) (wJ_mSeals_tallyOf_b193 v0 v2 v3 h) h id (f_mSeals_tallyOf_b193_lp n v0 v2 v3 h) := by
  induction n with
  | zero => intro v0 v2 v3 h; exact fe_no
  | succ n ih => intro v0 v2 v3 h; exact fe_mSeals_tallyOf_b193 ih v0 v2 v3 h
theorem fe_mSeals_tallyOf_b97 {k97 : Nat → Int → Int → Hp → Option (Hp)} (hk97 : ∀ (v0 : Nat) (v1 : Int) (v2 : Int) (h : Hp), Feo (wI_mSeals_tallyOf_b97 v0 v1 v2 h) (wJ_mSeals_tallyOf_b97 v0 v1 v2 h) h id (k97 v0 v1 v2 h)) (v0 : Nat) (v1 : Int) (v2 : Int) (h : Hp) : Feo (wI_mSeals_tallyOf_b97 v0 v1 v2 h) (wJ_mSeals_tallyOf_b97 v0 v1 v2 h) h id (f_mSeals_tallyOf_b97 k97 v0 v1 v2 h) := by
  unfold f_mSeals_tallyOf_b97
  refine fe_it ?_ ?_
  · exact fe_j Fe.rf (fe_mSeals_tallyOf_b193_lp FU _ _ _ _) (fun x k hx => by simp only [wI_mSeals_tallyOf_b193] at hx; rcases hx with e | e <;> first | exact Or.inr (Or.inl (e)) | exact Or.inr (Or.inr (e))) (fun x k hx => False.elim hx)
  · exact fe_j Fe.rf (fe_mSeals_tallyOf_b107_lp hk97 FU _ _ _ _ _ _) (fun x k hx => by simp only [wI_mSeals_tallyOf_b107] at hx; rcases hx with e | e | e <;> first | exact Or.inl (e) | exact Or.inr (Or.inl (e)) | exact Or.inr (Or.inr (e))) (fun x k hx => False.elim hx)
theorem fe_mSeals_tallyOf_b97_lp (n : Nat) : ∀ (v0 : Nat) (v1 : Int) (v2 : Int) (h : Hp), Feo (wI_mSeals_tallyOf_b97 v0 v1 v2 h) (wJ_mSeals_tallyOf_b97 v0 v1 v2 h) h id (f_mSeals_tallyOf_b97_lp n v0 v1 v2 h) := by
  induction n with
  | zero => intro v0 v1 v2 h; exact fe_no
  | succ n ih => intro v0 v1 v2 h; exact fe_mSeals_tallyOf_b97 ih v0 v1 v2 h
theorem fe_mSeals_tallyOf_b76 {k76 : Nat → Int → Int → Hp → Option (Hp)} (hk76 : ∀ (v0 : Nat) (v1 : Int) (v2 : Int) (h : Hp), Feo (wI_mSeals_tallyOf_b76 v0 v1 v2 h) (wJ_mSeals_tallyOf_b76 v0 v1 v2 h) h id (k76 v0 v1 v2 h)) (v0 : Nat) (v1 : Int) (v2 : Int) (h : Hp) : Feo (wI_mSeals_tallyOf_b76 v0 v1 v2 h) (wJ_mSeals_tallyOf_b76 v0 v1 v2 h) h id (f_mSeals_tallyOf_b76 k76 v0 v1 v2 h) := by
  unfold f_mSeals_tallyOf_b76
  refine fe_it ?_ ?_
  · exact fe_j Fe.rf (fe_mSeals_tallyOf_b97_lp FU _ _ _ _) (fun x k hx => by simp only [wI_mSeals_tallyOf_b97] at hx; rcases hx with e | e | e <;> first | exact Or.inl (e) | exact Or.inr (Or.inl (e)) | exact Or.inr (Or.inr (e))) (fun x k hx => False.elim hx)
  · refine fe_it fe_no ?_
    refine fe_it ?_ fe_no
    refine fe_I Fe.rf (Or.inl (rfl)) (fun h16 F1 => ?_)
    exact fe_j F1 (hk76 _ _ _ _) (fun x k hx => by simp only [wI_mSeals_tallyOf_b76, F1.r] at hx; rcases hx with e | e | e <;> first | exact Or.inl (e) | exact Or.inr (Or.inl (e)) | exact Or.inr (Or.inr (e))) (fun x k hx => False.elim hx)
theorem fe_mSeals_tallyOf_b76_lp (n : Nat) : ∀ (v0 : Nat) (v1 : Int) (v2 : Int) (h : Hp), Feo (wI_mSeals_tallyOf_b76 v0 v1 v2 h) (wJ_mSeals_tallyOf_b76 v0 v1 v2 h) h id (f_mSeals_tallyOf_b76_lp n v0 v1 v2 h) := by
  induction n with
  | zero => intro v0 v1 v2 h; exact fe_no
  | succ n ih => intro v0 v1 v2 h; exact fe_mSeals_tallyOf_b76 ih v0 v1 v2 h
theorem fe_mSeals_tallyOf_b68 {k2 : Nat → Int → Int → Hp → Option (Hp)} (hk2 : ∀ (v0 : Nat) (v1 : Int) (v2 : Int) (h : Hp), Feo (wI_mSeals_tallyOf_b2 v0 v1 v2 h) (wJ_mSeals_tallyOf_b2 v0 v1 v2 h) h id (k2 v0 v1 v2 h)) (v0 : Nat) (v1 : Int) (v2 : Int) (h : Hp) : Feo (wI_mSeals_tallyOf_b68 v0 v1 v2 h) (wJ_mSeals_tallyOf_b68 v0 v1 v2 h) h id (f_mSeals_tallyOf_b68 k2 v0 v1 v2 h) := by
  unfold f_mSeals_tallyOf_b68
  exact fe_j Fe.rf (hk2 _ _ _ _) (fun x k hx => by simp only [wI_mSeals_tallyOf_b2] at hx; rcases hx with e | e | e | e <;> first | exact Or.inl (e) | exact Or.inr (Or.inl (e)) | exact Or.inr (Or.inr (Or.inl (e))) | exact Or.inr (Or.inr (Or.inr (e)))) (fun x k hx => False.elim hx)
theorem fe_mSeals_tallyOf_b42 {k2 : Nat → Int → Int → Hp → Option (Hp)} (hk2 : ∀ (v0 : Nat) (v1 : Int) (v2 : Int) (h : Hp), Feo (wI_mSeals_tallyOf_b2 v0 v1 v2 h) (wJ_mSeals_tallyOf_b2 v0 v1 v2 h) h id (k2 v0 v1 v2 h)) (v0 : Nat) (v1 : Int) (v2 : Int) (h : Hp) : Feo (wI_mSeals_tallyOf_b42 v0 v1 v2 h) (wJ_mSeals_tallyOf_b42 v0 v1 v2 h) h id (f_mSeals_tallyOf_b42 k2 v0 v1 v2 h) := by
  unfold f_mSeals_tallyOf_b42
  refine fe_it ?_ ?_
  · exact fe_j Fe.rf (fe_mSeals_tallyOf_b68 hk2 _ _ _ _) (fun x k hx => by simp only [wI_mSeals_tallyOf_b68] at hx; rcases hx with e | e | e | e <;> first | exact Or.inl (e) | exact Or.inr (Or.inl (e)) | exact Or.inr (Or.inr (Or.inl (e))) | exact Or.inr (Or.inr (Or.inr (e)))) (fun x k hx => False.elim hx)
  · refine fe_it ?_ ?_
    · exact fe_j Fe.rf (fe_mSeals_tallyOf_b68 hk2 _ _ _ _) (fun x k hx => by simp only [wI_mSeals_tallyOf_b68] at hx; rcases hx with e | e | e | e <;> first | exact Or.inl (e) | exact Or.inr (Or.inl (e)) | exact Or.inr (Or.inr (Or.inl (e))) | exact Or.inr (Or.inr (Or.inr (e)))) (fun x k hx => False.elim hx)
    · refine fe_it fe_no ?_
      refine fe_it ?_ fe_no
      refine fe_it ?_ fe_no
      refine fe_I Fe.rf (Or.inr (Or.inl (rfl))) (fun h13 F1 => ?_)
      exact fe_j F1 (fe_mSeals_tallyOf_b68 hk2 _ _ _ _) (fun x k hx => by simp only [wI_mSeals_tallyOf_b68, F1.r] at hx; rcases hx with e | e | e | e <;> first | exact Or.inl (e) | exact Or.inr (Or.inl (e)) | exact Or.inr (Or.inr (Or.inl (e))) | exact Or.inr (Or.inr (Or.inr (e)))) (fun x k hx => False.elim hx)
theorem fe_mSeals_tallyOf_b2 {k2 : Nat → Int → Int → Hp → Option (Hp)} (hk2 : ∀ (v0 : Nat) (v1 : Int) (v2 : Int) (h : Hp), Feo (wI_mSeals_tallyOf_b2 v0 v1 v2 h) (wJ_mSeals_tallyOf_b2 v0 v1 v2 h) h id (k2 v0 v1 v2 h)) (v0 : Nat) (v1 : Int) (v2 : Int) (h : Hp) : Feo (wI_mSeals_tallyOf_b2 v0 v1 v2 h) (wJ_mSeals_tallyOf_b2 v0 v1 v2 h) h id (f_mSeals_tallyOf_b2 k2 v0 v1 v2 h) := by
  unfold f_mSeals_tallyOf_b2
  refine fe_it ?_ ?_
  · exact fe_j Fe.rf (fe_mSeals_tallyOf_b76_lp FU _ _ _ _) (fun x k hx => by simp only [wI_mSeals_tallyOf_b76] at hx; rcases hx with e | e | e <;> first | exact Or.inl (e) | exact Or.inr (Or.inr (Or.inl (e))) | exact Or.inr (Or.inr (Or.inr (e)))) (fun x k hx => False.elim hx)
  · refine fe_it fe_no ?_
    refine fe_it ?_ fe_no
    refine fe_it fe_no ?_
    refine fe_it ?_ fe_no
    refine fe_I Fe.rf (Or.inr (Or.inl (rfl))) (fun h5 F1 => ?_)
    refine fe_it ?_ ?_
    · exact fe_j F1 (fe_mSeals_tallyOf_b42 hk2 _ _ _ _) (fun x k hx => by simp only [wI_mSeals_tallyOf_b42, F1.r] at hx; rcases hx with e | e | e | e <;> first | exact Or.inl (e) | exact Or.inr (Or.inl (e)) | exact Or.inr (Or.inr (Or.inl (e))) | exact Or.inr (Or.inr (Or.inr (e)))) (fun x k hx => False.elim hx)
    · refine fe_it fe_no ?_
      refine fe_it ?_ fe_no
      refine fe_it ?_ fe_no
      refine fe_I F1 (Or.inr (Or.inl ((by first | (simp only [F1.r]; exact rfl) | simp only [F1.r])))) (fun h9 F2 => ?_)
      exact fe_j F2 (fe_mSeals_tallyOf_b42 hk2 _ _ _ _) (fun x k hx => by simp only [wI_mSeals_tallyOf_b42, F1.r, F2.r] at hx; rcases hx with e | e | e | e <;> first | exact Or.inl (e) | exact Or.inr (Or.inl (e)) | exact Or.inr (Or.inr (Or.inl (e))) | exact Or.inr (Or.inr (Or.inr (e)))) (fun x k hx => False.elim hx)
theorem fe_mSeals_tallyOf_b2_lp (n : Nat) : ∀ (v0 : Nat) (v1 : Int) (v2 : Int) (h : Hp), Feo (wI_mSeals_tallyOf_b2 v0 v1 v2 h) (wJ_mSeals_tallyOf_b2 v0 v1 v2 h) h id (f_mSeals_tallyOf_b2_lp n v0 v1 v2 h) := by
  induction n with
  | zero => intro v0 v1 v2 h; exact fe_no
  | succ n ih => intro v0 v1 v2 h; exact fe_mSeals_tallyOf_b2 ih v0 v1 v2 h
theorem fe_mSeals_tallyOf (v0 : Nat) (v1 : Int) (h : Hp) : Feo (wI_mSeals_tallyOf v0 v1 h) (wJ_mSeals_tallyOf v0 v1 h) h id (f_mSeals_tallyOf v0 v1 h) := by
  unfold f_mSeals_tallyOf
  exact fe_j Fe.rf (fe_mSeals_tallyOf_b2_lp FU _ _ _ _) (fun x k hx => by simp only [wI_mSeals_tallyOf_b2] at hx; rcases hx with e | e | e | e <;> first | exact Or.inl (e) | exact Or.inr (Or.inl (e)) | exact Or.inr (Or.inr (Or.inl (e))) | exact Or.inr (Or.inr (Or.inr (e)))) (fun x k hx => False.elim hx)
def wI_mSeals_tagOf_b148 (v0 : Nat) (v3 : Int) (v5 : Int) (v6 : Int) (v7 : Int) (s0 : Nat) (s1 : Int) (s2 : Int) (h : Hp) (x k : Nat) : Prop := x = (hR h v0 24) ∨ x = hR h v0 19 ∨ x = hR h v0 20 ∨ x = hR h v0 21 ∨ x = hR h v0 22 ∨ x = hR h v0 23 ∨ x = s0
def wJ_mSeals_tagOf_b148 (v0 : Nat) (v3 : Int) (v5 : Int) (v6 : Int) (v7 : Int) (s0 : Nat) (s1 : Int) (s2 : Int) (h : Hp) (x k : Nat) : Prop := x = hR h v0 17 ∨ x = hR h v0 18
def wI_mSeals_tagOf_b135 (v0 : Nat) (v3 : Int) (v5 : Int) (v6 : Int) (v7 : Int) (s0 : Nat) (s1 : Int) (s2 : Int) (h : Hp) (x k : Nat) : Prop := x = (hR h v0 24) ∨ x = hR h v0 19 ∨ x = hR h v0 20 ∨ x = hR h v0 21 ∨ x = hR h v0 22 ∨ x = hR h v0 23 ∨ x = s0
def wJ_mSeals_tagOf_b135 (v0 : Nat) (v3 : Int) (v5 : Int) (v6 : Int) (v7 : Int) (s0 : Nat) (s1 : Int) (s2 : Int) (h : Hp) (x k : Nat) : Prop := x = hR h v0 17 ∨ x = hR h v0 18
def wI_mSeals_tagOf_b93 (v0 : Nat) (v3 : Int) (v5 : Int) (v6 : Int) (v7 : Int) (h : Hp) (x k : Nat) : Prop := x = (hR h v0 24) ∨ x = hR h v0 19 ∨ x = hR h v0 20 ∨ x = hR h v0 21 ∨ x = hR h v0 22 ∨ x = hR h v0 23
def wJ_mSeals_tagOf_b93 (v0 : Nat) (v3 : Int) (v5 : Int) (v6 : Int) (v7 : Int) (h : Hp) (x k : Nat) : Prop := x = hR h v0 17 ∨ x = hR h v0 18
def wI_mSeals_tagOf_b47 (v0 : Nat) (v1 : Nat) (v2 : Int) (v3 : Int) (v4 : Int) (v5 : Int) (v6 : Int) (h : Hp) (x k : Nat) : Prop := x = (hR h v0 24) ∨ x = hR h v0 19 ∨ x = hR h v0 20 ∨ x = hR h v0 21 ∨ x = hR h v0 22 ∨ x = hR h v0 23 ∨ x = hR h v0 24
def wJ_mSeals_tagOf_b47 (v0 : Nat) (v1 : Nat) (v2 : Int) (v3 : Int) (v4 : Int) (v5 : Int) (v6 : Int) (h : Hp) (x k : Nat) : Prop := x = hR h v0 17 ∨ x = hR h v0 18
def wI_mSeals_tagOf_b6 (v0 : Nat) (v1 : Nat) (v2 : Int) (v3 : Int) (v4 : Int) (v5 : Int) (v6 : Int) (h : Hp) (x k : Nat) : Prop := x = (hR h v0 24) ∨ x = hR h v0 19 ∨ x = hR h v0 20 ∨ x = hR h v0 21 ∨ x = hR h v0 22 ∨ x = hR h v0 23 ∨ x = hR h v0 24
def wJ_mSeals_tagOf_b6 (v0 : Nat) (v1 : Nat) (v2 : Int) (v3 : Int) (v4 : Int) (v5 : Int) (v6 : Int) (h : Hp) (x k : Nat) : Prop := x = hR h v0 17 ∨ x = hR h v0 18
def wI_mSeals_tagOf (v0 : Nat) (v1 : Nat) (v2 : Int) (v3 : Int) (v4 : Int) (h : Hp) (x k : Nat) : Prop := x = (hR h v0 24) ∨ x = hR h v0 19 ∨ x = hR h v0 20 ∨ x = hR h v0 21 ∨ x = hR h v0 22 ∨ x = hR h v0 23 ∨ x = hR h v0 24
def wJ_mSeals_tagOf (v0 : Nat) (v1 : Nat) (v2 : Int) (v3 : Int) (v4 : Int) (h : Hp) (x k : Nat) : Prop := x = hR h v0 17 ∨ x = hR h v0 18
theorem fe_mSeals_tagOf_b148 {k93 : Nat → Int → Int → Int → Int → Hp → Option (Hp)} (hk93 : ∀ (v0 : Nat) (v3 : Int) (v5 : Int) (v6 : Int) (v7 : Int) (h : Hp), Feo (wI_mSeals_tagOf_b93 v0 v3 v5 v6 v7 h) (wJ_mSeals_tagOf_b93 v0 v3 v5 v6 v7 h) h id (k93 v0 v3 v5 v6 v7 h)) (v0 : Nat) (v3 : Int) (v5 : Int) (v6 : Int) (v7 : Int) (s0 : Nat) (s1 : Int) (s2 : Int) (h : Hp) : Feo (wI_mSeals_tagOf_b148 v0 v3 v5 v6 v7 s0 s1 s2 h) (wJ_mSeals_tagOf_b148 v0 v3 v5 v6 v7 s0 s1 s2 h) h id (f_mSeals_tagOf_b148 k93 v0 v3 v5 v6 v7 s0 s1 s2 h) := by
  unfold f_mSeals_tagOf_b148
  refine fe_it fe_no ?_
  refine fe_it ?_ fe_no
  refine fe_I Fe.rf (Or.inr (Or.inr (Or.inr (Or.inr (Or.inr (Or.inr (rfl))))))) (fun h25 F1 => ?_)
  exact fe_j F1 (hk93 _ _ _ _ _ _) (fun x k hx => by simp only [wI_mSeals_tagOf_b93, F1.r] at hx; rcases hx with e | e | e | e | e | e <;> first | exact Or.inl (e) | exact Or.inr (Or.inl (e)) | exact Or.inr (Or.inr (Or.inl (e))) | exact Or.inr (Or.inr (Or.inr (Or.inl (e)))) | exact Or.inr (Or.inr (Or.inr (Or.inr (Or.inl (e))))) | exact Or.inr (Or.inr (Or.inr (Or.inr (Or.inr (Or.inl (e))))))) (fun x k hx => by simp only [wJ_mSeals_tagOf_b93, F1.r] at hx; rcases hx with e | e <;> first | exact Or.inl (e) | exact Or.inr (e))
theorem fe_mSeals_tagOf_b135 {k93 : Nat → Int → Int → Int → Int → Hp → Option (Hp)} (hk93 : ∀ (v0 : Nat) (v3 : Int) (v5 : Int) (v6 : Int) (v7 : Int) (h : Hp), Feo (wI_mSeals_tagOf_b93 v0 v3 v5 v6 v7 h) (wJ_mSeals_tagOf_b93 v0 v3 v5 v6 v7 h) h id (k93 v0 v3 v5 v6 v7 h)) (v0 : Nat) (v3 : Int) (v5 : Int) (v6 : Int) (v7 : Int) (s0 : Nat) (s1 : Int) (s2 : Int) (h : Hp) : Feo (wI_mSeals_tagOf_b135 v0 v3 v5 v6 v7 s0 s1 s2 h) (wJ_mSeals_tagOf_b135 v0 v3 v5 v6 v7 s0 s1 s2 h) h id (f_mSeals_tagOf_b135 k93 v0 v3 v5 v6 v7 s0 s1 s2 h) := by
  unfold f_mSeals_tagOf_b135
  exact fe_j Fe.rf (fe_mSeals_tagOf_b148 hk93 _ _ _ _ _ _ _ _ _) (fun x k hx => by simp only [wI_mSeals_tagOf_b148] at hx; rcases hx with e | e | e | e | e | e | e <;> first | exact Or.inl (e) | exact Or.inr (Or.inl (e)) | exact Or.inr (Or.inr (Or.inl (e))) | exact Or.inr (Or.inr (Or.inr (Or.inl (e)))) | exact Or.inr (Or.inr (Or.inr (Or.inr (Or.inl (e))))) | exact Or.inr (Or.inr (Or.inr (Or.inr (Or.inr (Or.inl (e)))))) | exact Or.inr (Or.inr (Or.inr (Or.inr (Or.inr (Or.inr (e))))))) (fun x k hx => by simp only [wJ_mSeals_tagOf_b148] at hx; rcases hx with e | e <;> first | exact Or.inl (e) | exact Or.inr (e))
theorem fe_mSeals_tagOf_b93 {k93 : Nat → Int → Int → Int → Int → Hp → Option (Hp)} (hk93 : ∀ (v0 : Nat) (v3 : Int) (v5 : Int) (v6 : Int) (v7 : Int) (h : Hp), Feo (wI_mSeals_tagOf_b93 v0 v3 v5 v6 v7 h) (wJ_mSeals_tagOf_b93 v0 v3 v5 v6 v7 h) h id (k93 v0 v3 v5 v6 v7 h)) (v0 : Nat) (v3 : Int) (v5 : Int) (v6 : Int) (v7 : Int) (h : Hp) : Feo (wI_mSeals_tagOf_b93 v0 v3 v5 v6 v7 h) (wJ_mSeals_tagOf_b93 v0 v3 v5 v6 v7 h) h id (f_mSeals_tagOf_b93 k93 v0 v3 v5 v6 v7 h) := by
  unfold f_mSeals_tagOf_b93
  refine fe_it ?_ ?_
  · refine fe_b1 Fe.rf (fe_mSeals_blockOf _ _ _) (fun x k hx => by simp only [wI_mSeals_blockOf] at hx; have e := hx; exact Or.inr (Or.inl (e))) (fun x k hx => by simp only [wJ_mSeals_blockOf] at hx; rcases hx with e | e <;> first | exact Or.inl (e) | exact Or.inr (e)) (fun h19 F1 => ?_)
    refine fe_b1 F1 (fe_mSeals_tallyOf _ _ _) (fun x k hx => by simp only [wI_mSeals_tallyOf, F1.r] at hx; rcases hx with e | e | e | e <;> first | exact Or.inr (Or.inr (Or.inl (e))) | exact Or.inr (Or.inr (Or.inr (Or.inl (e)))) | exact Or.inr (Or.inr (Or.inr (Or.inr (Or.inl (e))))) | exact Or.inr (Or.inr (Or.inr (Or.inr (Or.inr (e)))))) (fun x k hx => False.elim hx) (fun h21 F2 => ?_)
    exact fe_so F2
  · refine fe_it ?_ ?_
    · refine fe_it ?_ ?_
      · exact fe_j Fe.rf (fe_mSeals_tagOf_b135 hk93 _ _ _ _ _ _ _ _ _) (fun x k hx => by simp only [wI_mSeals_tagOf_b135] at hx; rcases hx with e | e | e | e | e | e | e <;> first | exact Or.inl (e) | exact Or.inr (Or.inl (e)) | exact Or.inr (Or.inr (Or.inl (e))) | exact Or.inr (Or.inr (Or.inr (Or.inl (e)))) | exact Or.inr (Or.inr (Or.inr (Or.inr (Or.inl (e))))) | exact Or.inr (Or.inr (Or.inr (Or.inr (Or.inr (e)))))) (fun x k hx => by simp only [wJ_mSeals_tagOf_b135] at hx; rcases hx with e | e <;> first | exact Or.inl (e) | exact Or.inr (e))
      · exact fe_j Fe.rf (fe_mSeals_tagOf_b135 hk93 _ _ _ _ _ _ _ _ _) (fun x k hx => by simp only [wI_mSeals_tagOf_b135] at hx; rcases hx with e | e | e | e | e | e | e <;> first | exact Or.inl (e) | exact Or.inr (Or.inl (e)) | exact Or.inr (Or.inr (Or.inl (e))) | exact Or.inr (Or.inr (Or.inr (Or.inl (e)))) | exact Or.inr (Or.inr (Or.inr (Or.inr (Or.inl (e))))) | exact Or.inr (Or.inr (Or.inr (Or.inr (Or.inr (e)))))) (fun x k hx => by simp only [wJ_mSeals_tagOf_b135] at hx; rcases hx with e | e <;> first | exact Or.inl (e) | exact Or.inr (e))
    · exact fe_j Fe.rf (fe_mSeals_tagOf_b148 hk93 _ _ _ _ _ _ _ _ _) (fun x k hx => by simp only [wI_mSeals_tagOf_b148] at hx; rcases hx with e | e | e | e | e | e | e <;> first | exact Or.inl (e) | exact Or.inr (Or.inl (e)) | exact Or.inr (Or.inr (Or.inl (e))) | exact Or.inr (Or.inr (Or.inr (Or.inl (e)))) | exact Or.inr (Or.inr (Or.inr (Or.inr (Or.inl (e))))) | exact Or.inr (Or.inr (Or.inr (Or.inr (Or.inr (e)))))) (fun x k hx => by simp only [wJ_mSeals_tagOf_b148] at hx; rcases hx with e | e <;> first | exact Or.inl (e) | exact Or.inr (e))
theorem fe_mSeals_tagOf_b93_lp (n : Nat) : ∀ (v0 : Nat) (v3 : Int) (v5 : Int) (v6 : Int) (v7 : Int) (h : Hp), Feo (wI_mSeals_tagOf_b93 v0 v3 v5 v6 v7 h) (wJ_mSeals_tagOf_b93 v0 v3 v5 v6 v7 h) h id (f_mSeals_tagOf_b93_lp n v0 v3 v5 v6 v7 h) := by
  induction n with
  | zero => intro v0 v3 v5 v6 v7 h; exact fe_no
  | succ n ih => intro v0 v3 v5 v6 v7 h; exact fe_mSeals_tagOf_b93 ih v0 v3 v5 v6 v7 h
theorem fe_mSeals_tagOf_b47 {k47 : Nat → Nat → Int → Int → Int → Int → Int → Hp → Option (Hp)} (hk47 : ∀ (v0 : Nat) (v1 : Nat) (v2 : Int) (v3 : Int) (v4 : Int) (v5 : Int) (v6 : Int) (h : Hp), Feo (wI_mSeals_tagOf_b47 v0 v1 v2 v3 v4 v5 v6 h) (wJ_mSeals_tagOf_b47 v0 v1 v2 v3 v4 v5 v6 h) h id (k47 v0 v1 v2 v3 v4 v5 v6 h)) (v0 : Nat) (v1 : Nat) (v2 : Int) (v3 : Int) (v4 : Int) (v5 : Int) (v6 : Int) (h : Hp) : Feo (wI_mSeals_tagOf_b47 v0 v1 v2 v3 v4 v5 v6 h) (wJ_mSeals_tagOf_b47 v0 v1 v2 v3 v4 v5 v6 h) h id (f_mSeals_tagOf_b47 k47 v0 v1 v2 v3 v4 v5 v6 h) := by
  unfold f_mSeals_tagOf_b47
  refine fe_it ?_ ?_
  · refine fe_b2 Fe.rf (fe_mSeals_fill _ _ _) (fun x k hx => by simp only [wI_mSeals_fill] at hx; have e := hx; exact Or.inr (Or.inr (Or.inr (Or.inr (Or.inr (Or.inr (e))))))) (fun x k hx => False.elim hx) (fun r12 h10 F1 => ?_)
    refine fe_v (fun y13 => ?_)
    exact fe_j F1 (fe_mSeals_tagOf_b93_lp FU _ _ _ _ _ _) (fun x k hx => by simp only [wI_mSeals_tagOf_b93, F1.r] at hx; rcases hx with e | e | e | e | e | e <;> first | exact Or.inl (e) | exact Or.inr (Or.inl (e)) | exact Or.inr (Or.inr (Or.inl (e))) | exact Or.inr (Or.inr (Or.inr (Or.inl (e)))) | exact Or.inr (Or.inr (Or.inr (Or.inr (Or.inl (e))))) | exact Or.inr (Or.inr (Or.inr (Or.inr (Or.inr (Or.inl (e))))))) (fun x k hx => by simp only [wJ_mSeals_tagOf_b93, F1.r] at hx; rcases hx with e | e <;> first | exact Or.inl (e) | exact Or.inr (e))
  · refine fe_it fe_no ?_
    refine fe_it ?_ fe_no
    refine fe_it fe_no ?_
    refine fe_it ?_ fe_no
    refine fe_I Fe.rf (Or.inr (Or.inr (Or.inr (Or.inr (Or.inr (Or.inr (rfl))))))) (fun h18 F2 => ?_)
    exact fe_j F2 (hk47 _ _ _ _ _ _ _ _) (fun x k hx => by simp only [wI_mSeals_tagOf_b47, F2.r] at hx; rcases hx with e | e | e | e | e | e | e <;> first | exact Or.inl (e) | exact Or.inr (Or.inl (e)) | exact Or.inr (Or.inr (Or.inl (e))) | exact Or.inr (Or.inr (Or.inr (Or.inl (e)))) | exact Or.inr (Or.inr (Or.inr (Or.inr (Or.inl (e))))) | exact Or.inr (Or.inr (Or.inr (Or.inr (Or.inr (Or.inl (e)))))) | exact Or.inr (Or.inr (Or.inr (Or.inr (Or.inr (Or.inr (e))))))) (fun x k hx => by simp only [wJ_mSeals_tagOf_b47, F2.r] at hx; rcases hx with e | e <;> first | exact Or.inl (e) | exact Or.inr (e))
theorem fe_mSeals_tagOf_b47_lp (n : Nat) : ∀ (v0 : Nat) (v1 : Nat) (v2 : Int) (v3 : Int) (v4 : Int) (v5 : Int) (v6 : Int) (h : Hp), Feo (wI_mSeals_tagOf_b47 v0 v1 v2 v3 v4 v5 v6 h) (wJ_mSeals_tagOf_b47 v0 v1 v2 v3 v4 v5 v6 h) h id (f_mSeals_tagOf_b47_lp n v0 v1 v2 v3 v4 v5 v6 h) := by
  induction n with
  | zero => intro v0 v1 v2 v3 v4 v5 v6 h; exact fe_no
  | succ n ih => intro v0 v1 v2 v3 v4 v5 v6 h; exact fe_mSeals_tagOf_b47 ih v0 v1 v2 v3 v4 v5 v6 h
theorem fe_mSeals_tagOf_b6 {k6 : Nat → Nat → Int → Int → Int → Int → Int → Hp → Option (Hp)} (hk6 : ∀ (v0 : Nat) (v1 : Nat) (v2 : Int) (v3 : Int) (v4 : Int) (v5 : Int) (v6 : Int) (h : Hp), Feo (wI_mSeals_tagOf_b6 v0 v1 v2 v3 v4 v5 v6 h) (wJ_mSeals_tagOf_b6 v0 v1 v2 v3 v4 v5 v6 h) h id (k6 v0 v1 v2 v3 v4 v5 v6 h)) (v0 : Nat) (v1 : Nat) (v2 : Int) (v3 : Int) (v4 : Int) (v5 : Int) (v6 : Int) (h : Hp) : Feo (wI_mSeals_tagOf_b6 v0 v1 v2 v3 v4 v5 v6 h) (wJ_mSeals_tagOf_b6 v0 v1 v2 v3 v4 v5 v6 h) h id (f_mSeals_tagOf_b6 k6 v0 v1 v2 v3 v4 v5 v6 h) := by
  unfold f_mSeals_tagOf_b6
  refine fe_it ?_ ?_
  · refine fe_b2 Fe.rf (fe_mSeals_fill _ _ _) (fun x k hx => by simp only [wI_mSeals_fill] at hx; have e := hx; exact Or.inr (Or.inr (Or.inr (Or.inr (Or.inr (Or.inr (e))))))) (fun x k hx => False.elim hx) (fun r3 h1 F1 => ?_)
    refine fe_v (fun y4 => ?_)
    exact fe_j F1 (fe_mSeals_tagOf_b47_lp FU _ _ _ _ _ _ _ _) (fun x k hx => by simp only [wI_mSeals_tagOf_b47, F1.r] at hx; rcases hx with e | e | e | e | e | e | e <;> first | exact Or.inl (e) | exact Or.inr (Or.inl (e)) | exact Or.inr (Or.inr (Or.inl (e))) | exact Or.inr (Or.inr (Or.inr (Or.inl (e)))) | exact Or.inr (Or.inr (Or.inr (Or.inr (Or.inl (e))))) | exact Or.inr (Or.inr (Or.inr (Or.inr (Or.inr (Or.inl (e)))))) | exact Or.inr (Or.inr (Or.inr (Or.inr (Or.inr (Or.inr (e))))))) (fun x k hx => by simp only [wJ_mSeals_tagOf_b47, F1.r] at hx; rcases hx with e | e <;> first | exact Or.inl (e) | exact Or.inr (e))
  · refine fe_it fe_no ?_
    refine fe_it ?_ fe_no
    refine fe_it fe_no ?_
    refine fe_it ?_ fe_no
    refine fe_I Fe.rf (Or.inr (Or.inr (Or.inr (Or.inr (Or.inr (Or.inr (rfl))))))) (fun h9 F2 => ?_)
    exact fe_j F2 (hk6 _ _ _ _ _ _ _ _) (fun x k hx => by simp only [wI_mSeals_tagOf_b6, F2.r] at hx; rcases hx with e | e | e | e | e | e | e <;> first | exact Or.inl (e) | exact Or.inr (Or.inl (e)) | exact Or.inr (Or.inr (Or.inl (e))) | exact Or.inr (Or.inr (Or.inr (Or.inl (e)))) | exact Or.inr (Or.inr (Or.inr (Or.inr (Or.inl (e))))) | exact Or.inr (Or.inr (Or.inr (Or.inr (Or.inr (Or.inl (e)))))) | exact Or.inr (Or.inr (Or.inr (Or.inr (Or.inr (Or.inr (e))))))) (fun x k hx => by simp only [wJ_mSeals_tagOf_b6, F2.r] at hx; rcases hx with e | e <;> first | exact Or.inl (e) | exact Or.inr (e))
theorem fe_mSeals_tagOf_b6_lp (n : Nat) : ∀ (v0 : Nat) (v1 : Nat) (v2 : Int) (v3 : Int) (v4 : Int) (v5 : Int) (v6 : Int) (h : Hp), Feo (wI_mSeals_tagOf_b6 v0 v1 v2 v3 v4 v5 v6 h) (wJ_mSeals_tagOf_b6 v0 v1 v2 v3 v4 v5 v6 h) h id (f_mSeals_tagOf_b6_lp n v0 v1 v2 v3 v4 v5 v6 h) := by
  induction n with
  | zero => intro v0 v1 v2 v3 v4 v5 v6 h; exact fe_no
  | succ n ih => intro v0 v1 v2 v3 v4 v5 v6 h; exact fe_mSeals_tagOf_b6 ih v0 v1 v2 v3 v4 v5 v6 h
theorem fe_mSeals_tagOf (v0 : Nat) (v1 : Nat) (v2 : Int) (v3 : Int) (v4 : Int) (h : Hp) : Feo (wI_mSeals_tagOf v0 v1 v2 v3 v4 h) (wJ_mSeals_tagOf v0 v1 v2 v3 v4 h) h id (f_mSeals_tagOf v0 v1 v2 v3 v4 h) := by
  unfold f_mSeals_tagOf
  exact fe_j Fe.rf (fe_mSeals_tagOf_b6_lp FU _ _ _ _ _ _ _ _) (fun x k hx => by simp only [wI_mSeals_tagOf_b6] at hx; rcases hx with e | e | e | e | e | e | e <;> first | exact Or.inl (e) | exact Or.inr (Or.inl (e)) | exact Or.inr (Or.inr (Or.inl (e))) | exact Or.inr (Or.inr (Or.inr (Or.inl (e)))) | exact Or.inr (Or.inr (Or.inr (Or.inr (Or.inl (e))))) | exact Or.inr (Or.inr (Or.inr (Or.inr (Or.inr (Or.inl (e)))))) | exact Or.inr (Or.inr (Or.inr (Or.inr (Or.inr (Or.inr (e))))))) (fun x k hx => by simp only [wJ_mSeals_tagOf_b6] at hx; rcases hx with e | e <;> first | exact Or.inl (e) | exact Or.inr (e))
def wI_mSeals_change_b33 (v0 : Nat) (v1 : Nat) (v2 : Int) (v3 : Int) (v4 : Int) (h : Hp) (x k : Nat) : Prop := x = hR h v0 19 ∨ x = v1
def wJ_mSeals_change_b33 (v0 : Nat) (v1 : Nat) (v2 : Int) (v3 : Int) (v4 : Int) (h : Hp) (x k : Nat) : Prop := x = hR h v0 17 ∨ x = hR h v0 18
def wI_mSeals_change_b3 (v0 : Nat) (v1 : Nat) (v2 : Int) (v3 : Int) (v4 : Int) (h : Hp) (x k : Nat) : Prop := x = hR h v0 19 ∨ x = v1
def wJ_mSeals_change_b3 (v0 : Nat) (v1 : Nat) (v2 : Int) (v3 : Int) (v4 : Int) (h : Hp) (x k : Nat) : Prop := x = hR h v0 17 ∨ x = hR h v0 18
def wI_mSeals_change (v0 : Nat) (v1 : Nat) (v2 : Int) (v3 : Int) (h : Hp) (x k : Nat) : Prop := x = hR h v0 19 ∨ x = v1
def wJ_mSeals_change (v0 : Nat) (v1 : Nat) (v2 : Int) (v3 : Int) (h : Hp) (x k : Nat) : Prop := x = hR h v0 17 ∨ x = hR h v0 18
theorem fe_mSeals_change_b33 {k3 : Nat → Nat → Int → Int → Int → Hp → Option (Hp)} (hk3 : ∀ (v0 : Nat) (v1 : Nat) (v2 : Int) (v3 : Int) (v4 : Int) (h : Hp), Feo (wI_mSeals_change_b3 v0 v1 v2 v3 v4 h) (wJ_mSeals_change_b3 v0 v1 v2 v3 v4 h) h id (k3 v0 v1 v2 v3 v4 h)) (v0 : Nat) (v1 : Nat) (v2 : Int) (v3 : Int) (v4 : Int) (h : Hp) : Feo (wI_mSeals_change_b33 v0 v1 v2 v3 v4 h) (wJ_mSeals_change_b33 v0 v1 v2 v3 v4 h) h id (f_mSeals_change_b33 k3 v0 v1 v2 v3 v4 h) := by
  unfold f_mSeals_change_b33
  refine fe_it fe_no ?_
  refine fe_it ?_ fe_no
  refine fe_it fe_no ?_
  refine fe_it ?_ fe_no
  refine fe_it ?_ fe_no
  refine fe_I Fe.rf (Or.inr (rfl)) (fun h8 F1 => ?_)
  exact fe_j F1 (hk3 _ _ _ _ _ _) (fun x k hx => by simp only [wI_mSeals_change_b3, F1.r] at hx; rcases hx with e | e <;> first | exact Or.inl (e) | exact Or.inr (e)) (fun x k hx => by simp only [wJ_mSeals_change_b3, F1.r] at hx; rcases hx with e | e <;> first | exact Or.inl (e) | exact Or.inr (e))
theorem fe_mSeals_change_b3 {k3 : Nat → Nat → Int → Int → Int → Hp → Option (Hp)} (hk3 : ∀ (v0 : Nat) (v1 : Nat) (v2 : Int) (v3 : Int) (v4 : Int) (h : Hp), Feo (wI_mSeals_change_b3 v0 v1 v2 v3 v4 h) (wJ_mSeals_change_b3 v0 v1 v2 v3 v4 h) h id (k3 v0 v1 v2 v3 v4 h)) (v0 : Nat) (v1 : Nat) (v2 : Int) (v3 : Int) (v4 : Int) (h : Hp) : Feo (wI_mSeals_change_b3 v0 v1 v2 v3 v4 h) (wJ_mSeals_change_b3 v0 v1 v2 v3 v4 h) h id (f_mSeals_change_b3 k3 v0 v1 v2 v3 v4 h) := by
  unfold f_mSeals_change_b3
  refine fe_it ?_ ?_
  · exact fe_so Fe.rf
  · refine fe_it ?_ ?_
    · exact fe_j Fe.rf (fe_mSeals_change_b33 hk3 _ _ _ _ _ _) (fun x k hx => by simp only [wI_mSeals_change_b33] at hx; rcases hx with e | e <;> first | exact Or.inl (e) | exact Or.inr (e)) (fun x k hx => by simp only [wJ_mSeals_change_b33] at hx; rcases hx with e | e <;> first | exact Or.inl (e) | exact Or.inr (e))
    · refine fe_b1 Fe.rf (fe_mSeals_blockOf _ _ _) (fun x k hx => by simp only [wI_mSeals_blockOf] at hx; have e := hx; exact Or.inl (e)) (fun x k hx => by simp only [wJ_mSeals_blockOf] at hx; rcases hx with e | e <;> first | exact Or.inl (e) | exact Or.inr (e)) (fun h1 F1 => ?_)
      exact fe_j F1 (fe_mSeals_change_b33 hk3 _ _ _ _ _ _) (fun x k hx => by simp only [wI_mSeals_change_b33, F1.r] at hx; rcases hx with e | e <;> first | exact Or.inl (e) | exact Or.inr (e)) (fun x k hx => by simp only [wJ_mSeals_change_b33, F1.r] at hx; rcases hx with e | e <;> first | exact Or.inl (e) | exact Or.inr (e))
theorem fe_mSeals_change_b3_lp (n : Nat) : ∀ (v0 : Nat) (v1 : Nat) (v2 : Int) (v3 : Int) (v4 : Int) (h : Hp), Feo (wI_mSeals_change_b3 v0 v1 v2 v3 v4 h) (wJ_mSeals_change_b3 v0 v1 v2 v3 v4 h) h id (f_mSeals_change_b3_lp n v0 v1 v2 v3 v4 h) := by
  induction n with
  | zero => intro v0 v1 v2 v3 v4 h; exact fe_no
  | succ n ih => intro v0 v1 v2 v3 v4 h; exact fe_mSeals_change_b3 ih v0 v1 v2 v3 v4 h
theorem fe_mSeals_change (v0 : Nat) (v1 : Nat) (v2 : Int) (v3 : Int) (h : Hp) : Feo (wI_mSeals_change v0 v1 v2 v3 h) (wJ_mSeals_change v0 v1 v2 v3 h) h id (f_mSeals_change v0 v1 v2 v3 h) := by
  unfold f_mSeals_change
  exact fe_j Fe.rf (fe_mSeals_change_b3_lp FU _ _ _ _ _ _) (fun x k hx => by simp only [wI_mSeals_change_b3] at hx; rcases hx with e | e <;> first | exact Or.inl (e) | exact Or.inr (e)) (fun x k hx => by simp only [wJ_mSeals_change_b3] at hx; rcases hx with e | e <;> first | exact Or.inl (e) | exact Or.inr (e))
def wI_mSeals_open_b25 (v0 : Nat) (v5 : Nat) (v6 : Int) (v7 : Int) (v8 : Int) (v9 : Int) (h : Hp) (x k : Nat) : Prop := x = hR h v0 19 ∨ x = v5
def wJ_mSeals_open_b25 (v0 : Nat) (v5 : Nat) (v6 : Int) (v7 : Int) (v8 : Int) (v9 : Int) (h : Hp) (x k : Nat) : Prop := x = hR h v0 17 ∨ x = hR h v0 18
def wI_mSeals_open (v0 : Nat) (v1 : Nat) (v2 : Int) (v3 : Int) (v5 : Nat) (v6 : Int) (v7 : Int) (v8 : Int) (h : Hp) (x k : Nat) : Prop := x = (hR h v0 16) ∨ x = (hR h v0 24) ∨ x = hR h v0 15 ∨ x = hR h v0 19 ∨ x = hR h v0 20 ∨ x = hR h v0 21 ∨ x = hR h v0 22 ∨ x = hR h v0 23 ∨ x = hR h v0 24 ∨ x = v5
def wJ_mSeals_open (v0 : Nat) (v1 : Nat) (v2 : Int) (v3 : Int) (v5 : Nat) (v6 : Int) (v7 : Int) (v8 : Int) (h : Hp) (x k : Nat) : Prop := x = hR h v0 17 ∨ x = hR h v0 18
theorem fe_mSeals_open_b25 {k25 : Nat → Nat → Int → Int → Int → Int → Hp → Option (Int × Hp)} (hk25 : ∀ (v0 : Nat) (v5 : Nat) (v6 : Int) (v7 : Int) (v8 : Int) (v9 : Int) (h : Hp), Feo (wI_mSeals_open_b25 v0 v5 v6 v7 v8 v9 h) (wJ_mSeals_open_b25 v0 v5 v6 v7 v8 v9 h) h Prod.snd (k25 v0 v5 v6 v7 v8 v9 h)) (v0 : Nat) (v5 : Nat) (v6 : Int) (v7 : Int) (v8 : Int) (v9 : Int) (h : Hp) : Feo (wI_mSeals_open_b25 v0 v5 v6 v7 v8 v9 h) (wJ_mSeals_open_b25 v0 v5 v6 v7 v8 v9 h) h Prod.snd (f_mSeals_open_b25 k25 v0 v5 v6 v7 v8 v9 h) := by
  unfold f_mSeals_open_b25
  refine fe_it ?_ ?_
  · refine fe_b1 Fe.rf (fe_mSeals_change _ _ _ _ _) (fun x k hx => by simp only [wI_mSeals_change] at hx; rcases hx with e | e <;> first | exact Or.inl (e) | exact Or.inr (e)) (fun x k hx => by simp only [wJ_mSeals_change] at hx; rcases hx with e | e <;> first | exact Or.inl (e) | exact Or.inr (e)) (fun h5 F1 => ?_)
    exact fe_so F1
  · refine fe_it fe_no ?_
    refine fe_it ?_ fe_no
    refine fe_it fe_no ?_
    refine fe_it ?_ fe_no
    refine fe_it ?_ ?_
    · exact fe_j Fe.rf (hk25 _ _ _ _ _ _ _) (fun x k hx => by simp only [wI_mSeals_open_b25] at hx; rcases hx with e | e <;> first | exact Or.inl (e) | exact Or.inr (e)) (fun x k hx => by simp only [wJ_mSeals_open_b25] at hx; rcases hx with e | e <;> first | exact Or.inl (e) | exact Or.inr (e))
    · exact fe_so Fe.rf
theorem fe_mSeals_open_b25_lp (n : Nat) : ∀ (v0 : Nat) (v5 : Nat) (v6 : Int) (v7 : Int) (v8 : Int) (v9 : Int) (h : Hp), Feo (wI_mSeals_open_b25 v0 v5 v6 v7 v8 v9 h) (wJ_mSeals_open_b25 v0 v5 v6 v7 v8 v9 h) h Prod.snd (f_mSeals_open_b25_lp n v0 v5 v6 v7 v8 v9 h) := by
  induction n with
  | zero => intro v0 v5 v6 v7 v8 v9 h; exact fe_no
  | succ n ih => intro v0 v5 v6 v7 v8 v9 h; exact fe_mSeals_open_b25 ih v0 v5 v6 v7 v8 v9 h
theorem fe_mSeals_open (v0 : Nat) (v1 : Nat) (v2 : Int) (v3 : Int) (v5 : Nat) (v6 : Int) (v7 : Int) (v8 : Int) (h : Hp) : Feo (wI_mSeals_open v0 v1 v2 v3 v5 v6 v7 v8 h) (wJ_mSeals_open v0 v1 v2 v3 v5 v6 v7 v8 h) h Prod.snd (f_mSeals_open v0 v1 v2 v3 v5 v6 v7 v8 h) := by
  unfold f_mSeals_open
  refine fe_b1 Fe.rf (fe_mSeals_nonceOf _ _ _ _ _) (fun x k hx => by simp only [wI_mSeals_nonceOf] at hx; rcases hx with e | e <;> first | exact Or.inl (e) | exact Or.inr (Or.inr (Or.inl (e)))) (fun x k hx => False.elim hx) (fun h1 F1 => ?_)
  refine fe_b1 F1 (fe_mSeals_tagOf _ _ _ _ _ _) (fun x k hx => by simp only [wI_mSeals_tagOf, F1.r] at hx; rcases hx with e | e | e | e | e | e | e <;> first | exact Or.inr (Or.inl (e)) | exact Or.inr (Or.inr (Or.inr (Or.inl (e)))) | exact Or.inr (Or.inr (Or.inr (Or.inr (Or.inl (e))))) | exact Or.inr (Or.inr (Or.inr (Or.inr (Or.inr (Or.inl (e)))))) | exact Or.inr (Or.inr (Or.inr (Or.inr (Or.inr (Or.inr (Or.inl (e))))))) | exact Or.inr (Or.inr (Or.inr (Or.inr (Or.inr (Or.inr (Or.inr (Or.inl (e)))))))) | exact Or.inr (Or.inr (Or.inr (Or.inr (Or.inr (Or.inr (Or.inr (Or.inr (Or.inl (e)))))))))) (fun x k hx => by simp only [wJ_mSeals_tagOf, F1.r] at hx; rcases hx with e | e <;> first | exact Or.inl (e) | exact Or.inr (e)) (fun h3 F2 => ?_)
  exact fe_j F2 (fe_mSeals_open_b25_lp FU _ _ _ _ _ _ _) (fun x k hx => by simp only [wI_mSeals_open_b25, F1.r, F2.r] at hx; rcases hx with e | e <;> first | exact Or.inr (Or.inr (Or.inr (Or.inl (e)))) | exact Or.inr (Or.inr (Or.inr (Or.inr (Or.inr (Or.inr (Or.inr (Or.inr (Or.inr (e)))))))))) (fun x k hx => by simp only [wJ_mSeals_open_b25, F1.r, F2.r] at hx; rcases hx with e | e <;> first | exact Or.inl (e) | exact Or.inr (e))
def wI_mSide_tries_b120 (v0 : Nat) (v2 : Nat) (v3 : Int) (v4 : Int) (v5 : Int) (v7 : Int) (h : Hp) (x k : Nat) : Prop := x = (hR h (hR h v0 1) 16) ∨ x = (hR h (hR h v0 1) 24) ∨ x = (hR h v0 46) ∨ x = hR h (hR h v0 1) 15 ∨ x = hR h (hR h v0 1) 19 ∨ x = hR h (hR h v0 1) 20 ∨ x = hR h (hR h v0 1) 21 ∨ x = hR h (hR h v0 1) 22 ∨ x = hR h (hR h v0 1) 23 ∨ x = hR h (hR h v0 1) 24
def wJ_mSide_tries_b120 (v0 : Nat) (v2 : Nat) (v3 : Int) (v4 : Int) (v5 : Int) (v7 : Int) (h : Hp) (x k : Nat) : Prop := x = hR h (hR h v0 1) 17 ∨ x = hR h (hR h v0 1) 18
def wI_mSide_tries_b58 (v0 : Nat) (v1 : Nat) (v2 : Nat) (v3 : Int) (h : Hp) (x k : Nat) : Prop := x = (hR h (hR h v0 1) 16) ∨ x = (hR h (hR h v0 1) 24) ∨ x = (hR h v0 46) ∨ x = hR h (hR h v0 1) 15 ∨ x = hR h (hR h v0 1) 16 ∨ x = hR h (hR h v0 1) 19 ∨ x = hR h (hR h v0 1) 20 ∨ x = hR h (hR h v0 1) 21 ∨ x = hR h (hR h v0 1) 22 ∨ x = hR h (hR h v0 1) 23 ∨ x = hR h (hR h v0 1) 24 ∨ x = hR h v0 46
def wJ_mSide_tries_b58 (v0 : Nat) (v1 : Nat) (v2 : Nat) (v3 : Int) (h : Hp) (x k : Nat) : Prop := x = hR h (hR h v0 1) 17 ∨ x = hR h (hR h v0 1) 18
def wI_mSide_tries (v0 : Nat) (v1 : Nat) (v2 : Nat) (h : Hp) (x k : Nat) : Prop := x = (hR h (hR h (hR h v0 3) 1) 9) ∨ x = (hR h (hR h v0 1) 16) ∨ x = (hR h (hR h v0 1) 24) ∨ x = (hR h (hR h v0 1) 9) ∨ (x = (hR h (hR h v0 3) 1) ∧ k = 11) ∨ (x = (hR h (hR h v0 3) 1) ∧ k = 13) ∨ x = (hR h (hR h v0 3) 22) ∨ (x = (hR h v0 1) ∧ k = 11) ∨ (x = (hR h v0 1) ∧ k = 13) ∨ x = (hR h v0 18) ∨ x = (hR h v0 20) ∨ x = (hR h v0 46) ∨ x = hR h (hR h (hR h v0 3) 1) 10 ∨ x = hR h (hR h (hR h v0 3) 1) 12 ∨ x = hR h (hR h (hR h v0 3) 1) 14 ∨ x = hR h (hR h (hR h v0 3) 1) 4 ∨ x = hR h (hR h (hR h v0 3) 1) 8 ∨ x = hR h (hR h v0 1) 10 ∨ x = hR h (hR h v0 1) 12 ∨ x = hR h (hR h v0 1) 14 ∨ x = hR h (hR h v0 1) 15 ∨ x = hR h (hR h v0 1) 16 ∨ x = hR h (hR h v0 1) 19 ∨ x = hR h (hR h v0 1) 20 ∨ x = hR h (hR h v0 1) 21 ∨ x = hR h (hR h v0 1) 22 ∨ x = hR h (hR h v0 1) 23 ∨ x = hR h (hR h v0 1) 24 ∨ x = hR h (hR h v0 1) 4 ∨ x = hR h (hR h v0 1) 8 ∨ x = hR h (hR h v0 3) 21 ∨ x = hR h v0 46
def wJ_mSide_tries (v0 : Nat) (v1 : Nat) (v2 : Nat) (h : Hp) (x k : Nat) : Prop := x = hR h (hR h (hR h v0 3) 1) 5 ∨ x = hR h (hR h (hR h v0 3) 1) 6 ∨ x = hR h (hR h (hR h v0 3) 1) 7 ∨ x = hR h (hR h v0 1) 17 ∨ x = hR h (hR h v0 1) 18 ∨ x = hR h (hR h v0 1) 5 ∨ x = hR h (hR h v0 1) 6 ∨ x = hR h (hR h v0 1) 7
theorem fe_mSide_tries_b120 {k120 : Nat → Nat → Int → Int → Int → Int → Hp → Option (Int × Hp)} (hk120 : ∀ (v0 : Nat) (v2 : Nat) (v3 : Int) (v4 : Int) (v5 : Int) (v7 : Int) (h : Hp), Feo (wI_mSide_tries_b120 v0 v2 v3 v4 v5 v7 h) (wJ_mSide_tries_b120 v0 v2 v3 v4 v5 v7 h) h Prod.snd (k120 v0 v2 v3 v4 v5 v7 h)) (v0 : Nat) (v2 : Nat) (v3 : Int) (v4 : Int) (v5 : Int) (v7 : Int) (h : Hp) : Feo (wI_mSide_tries_b120 v0 v2 v3 v4 v5 v7 h) (wJ_mSide_tries_b120 v0 v2 v3 v4 v5 v7 h) h Prod.snd (f_mSide_tries_b120 k120 v0 v2 v3 v4 v5 v7 h) := by
  unfold f_mSide_tries_b120
  refine fe_it ?_ ?_
  · refine fe_b2 Fe.rf (fe_mSide_grown _ _ _ _) (fun x k hx => False.elim hx) (fun x k hx => False.elim hx) (fun r31 h29 F1 => ?_)
    refine fe_it fe_no ?_
    refine fe_it ?_ fe_no
    refine fe_it ?_ fe_no
    refine fe_it fe_no ?_
    refine fe_b2 F1 (fe_mSeals_open _ _ _ _ _ _ _ _ _) (fun x k hx => by simp only [wI_mSeals_open, F1.r] at hx; rcases hx with e | e | e | e | e | e | e | e | e | e <;> first | exact Or.inl (e) | exact Or.inr (Or.inl (e)) | exact Or.inr (Or.inr (Or.inl (e))) | exact Or.inr (Or.inr (Or.inr (Or.inl (e)))) | exact Or.inr (Or.inr (Or.inr (Or.inr (Or.inl (e))))) | exact Or.inr (Or.inr (Or.inr (Or.inr (Or.inr (Or.inl (e)))))) | exact Or.inr (Or.inr (Or.inr (Or.inr (Or.inr (Or.inr (Or.inl (e))))))) | exact Or.inr (Or.inr (Or.inr (Or.inr (Or.inr (Or.inr (Or.inr (Or.inl (e)))))))) | exact Or.inr (Or.inr (Or.inr (Or.inr (Or.inr (Or.inr (Or.inr (Or.inr (Or.inl (e))))))))) | exact Or.inr (Or.inr (Or.inr (Or.inr (Or.inr (Or.inr (Or.inr (Or.inr (Or.inr (e)))))))))) (fun x k hx => by simp only [wJ_mSeals_open, F1.r] at hx; rcases hx with e | e <;> first | exact Or.inl (e) | exact Or.inr (e)) (fun r38 h36 F2 => ?_)
    refine fe_it ?_ fe_no
    exact fe_so F2
  · refine fe_it fe_no ?_
    refine fe_it ?_ fe_no
    refine fe_v (fun y42 => ?_)
    exact fe_j Fe.rf (hk120 _ _ _ _ _ _ _) (fun x k hx => by simp only [wI_mSide_tries_b120] at hx; rcases hx with e | e | e | e | e | e | e | e | e | e <;> first | exact Or.inl (e) | exact Or.inr (Or.inl (e)) | exact Or.inr (Or.inr (Or.inl (e))) | exact Or.inr (Or.inr (Or.inr (Or.inl (e)))) | exact Or.inr (Or.inr (Or.inr (Or.inr (Or.inl (e))))) | exact Or.inr (Or.inr (Or.inr (Or.inr (Or.inr (Or.inl (e)))))) | exact Or.inr (Or.inr (Or.inr (Or.inr (Or.inr (Or.inr (Or.inl (e))))))) | exact Or.inr (Or.inr (Or.inr (Or.inr (Or.inr (Or.inr (Or.inr (Or.inl (e)))))))) | exact Or.inr (Or.inr (Or.inr (Or.inr (Or.inr (Or.inr (Or.inr (Or.inr (Or.inl (e))))))))) | exact Or.inr (Or.inr (Or.inr (Or.inr (Or.inr (Or.inr (Or.inr (Or.inr (Or.inr (e)))))))))) (fun x k hx => by simp only [wJ_mSide_tries_b120] at hx; rcases hx with e | e <;> first | exact Or.inl (e) | exact Or.inr (e))
theorem fe_mSide_tries_b120_lp (n : Nat) : ∀ (v0 : Nat) (v2 : Nat) (v3 : Int) (v4 : Int) (v5 : Int) (v7 : Int) (h : Hp), Feo (wI_mSide_tries_b120 v0 v2 v3 v4 v5 v7 h) (wJ_mSide_tries_b120 v0 v2 v3 v4 v5 v7 h) h Prod.snd (f_mSide_tries_b120_lp n v0 v2 v3 v4 v5 v7 h) := by
  induction n with
  | zero => intro v0 v2 v3 v4 v5 v7 h; exact fe_no
  | succ n ih => intro v0 v2 v3 v4 v5 v7 h; exact fe_mSide_tries_b120 ih v0 v2 v3 v4 v5 v7 h
theorem fe_mSide_tries_b58 {k58 : Nat → Nat → Nat → Int → Hp → Option (Int × Hp)} (hk58 : ∀ (v0 : Nat) (v1 : Nat) (v2 : Nat) (v3 : Int) (h : Hp), Feo (wI_mSide_tries_b58 v0 v1 v2 v3 h) (wJ_mSide_tries_b58 v0 v1 v2 v3 h) h Prod.snd (k58 v0 v1 v2 v3 h)) (v0 : Nat) (v1 : Nat) (v2 : Nat) (v3 : Int) (h : Hp) : Feo (wI_mSide_tries_b58 v0 v1 v2 v3 h) (wJ_mSide_tries_b58 v0 v1 v2 v3 h) h Prod.snd (f_mSide_tries_b58 k58 v0 v1 v2 v3 h) := by
  unfold f_mSide_tries_b58
  refine fe_it fe_no ?_
  refine fe_it ?_ fe_no
  refine fe_it ?_ ?_
  · refine fe_it ?_ fe_no
    refine fe_it ?_ fe_no
    refine fe_v (fun y18 => ?_)
    refine fe_it fe_no ?_
    refine fe_b2 Fe.rf (fe_mSeals_shield _ _ _ _ _ _ _ _) (fun x k hx => by simp only [wI_mSeals_shield] at hx; rcases hx with e | e | e | e <;> first | exact Or.inr (Or.inr (Or.inl (e))) | exact Or.inr (Or.inr (Or.inr (Or.inl (e)))) | exact Or.inr (Or.inr (Or.inr (Or.inr (Or.inl (e))))) | exact Or.inr (Or.inr (Or.inr (Or.inr (Or.inr (Or.inl (e))))))) (fun x k hx => by simp only [wJ_mSeals_shield] at hx; rcases hx with e | e <;> first | exact Or.inl (e) | exact Or.inr (e)) (fun r22 h20 F1 => ?_)
    exact fe_j F1 (fe_mSide_tries_b120_lp FU _ _ _ _ _ _ _) (fun x k hx => by simp only [wI_mSide_tries_b120, F1.r] at hx; rcases hx with e | e | e | e | e | e | e | e | e | e <;> first | exact Or.inl (e) | exact Or.inr (Or.inl (e)) | exact Or.inr (Or.inr (Or.inl (e))) | exact Or.inr (Or.inr (Or.inr (Or.inl (e)))) | exact Or.inr (Or.inr (Or.inr (Or.inr (Or.inr (Or.inl (e)))))) | exact Or.inr (Or.inr (Or.inr (Or.inr (Or.inr (Or.inr (Or.inl (e))))))) | exact Or.inr (Or.inr (Or.inr (Or.inr (Or.inr (Or.inr (Or.inr (Or.inl (e)))))))) | exact Or.inr (Or.inr (Or.inr (Or.inr (Or.inr (Or.inr (Or.inr (Or.inr (Or.inl (e))))))))) | exact Or.inr (Or.inr (Or.inr (Or.inr (Or.inr (Or.inr (Or.inr (Or.inr (Or.inr (Or.inl (e)))))))))) | exact Or.inr (Or.inr (Or.inr (Or.inr (Or.inr (Or.inr (Or.inr (Or.inr (Or.inr (Or.inr (Or.inl (e)))))))))))) (fun x k hx => by simp only [wJ_mSide_tries_b120, F1.r] at hx; rcases hx with e | e <;> first | exact Or.inl (e) | exact Or.inr (e))
  · refine fe_it ?_ fe_no
    refine fe_it fe_no ?_
    refine fe_it ?_ fe_no
    refine fe_it fe_no ?_
    refine fe_it ?_ fe_no
    refine fe_I Fe.rf (Or.inr (Or.inr (Or.inr (Or.inr (Or.inr (Or.inr (Or.inr (Or.inr (Or.inr (Or.inr (Or.inr (rfl)))))))))))) (fun h28 F2 => ?_)
    exact fe_j F2 (hk58 _ _ _ _ _) (fun x k hx => by simp only [wI_mSide_tries_b58, F2.r] at hx; rcases hx with e | e | e | e | e | e | e | e | e | e | e | e <;> first | exact Or.inl (e) | exact Or.inr (Or.inl (e)) | exact Or.inr (Or.inr (Or.inl (e))) | exact Or.inr (Or.inr (Or.inr (Or.inl (e)))) | exact Or.inr (Or.inr (Or.inr (Or.inr (Or.inl (e))))) | exact Or.inr (Or.inr (Or.inr (Or.inr (Or.inr (Or.inl (e)))))) | exact Or.inr (Or.inr (Or.inr (Or.inr (Or.inr (Or.inr (Or.inl (e))))))) | exact Or.inr (Or.inr (Or.inr (Or.inr (Or.inr (Or.inr (Or.inr (Or.inl (e)))))))) | exact Or.inr (Or.inr (Or.inr (Or.inr (Or.inr (Or.inr (Or.inr (Or.inr (Or.inl (e))))))))) | exact Or.inr (Or.inr (Or.inr (Or.inr (Or.inr (Or.inr (Or.inr (Or.inr (Or.inr (Or.inl (e)))))))))) | exact Or.inr (Or.inr (Or.inr (Or.inr (Or.inr (Or.inr (Or.inr (Or.inr (Or.inr (Or.inr (Or.inl (e))))))))))) | exact Or.inr (Or.inr (Or.inr (Or.inr (Or.inr (Or.inr (Or.inr (Or.inr (Or.inr (Or.inr (Or.inr (e)))))))))))) (fun x k hx => by simp only [wJ_mSide_tries_b58, F2.r] at hx; rcases hx with e | e <;> first | exact Or.inl (e) | exact Or.inr (e))
theorem fe_mSide_tries_b58_lp (n : Nat) : ∀ (v0 : Nat) (v1 : Nat) (v2 : Nat) (v3 : Int) (h : Hp), Feo (wI_mSide_tries_b58 v0 v1 v2 v3 h) (wJ_mSide_tries_b58 v0 v1 v2 v3 h) h Prod.snd (f_mSide_tries_b58_lp n v0 v1 v2 v3 h) := by
  induction n with
  | zero => intro v0 v1 v2 v3 h; exact fe_no
  | succ n ih => intro v0 v1 v2 v3 h; exact fe_mSide_tries_b58 ih v0 v1 v2 v3 h
theorem fe_mSide_tries (v0 : Nat) (v1 : Nat) (v2 : Nat) (h : Hp) : Feo (wI_mSide_tries v0 v1 v2 h) (wJ_mSide_tries v0 v1 v2 h) h Prod.snd (f_mSide_tries v0 v1 v2 h) := by
  unfold f_mSide_tries
  refine fe_it fe_no ?_
  refine fe_it ?_ fe_no
  refine fe_it fe_no ?_
  refine fe_b1 Fe.rf (fe_mGreet_firstSecrets _ _ _ _ _ _) (fun x k hx => by simp only [wI_mGreet_firstSecrets] at hx; rcases hx with e | e | e | e | e | e | e | e | e | e | e <;> first | exact Or.inl (e) | exact Or.inr (Or.inr (Or.inr (Or.inr (Or.inl (e))))) | exact Or.inr (Or.inr (Or.inr (Or.inr (Or.inr (Or.inl (e)))))) | exact Or.inr (Or.inr (Or.inr (Or.inr (Or.inr (Or.inr (Or.inl (e))))))) | exact Or.inr (Or.inr (Or.inr (Or.inr (Or.inr (Or.inr (Or.inr (Or.inr (Or.inr (Or.inr (Or.inl (e))))))))))) | exact Or.inr (Or.inr (Or.inr (Or.inr (Or.inr (Or.inr (Or.inr (Or.inr (Or.inr (Or.inr (Or.inr (Or.inr (Or.inl (e))))))))))))) | exact Or.inr (Or.inr (Or.inr (Or.inr (Or.inr (Or.inr (Or.inr (Or.inr (Or.inr (Or.inr (Or.inr (Or.inr (Or.inr (Or.inl (e)))))))))))))) | exact Or.inr (Or.inr (Or.inr (Or.inr (Or.inr (Or.inr (Or.inr (Or.inr (Or.inr (Or.inr (Or.inr (Or.inr (Or.inr (Or.inr (Or.inl (e))))))))))))))) | exact Or.inr (Or.inr (Or.inr (Or.inr (Or.inr (Or.inr (Or.inr (Or.inr (Or.inr (Or.inr (Or.inr (Or.inr (Or.inr (Or.inr (Or.inr (Or.inl (e)))))))))))))))) | exact Or.inr (Or.inr (Or.inr (Or.inr (Or.inr (Or.inr (Or.inr (Or.inr (Or.inr (Or.inr (Or.inr (Or.inr (Or.inr (Or.inr (Or.inr (Or.inr (Or.inl (e))))))))))))))))) | exact Or.inr (Or.inr (Or.inr (Or.inr (Or.inr (Or.inr (Or.inr (Or.inr (Or.inr (Or.inr (Or.inr (Or.inr (Or.inr (Or.inr (Or.inr (Or.inr (Or.inr (Or.inr (Or.inr (Or.inr (Or.inr (Or.inr (Or.inr (Or.inr (Or.inr (Or.inr (Or.inr (Or.inr (Or.inr (Or.inr (Or.inl (e)))))))))))))))))))))))))))))))) (fun x k hx => by simp only [wJ_mGreet_firstSecrets] at hx; rcases hx with e | e | e <;> first | exact Or.inl (e) | exact Or.inr (Or.inl (e)) | exact Or.inr (Or.inr (Or.inl (e)))) (fun h4 F1 => ?_)
  refine fe_it fe_no ?_
  refine fe_b1 F1 (fe_mSeals_arm _ _ _ _ _ _) (fun x k hx => by simp only [wI_mSeals_arm, F1.r] at hx; rcases hx with e | e | e | e | e | e | e | e | e <;> first | exact Or.inr (Or.inr (Or.inr (Or.inl (e)))) | exact Or.inr (Or.inr (Or.inr (Or.inr (Or.inr (Or.inr (Or.inr (Or.inl (e)))))))) | exact Or.inr (Or.inr (Or.inr (Or.inr (Or.inr (Or.inr (Or.inr (Or.inr (Or.inl (e))))))))) | exact Or.inr (Or.inr (Or.inr (Or.inr (Or.inr (Or.inr (Or.inr (Or.inr (Or.inr (Or.inl (e)))))))))) | exact Or.inr (Or.inr (Or.inr (Or.inr (Or.inr (Or.inr (Or.inr (Or.inr (Or.inr (Or.inr (Or.inr (Or.inr (Or.inr (Or.inr (Or.inr (Or.inr (Or.inr (Or.inl (e)))))))))))))))))) | exact Or.inr (Or.inr (Or.inr (Or.inr (Or.inr (Or.inr (Or.inr (Or.inr (Or.inr (Or.inr (Or.inr (Or.inr (Or.inr (Or.inr (Or.inr (Or.inr (Or.inr (Or.inr (Or.inl (e))))))))))))))))))) | exact Or.inr (Or.inr (Or.inr (Or.inr (Or.inr (Or.inr (Or.inr (Or.inr (Or.inr (Or.inr (Or.inr (Or.inr (Or.inr (Or.inr (Or.inr (Or.inr (Or.inr (Or.inr (Or.inr (Or.inl (e)))))))))))))))))))) | exact Or.inr (Or.inr (Or.inr (Or.inr (Or.inr (Or.inr (Or.inr (Or.inr (Or.inr (Or.inr (Or.inr (Or.inr (Or.inr (Or.inr (Or.inr (Or.inr (Or.inr (Or.inr (Or.inr (Or.inr (Or.inr (Or.inr (Or.inr (Or.inr (Or.inr (Or.inr (Or.inr (Or.inr (Or.inl (e))))))))))))))))))))))))))))) | exact Or.inr (Or.inr (Or.inr (Or.inr (Or.inr (Or.inr (Or.inr (Or.inr (Or.inr (Or.inr (Or.inr (Or.inr (Or.inr (Or.inr (Or.inr (Or.inr (Or.inr (Or.inr (Or.inr (Or.inr (Or.inr (Or.inr (Or.inr (Or.inr (Or.inr (Or.inr (Or.inr (Or.inr (Or.inr (Or.inl (e))))))))))))))))))))))))))))))) (fun x k hx => by simp only [wJ_mSeals_arm, F1.r] at hx; rcases hx with e | e | e <;> first | exact Or.inr (Or.inr (Or.inr (Or.inr (Or.inr (Or.inl (e)))))) | exact Or.inr (Or.inr (Or.inr (Or.inr (Or.inr (Or.inr (Or.inl (e))))))) | exact Or.inr (Or.inr (Or.inr (Or.inr (Or.inr (Or.inr (Or.inr (e)))))))) (fun h7 F2 => ?_)
  refine fe_it fe_no ?_
  refine fe_b1 F2 (fe_mSeals_arm _ _ _ _ _ _) (fun x k hx => by simp only [wI_mSeals_arm, F1.r, F2.r] at hx; rcases hx with e | e | e | e | e | e | e | e | e <;> first | exact Or.inr (Or.inr (Or.inr (Or.inl (e)))) | exact Or.inr (Or.inr (Or.inr (Or.inr (Or.inr (Or.inr (Or.inr (Or.inl (e)))))))) | exact Or.inr (Or.inr (Or.inr (Or.inr (Or.inr (Or.inr (Or.inr (Or.inr (Or.inl (e))))))))) | exact Or.inr (Or.inr (Or.inr (Or.inr (Or.inr (Or.inr (Or.inr (Or.inr (Or.inr (Or.inl (e)))))))))) | exact Or.inr (Or.inr (Or.inr (Or.inr (Or.inr (Or.inr (Or.inr (Or.inr (Or.inr (Or.inr (Or.inr (Or.inr (Or.inr (Or.inr (Or.inr (Or.inr (Or.inr (Or.inl (e)))))))))))))))))) | exact Or.inr (Or.inr (Or.inr (Or.inr (Or.inr (Or.inr (Or.inr (Or.inr (Or.inr (Or.inr (Or.inr (Or.inr (Or.inr (Or.inr (Or.inr (Or.inr (Or.inr (Or.inr (Or.inl (e))))))))))))))))))) | exact Or.inr (Or.inr (Or.inr (Or.inr (Or.inr (Or.inr (Or.inr (Or.inr (Or.inr (Or.inr (Or.inr (Or.inr (Or.inr (Or.inr (Or.inr (Or.inr (Or.inr (Or.inr (Or.inr (Or.inl (e)))))))))))))))))))) | exact Or.inr (Or.inr (Or.inr (Or.inr (Or.inr (Or.inr (Or.inr (Or.inr (Or.inr (Or.inr (Or.inr (Or.inr (Or.inr (Or.inr (Or.inr (Or.inr (Or.inr (Or.inr (Or.inr (Or.inr (Or.inr (Or.inr (Or.inr (Or.inr (Or.inr (Or.inr (Or.inr (Or.inr (Or.inl (e))))))))))))))))))))))))))))) | exact Or.inr (Or.inr (Or.inr (Or.inr (Or.inr (Or.inr (Or.inr (Or.inr (Or.inr (Or.inr (Or.inr (Or.inr (Or.inr (Or.inr (Or.inr (Or.inr (Or.inr (Or.inr (Or.inr (Or.inr (Or.inr (Or.inr (Or.inr (Or.inr (Or.inr (Or.inr (Or.inr (Or.inr (Or.inr (Or.inl (e))))))))))))))))))))))))))))))) (fun x k hx => by simp only [wJ_mSeals_arm, F1.r, F2.r] at hx; rcases hx with e | e | e <;> first | exact Or.inr (Or.inr (Or.inr (Or.inr (Or.inr (Or.inl (e)))))) | exact Or.inr (Or.inr (Or.inr (Or.inr (Or.inr (Or.inr (Or.inl (e))))))) | exact Or.inr (Or.inr (Or.inr (Or.inr (Or.inr (Or.inr (Or.inr (e)))))))) (fun h10 F3 => ?_)
  refine fe_it ?_ fe_no
  refine fe_v (fun y13 => ?_)
  exact fe_j F3 (fe_mSide_tries_b58_lp FU _ _ _ _ _) (fun x k hx => by simp only [wI_mSide_tries_b58, F1.r, F2.r, F3.r] at hx; rcases hx with e | e | e | e | e | e | e | e | e | e | e | e <;> first | exact Or.inr (Or.inl (e)) | exact Or.inr (Or.inr (Or.inl (e))) | exact Or.inr (Or.inr (Or.inr (Or.inr (Or.inr (Or.inr (Or.inr (Or.inr (Or.inr (Or.inr (Or.inr (Or.inl (e)))))))))))) | exact Or.inr (Or.inr (Or.inr (Or.inr (Or.inr (Or.inr (Or.inr (Or.inr (Or.inr (Or.inr (Or.inr (Or.inr (Or.inr (Or.inr (Or.inr (Or.inr (Or.inr (Or.inr (Or.inr (Or.inr (Or.inl (e))))))))))))))))))))) | exact Or.inr (Or.inr (Or.inr (Or.inr (Or.inr (Or.inr (Or.inr (Or.inr (Or.inr (Or.inr (Or.inr (Or.inr (Or.inr (Or.inr (Or.inr (Or.inr (Or.inr (Or.inr (Or.inr (Or.inr (Or.inr (Or.inl (e)))))))))))))))))))))) | exact Or.inr (Or.inr (Or.inr (Or.inr (Or.inr (Or.inr (Or.inr (Or.inr (Or.inr (Or.inr (Or.inr (Or.inr (Or.inr (Or.inr (Or.inr (Or.inr (Or.inr (Or.inr (Or.inr (Or.inr (Or.inr (Or.inr (Or.inl (e))))))))))))))))))))))) | exact Or.inr (Or.inr (Or.inr (Or.inr (Or.inr (Or.inr (Or.inr (Or.inr (Or.inr (Or.inr (Or.inr (Or.inr (Or.inr (Or.inr (Or.inr (Or.inr (Or.inr (Or.inr (Or.inr (Or.inr (Or.inr (Or.inr (Or.inr (Or.inl (e)))))))))))))))))))))))) | exact Or.inr (Or.inr (Or.inr (Or.inr (Or.inr (Or.inr (Or.inr (Or.inr (Or.inr (Or.inr (Or.inr (Or.inr (Or.inr (Or.inr (Or.inr (Or.inr (Or.inr (Or.inr (Or.inr (Or.inr (Or.inr (Or.inr (Or.inr (Or.inr (Or.inl (e))))))))))))))))))))))))) | exact Or.inr (Or.inr (Or.inr (Or.inr (Or.inr (Or.inr (Or.inr (Or.inr (Or.inr (Or.inr (Or.inr (Or.inr (Or.inr (Or.inr (Or.inr (Or.inr (Or.inr (Or.inr (Or.inr (Or.inr (Or.inr (Or.inr (Or.inr (Or.inr (Or.inr (Or.inl (e)))))))))))))))))))))))))) | exact Or.inr (Or.inr (Or.inr (Or.inr (Or.inr (Or.inr (Or.inr (Or.inr (Or.inr (Or.inr (Or.inr (Or.inr (Or.inr (Or.inr (Or.inr (Or.inr (Or.inr (Or.inr (Or.inr (Or.inr (Or.inr (Or.inr (Or.inr (Or.inr (Or.inr (Or.inr (Or.inl (e))))))))))))))))))))))))))) | exact Or.inr (Or.inr (Or.inr (Or.inr (Or.inr (Or.inr (Or.inr (Or.inr (Or.inr (Or.inr (Or.inr (Or.inr (Or.inr (Or.inr (Or.inr (Or.inr (Or.inr (Or.inr (Or.inr (Or.inr (Or.inr (Or.inr (Or.inr (Or.inr (Or.inr (Or.inr (Or.inr (Or.inl (e)))))))))))))))))))))))))))) | exact Or.inr (Or.inr (Or.inr (Or.inr (Or.inr (Or.inr (Or.inr (Or.inr (Or.inr (Or.inr (Or.inr (Or.inr (Or.inr (Or.inr (Or.inr (Or.inr (Or.inr (Or.inr (Or.inr (Or.inr (Or.inr (Or.inr (Or.inr (Or.inr (Or.inr (Or.inr (Or.inr (Or.inr (Or.inr (Or.inr (Or.inr (e)))))))))))))))))))))))))))))))) (fun x k hx => by simp only [wJ_mSide_tries_b58, F1.r, F2.r, F3.r] at hx; rcases hx with e | e <;> first | exact Or.inr (Or.inr (Or.inr (Or.inl (e)))) | exact Or.inr (Or.inr (Or.inr (Or.inr (Or.inl (e))))))
def wI_mSide_isName_b47 (v0 : Nat) (v1 : Nat) (v2 : Int) (v4 : Nat) (v6 : Int) (s0 : Int) (h : Hp) (x k : Nat) : Prop := False
def wJ_mSide_isName_b47 (v0 : Nat) (v1 : Nat) (v2 : Int) (v4 : Nat) (v6 : Int) (s0 : Int) (h : Hp) (x k : Nat) : Prop := False
def wI_mSide_isName_b16 (v0 : Nat) (v1 : Nat) (v2 : Int) (v4 : Nat) (v5 : Int) (v6 : Int) (h : Hp) (x k : Nat) : Prop := False
def wJ_mSide_isName_b16 (v0 : Nat) (v1 : Nat) (v2 : Int) (v4 : Nat) (v5 : Int) (v6 : Int) (h : Hp) (x k : Nat) : Prop := False
def wI_mSide_isName_b11 (v0 : Nat) (v1 : Nat) (v2 : Int) (v4 : Nat) (s0 : Int) (h : Hp) (x k : Nat) : Prop := False
def wJ_mSide_isName_b11 (v0 : Nat) (v1 : Nat) (v2 : Int) (v4 : Nat) (s0 : Int) (h : Hp) (x k : Nat) : Prop := False
def wI_mSide_isName (v0 : Nat) (v1 : Nat) (v2 : Int) (v3 : Int) (v4 : Nat) (h : Hp) (x k : Nat) : Prop := False
def wJ_mSide_isName (v0 : Nat) (v1 : Nat) (v2 : Int) (v3 : Int) (v4 : Nat) (h : Hp) (x k : Nat) : Prop := False
theorem fe_mSide_isName_b47 {k16 : Nat → Nat → Int → Nat → Int → Int → Hp → Option (Int × Hp)} (hk16 : ∀ (v0 : Nat) (v1 : Nat) (v2 : Int) (v4 : Nat) (v5 : Int) (v6 : Int) (h : Hp), Feo (wI_mSide_isName_b16 v0 v1 v2 v4 v5 v6 h) (wJ_mSide_isName_b16 v0 v1 v2 v4 v5 v6 h) h Prod.snd (k16 v0 v1 v2 v4 v5 v6 h)) (v0 : Nat) (v1 : Nat) (v2 : Int) (v4 : Nat) (v6 : Int) (s0 : Int) (h : Hp) : Feo (wI_mSide_isName_b47 v0 v1 v2 v4 v6 s0 h) (wJ_mSide_isName_b47 v0 v1 v2 v4 v6 s0 h) h Prod.snd (f_mSide_isName_b47 k16 v0 v1 v2 v4 v6 s0 h) := by
  unfold f_mSide_isName_b47
  exact fe_j Fe.rf (hk16 _ _ _ _ _ _ _) (fun x k hx => False.elim hx) (fun x k hx => False.elim hx)
theorem fe_mSide_isName_b16 {k16 : Nat → Nat → Int → Nat → Int → Int → Hp → Option (Int × Hp)} (hk16 : ∀ (v0 : Nat) (v1 : Nat) (v2 : Int) (v4 : Nat) (v5 : Int) (v6 : Int) (h : Hp), Feo (wI_mSide_isName_b16 v0 v1 v2 v4 v5 v6 h) (wJ_mSide_isName_b16 v0 v1 v2 v4 v5 v6 h) h Prod.snd (k16 v0 v1 v2 v4 v5 v6 h)) (v0 : Nat) (v1 : Nat) (v2 : Int) (v4 : Nat) (v5 : Int) (v6 : Int) (h : Hp) : Feo (wI_mSide_isName_b16 v0 v1 v2 v4 v5 v6 h) (wJ_mSide_isName_b16 v0 v1 v2 v4 v5 v6 h) h Prod.snd (f_mSide_isName_b16 k16 v0 v1 v2 v4 v5 v6 h) := by
  unfold f_mSide_isName_b16
  refine fe_it ?_ ?_
  · refine fe_it ?_ fe_no
    exact fe_so Fe.rf
  · refine fe_it ?_ ?_
    · refine fe_it ?_ fe_no
      exact fe_so Fe.rf
    · refine fe_it fe_no ?_
      refine fe_it ?_ fe_no
      refine fe_it fe_no ?_
      refine fe_it ?_ fe_no
      refine fe_it ?_ ?_
      · exact fe_j Fe.rf (fe_mSide_isName_b47 hk16 _ _ _ _ _ _ _) (fun x k hx => False.elim hx) (fun x k hx => False.elim hx)
      · exact fe_j Fe.rf (fe_mSide_isName_b47 hk16 _ _ _ _ _ _ _) (fun x k hx => False.elim hx) (fun x k hx => False.elim hx)
theorem fe_mSide_isName_b16_lp (n : Nat) : ∀ (v0 : Nat) (v1 : Nat) (v2 : Int) (v4 : Nat) (v5 : Int) (v6 : Int) (h : Hp), Feo (wI_mSide_isName_b16 v0 v1 v2 v4 v5 v6 h) (wJ_mSide_isName_b16 v0 v1 v2 v4 v5 v6 h) h Prod.snd (f_mSide_isName_b16_lp n v0 v1 v2 v4 v5 v6 h) := by
  induction n with
  | zero => intro v0 v1 v2 v4 v5 v6 h; exact fe_no
  | succ n ih => intro v0 v1 v2 v4 v5 v6 h; exact fe_mSide_isName_b16 ih v0 v1 v2 v4 v5 v6 h
theorem fe_mSide_isName_b11 (v0 : Nat) (v1 : Nat) (v2 : Int) (v4 : Nat) (s0 : Int) (h : Hp) : Feo (wI_mSide_isName_b11 v0 v1 v2 v4 s0 h) (wJ_mSide_isName_b11 v0 v1 v2 v4 s0 h) h Prod.snd (f_mSide_isName_b11 v0 v1 v2 v4 s0 h) := by
  unfold f_mSide_isName_b11
  exact fe_j Fe.rf (fe_mSide_isName_b16_lp FU _ _ _ _ _ _ _) (fun x k hx => False.elim hx) (fun x k hx => False.elim hx)
theorem fe_mSide_isName (v0 : Nat) (v1 : Nat) (v2 : Int) (v3 : Int) (v4 : Nat) (h : Hp) : Feo (wI_mSide_isName v0 v1 v2 v3 v4 h) (wJ_mSide_isName v0 v1 v2 v3 v4 h) h Prod.snd (f_mSide_isName v0 v1 v2 v3 v4 h) := by
  unfold f_mSide_isName
  refine fe_it ?_ ?_
  · exact fe_j Fe.rf (fe_mSide_isName_b11 _ _ _ _ _ _) (fun x k hx => False.elim hx) (fun x k hx => False.elim hx)
  · exact fe_j Fe.rf (fe_mSide_isName_b11 _ _ _ _ _ _) (fun x k hx => False.elim hx) (fun x k hx => False.elim hx)
def wI_mSide_hasGuards (v0 : Nat) (v1 : Int) (h : Hp) (x k : Nat) : Prop := False
def wJ_mSide_hasGuards (v0 : Nat) (v1 : Int) (h : Hp) (x k : Nat) : Prop := False
theorem fe_mSide_hasGuards (v0 : Nat) (v1 : Int) (h : Hp) : Feo (wI_mSide_hasGuards v0 v1 h) (wJ_mSide_hasGuards v0 v1 h) h Prod.snd (f_mSide_hasGuards v0 v1 h) := by
  unfold f_mSide_hasGuards
  refine fe_it fe_no ?_
  refine fe_it ?_ fe_no
  refine fe_it ?_ ?_
  · exact fe_so Fe.rf
  · refine fe_it fe_no ?_
    refine fe_it fe_no ?_
    refine fe_it ?_ fe_no
    refine fe_it ?_ ?_
    · exact fe_so Fe.rf
    · exact fe_so Fe.rf
def wI_mBook_greatest (v0 : Nat) (v1 : Int) (h : Hp) (x k : Nat) : Prop := False
def wJ_mBook_greatest (v0 : Nat) (v1 : Int) (h : Hp) (x k : Nat) : Prop := False
theorem fe_mBook_greatest (v0 : Nat) (v1 : Int) (h : Hp) : Feo (wI_mBook_greatest v0 v1 h) (wJ_mBook_greatest v0 v1 h) h Prod.snd (f_mBook_greatest v0 v1 h) := by
  unfold f_mBook_greatest
  refine fe_it fe_no ?_
  refine fe_it ?_ fe_no
  refine fe_it ?_ ?_
  · refine fe_it ?_ fe_no
    refine fe_it fe_no ?_
    refine fe_it ?_ fe_no
    exact fe_so Fe.rf
  · exact fe_so Fe.rf
def wI_mBook_isOld_b74 (v0 : Nat) (v1 : Int) (v2 : Int) (v5 : Int) (s0 : Int) (h : Hp) (x k : Nat) : Prop := False
def wJ_mBook_isOld_b74 (v0 : Nat) (v1 : Int) (v2 : Int) (v5 : Int) (s0 : Int) (h : Hp) (x k : Nat) : Prop := False
def wI_mBook_isOld_b69 (v0 : Nat) (v1 : Int) (v2 : Int) (v5 : Int) (h : Hp) (x k : Nat) : Prop := False
def wJ_mBook_isOld_b69 (v0 : Nat) (v1 : Int) (v2 : Int) (v5 : Int) (h : Hp) (x k : Nat) : Prop := False
def wI_mBook_isOld_b73 (v0 : Nat) (v1 : Int) (v2 : Int) (v5 : Int) (h : Hp) (x k : Nat) : Prop := False
def wJ_mBook_isOld_b73 (v0 : Nat) (v1 : Int) (v2 : Int) (v5 : Int) (h : Hp) (x k : Nat) : Prop := False
def wI_mBook_isOld_b24 (v0 : Nat) (v1 : Int) (v2 : Int) (v4 : Int) (v5 : Int) (h : Hp) (x k : Nat) : Prop := False
def wJ_mBook_isOld_b24 (v0 : Nat) (v1 : Int) (v2 : Int) (v4 : Int) (v5 : Int) (h : Hp) (x k : Nat) : Prop := False
def wI_mBook_isOld_b16 (v0 : Nat) (v1 : Int) (v2 : Int) (s0 : Int) (h : Hp) (x k : Nat) : Prop := False
def wJ_mBook_isOld_b16 (v0 : Nat) (v1 : Int) (v2 : Int) (s0 : Int) (h : Hp) (x k : Nat) : Prop := False
def wI_mBook_isOld (v0 : Nat) (v1 : Int) (v2 : Int) (h : Hp) (x k : Nat) : Prop := False
def wJ_mBook_isOld (v0 : Nat) (v1 : Int) (v2 : Int) (h : Hp) (x k : Nat) : Prop := False
theorem fe_mBook_isOld_b74 {k24 : Nat → Int → Int → Int → Int → Hp → Option (Int × Hp)} (hk24 : ∀ (v0 : Nat) (v1 : Int) (v2 : Int) (v4 : Int) (v5 : Int) (h : Hp), Feo (wI_mBook_isOld_b24 v0 v1 v2 v4 v5 h) (wJ_mBook_isOld_b24 v0 v1 v2 v4 v5 h) h Prod.snd (k24 v0 v1 v2 v4 v5 h)) (v0 : Nat) (v1 : Int) (v2 : Int) (v5 : Int) (s0 : Int) (h : Hp) : Feo (wI_mBook_isOld_b74 v0 v1 v2 v5 s0 h) (wJ_mBook_isOld_b74 v0 v1 v2 v5 s0 h) h Prod.snd (f_mBook_isOld_b74 k24 v0 v1 v2 v5 s0 h) := by
  unfold f_mBook_isOld_b74
  exact fe_j Fe.rf (hk24 _ _ _ _ _ _) (fun x k hx => False.elim hx) (fun x k hx => False.elim hx)
theorem fe_mBook_isOld_b69 {k24 : Nat → Int → Int → Int → Int → Hp → Option (Int × Hp)} (hk24 : ∀ (v0 : Nat) (v1 : Int) (v2 : Int) (v4 : Int) (v5 : Int) (h : Hp), Feo (wI_mBook_isOld_b24 v0 v1 v2 v4 v5 h) (wJ_mBook_isOld_b24 v0 v1 v2 v4 v5 h) h Prod.snd (k24 v0 v1 v2 v4 v5 h)) (v0 : Nat) (v1 : Int) (v2 : Int) (v5 : Int) (h : Hp) : Feo (wI_mBook_isOld_b69 v0 v1 v2 v5 h) (wJ_mBook_isOld_b69 v0 v1 v2 v5 h) h Prod.snd (f_mBook_isOld_b69 k24 v0 v1 v2 v5 h) := by
  unfold f_mBook_isOld_b69
  exact fe_j Fe.rf (fe_mBook_isOld_b74 hk24 _ _ _ _ _ _) (fun x k hx => False.elim hx) (fun x k hx => False.elim hx)
theorem fe_mBook_isOld_b73 {k24 : Nat → Int → Int → Int → Int → Hp → Option (Int × Hp)} (hk24 : ∀ (v0 : Nat) (v1 : Int) (v2 : Int) (v4 : Int) (v5 : Int) (h : Hp), Feo (wI_mBook_isOld_b24 v0 v1 v2 v4 v5 h) (wJ_mBook_isOld_b24 v0 v1 v2 v4 v5 h) h Prod.snd (k24 v0 v1 v2 v4 v5 h)) (v0 : Nat) (v1 : Int) (v2 : Int) (v5 : Int) (h : Hp) : Feo (wI_mBook_isOld_b73 v0 v1 v2 v5 h) (wJ_mBook_isOld_b73 v0 v1 v2 v5 h) h Prod.snd (f_mBook_isOld_b73 k24 v0 v1 v2 v5 h) := by
  unfold f_mBook_isOld_b73
  exact fe_j Fe.rf (fe_mBook_isOld_b74 hk24 _ _ _ _ _ _) (fun x k hx => False.elim hx) (fun x k hx => False.elim hx)
theorem fe_mBook_isOld_b24 {k24 : Nat → Int → Int → Int → Int → Hp → Option (Int × Hp)} (hk24 : ∀ (v0 : Nat) (v1 : Int) (v2 : Int) (v4 : Int) (v5 : Int) (h : Hp), Feo (wI_mBook_isOld_b24 v0 v1 v2 v4 v5 h) (wJ_mBook_isOld_b24 v0 v1 v2 v4 v5 h) h Prod.snd (k24 v0 v1 v2 v4 v5 h)) (v0 : Nat) (v1 : Int) (v2 : Int) (v4 : Int) (v5 : Int) (h : Hp) : Feo (wI_mBook_isOld_b24 v0 v1 v2 v4 v5 h) (wJ_mBook_isOld_b24 v0 v1 v2 v4 v5 h) h Prod.snd (f_mBook_isOld_b24 k24 v0 v1 v2 v4 v5 h) := by
  unfold f_mBook_isOld_b24
  refine fe_it fe_no ?_
  refine fe_it ?_ fe_no
  refine fe_it ?_ ?_
  · refine fe_it ?_ fe_no
    exact fe_so Fe.rf
  · refine fe_it ?_ ?_
    · exact fe_j Fe.rf (fe_mBook_isOld_b69 hk24 _ _ _ _ _) (fun x k hx => False.elim hx) (fun x k hx => False.elim hx)
    · refine fe_it fe_no ?_
      refine fe_it ?_ fe_no
      refine fe_it ?_ ?_
      · exact fe_j Fe.rf (fe_mBook_isOld_b73 hk24 _ _ _ _ _) (fun x k hx => False.elim hx) (fun x k hx => False.elim hx)
      · refine fe_it fe_no ?_
        refine fe_it ?_ fe_no
        refine fe_it ?_ ?_
        · exact fe_j Fe.rf (fe_mBook_isOld_b73 hk24 _ _ _ _ _) (fun x k hx => False.elim hx) (fun x k hx => False.elim hx)
        · exact fe_j Fe.rf (fe_mBook_isOld_b69 hk24 _ _ _ _ _) (fun x k hx => False.elim hx) (fun x k hx => False.elim hx)
theorem fe_mBook_isOld_b24_lp (n : Nat) : ∀ (v0 : Nat) (v1 : Int) (v2 : Int) (v4 : Int) (v5 : Int) (h : Hp), Feo (wI_mBook_isOld_b24 v0 v1 v2 v4 v5 h) (wJ_mBook_isOld_b24 v0 v1 v2 v4 v5 h) h Prod.snd (f_mBook_isOld_b24_lp n v0 v1 v2 v4 v5 h) := by
  induction n with
  | zero => intro v0 v1 v2 v4 v5 h; exact fe_no
  | succ n ih => intro v0 v1 v2 v4 v5 h; exact fe_mBook_isOld_b24 ih v0 v1 v2 v4 v5 h
theorem fe_mBook_isOld_b16 (v0 : Nat) (v1 : Int) (v2 : Int) (s0 : Int) (h : Hp) : Feo (wI_mBook_isOld_b16 v0 v1 v2 s0 h) (wJ_mBook_isOld_b16 v0 v1 v2 s0 h) h Prod.snd (f_mBook_isOld_b16 v0 v1 v2 s0 h) := by
  unfold f_mBook_isOld_b16
  refine fe_v (fun y3 => ?_)
  exact fe_j Fe.rf (fe_mBook_isOld_b24_lp FU _ _ _ _ _ _) (fun x k hx => False.elim hx) (fun x k hx => False.elim hx)
theorem fe_mBook_isOld (v0 : Nat) (v1 : Int) (v2 : Int) (h : Hp) : Feo (wI_mBook_isOld v0 v1 v2 h) (wJ_mBook_isOld v0 v1 v2 h) h Prod.snd (f_mBook_isOld v0 v1 v2 h) := by
  unfold f_mBook_isOld
  refine fe_it fe_no ?_
  refine fe_it ?_ fe_no
  refine fe_it ?_ ?_
  · exact fe_j Fe.rf (fe_mBook_isOld_b16 _ _ _ _ _) (fun x k hx => False.elim hx) (fun x k hx => False.elim hx)
  · exact fe_j Fe.rf (fe_mBook_isOld_b16 _ _ _ _ _) (fun x k hx => False.elim hx) (fun x k hx => False.elim hx)
def wI_mBook_discard (v0 : Nat) (v1 : Int) (h : Hp) (x k : Nat) : Prop := x = hR h v0 11 ∨ x = hR h v0 13 ∨ x = hR h v0 17 ∨ x = hR h v0 30 ∨ x = hR h v0 35 ∨ x = hR h v0 37 ∨ (x = v0 ∧ k = 23)
def wJ_mBook_discard (v0 : Nat) (v1 : Int) (h : Hp) (x k : Nat) : Prop := x = hR h v0 33
theorem fe_mBook_discard (v0 : Nat) (v1 : Int) (h : Hp) : Feo (wI_mBook_discard v0 v1 h) (wJ_mBook_discard v0 v1 h) h id (f_mBook_discard v0 v1 h) := by
  unfold f_mBook_discard
  refine fe_it fe_no ?_
  refine fe_it ?_ fe_no
  refine fe_I Fe.rf (Or.inl (rfl)) (fun h3 F1 => ?_)
  refine fe_it fe_no ?_
  refine fe_it ?_ fe_no
  refine fe_I F1 (Or.inr (Or.inl ((by first | (simp only [F1.r]; exact rfl) | simp only [F1.r])))) (fun h6 F2 => ?_)
  refine fe_it fe_no ?_
  refine fe_it ?_ fe_no
  refine fe_it fe_no ?_
  refine fe_it ?_ fe_no
  refine fe_I F2 (Or.inr (Or.inr (Or.inl ((by first | (simp only [F1.r, F2.r]; exact rfl) | simp only [F1.r, F2.r]))))) (fun h11 F3 => ?_)
  refine fe_it fe_no ?_
  refine fe_it ?_ fe_no
  refine fe_it fe_no ?_
  refine fe_it ?_ fe_no
  refine fe_I F3 (Or.inr (Or.inr (Or.inl ((by first | (simp only [F1.r, F2.r, F3.r]; exact rfl) | simp only [F1.r, F2.r, F3.r]))))) (fun h16 F4 => ?_)
  refine fe_it fe_no ?_
  refine fe_it ?_ fe_no
  refine fe_I F4 (Or.inr (Or.inr (Or.inr (Or.inl ((by first | (simp only [F1.r, F2.r, F3.r, F4.r]; exact rfl) | simp only [F1.r, F2.r, F3.r, F4.r])))))) (fun h19 F5 => ?_)
  refine fe_it fe_no ?_
  refine fe_it ?_ fe_no
  refine fe_J F5 ((by first | (simp only [F1.r, F2.r, F3.r, F4.r, F5.r]; exact rfl) | simp only [F1.r, F2.r, F3.r, F4.r, F5.r])) (fun h22 F6 => ?_)
  refine fe_it fe_no ?_
  refine fe_it ?_ fe_no
  refine fe_I F6 (Or.inr (Or.inr (Or.inr (Or.inr (Or.inl ((by first | (simp only [F1.r, F2.r, F3.r, F4.r, F5.r, F6.r]; exact rfl) | simp only [F1.r, F2.r, F3.r, F4.r, F5.r, F6.r]))))))) (fun h25 F7 => ?_)
  refine fe_it fe_no ?_
  refine fe_it ?_ fe_no
  refine fe_I F7 (Or.inr (Or.inr (Or.inr (Or.inr (Or.inr (Or.inl ((by first | (simp only [F1.r, F2.r, F3.r, F4.r, F5.r, F6.r, F7.r]; exact rfl) | simp only [F1.r, F2.r, F3.r, F4.r, F5.r, F6.r, F7.r])))))))) (fun h28 F8 => ?_)
  refine fe_I F8 (Or.inr (Or.inr (Or.inr (Or.inr (Or.inr (Or.inr (⟨rfl, rfl⟩))))))) (fun h29 F9 => ?_)
  exact fe_so F9
def wI_mSide_discard (v0 : Nat) (v1 : Int) (h : Hp) (x k : Nat) : Prop := (x = (hR h v0 4) ∧ k = 23) ∨ x = hR h (hR h v0 4) 11 ∨ x = hR h (hR h v0 4) 13 ∨ x = hR h (hR h v0 4) 17 ∨ x = hR h (hR h v0 4) 30 ∨ x = hR h (hR h v0 4) 35 ∨ x = hR h (hR h v0 4) 37 ∨ x = hR h v0 34
def wJ_mSide_discard (v0 : Nat) (v1 : Int) (h : Hp) (x k : Nat) : Prop := x = hR h (hR h v0 4) 33
theorem fe_mSide_discard (v0 : Nat) (v1 : Int) (h : Hp) : Feo (wI_mSide_discard v0 v1 h) (wJ_mSide_discard v0 v1 h) h id (f_mSide_discard v0 v1 h) := by
  unfold f_mSide_discard
  refine fe_it fe_no ?_
  refine fe_it fe_no ?_
  refine fe_it ?_ fe_no
  refine fe_it ?_ ?_
  · refine fe_b1 Fe.rf (fe_mBook_discard _ _ _) (fun x k hx => by simp only [wI_mBook_discard] at hx; rcases hx with e | e | e | e | e | e | e <;> first | exact Or.inl (e) | exact Or.inr (Or.inl (e)) | exact Or.inr (Or.inr (Or.inl (e))) | exact Or.inr (Or.inr (Or.inr (Or.inl (e)))) | exact Or.inr (Or.inr (Or.inr (Or.inr (Or.inl (e))))) | exact Or.inr (Or.inr (Or.inr (Or.inr (Or.inr (Or.inl (e)))))) | exact Or.inr (Or.inr (Or.inr (Or.inr (Or.inr (Or.inr (Or.inl (e)))))))) (fun x k hx => by simp only [wJ_mBook_discard] at hx; have e := hx; exact e) (fun h4 F1 => ?_)
    refine fe_it fe_no ?_
    refine fe_it ?_ fe_no
    refine fe_I F1 (Or.inr (Or.inr (Or.inr (Or.inr (Or.inr (Or.inr (Or.inr ((by first | (simp only [F1.r]; exact rfl) | simp only [F1.r]))))))))) (fun h8 F2 => ?_)
    exact fe_so F2
  · exact fe_so Fe.rf
def wI_mSide_opened_b77 (v0 : Nat) (v3 : Int) (h : Hp) (x k : Nat) : Prop := (x = (hR h v0 4) ∧ k = 23) ∨ x = hR h (hR h v0 4) 11 ∨ x = hR h (hR h v0 4) 13 ∨ x = hR h (hR h v0 4) 17 ∨ x = hR h (hR h v0 4) 30 ∨ x = hR h (hR h v0 4) 35 ∨ x = hR h (hR h v0 4) 37 ∨ x = hR h v0 34 ∨ (x = v0 ∧ k = 10) ∨ (x = v0 ∧ k = 40) ∨ (x = v0 ∧ k = 41)
def wJ_mSide_opened_b77 (v0 : Nat) (v3 : Int) (h : Hp) (x k : Nat) : Prop := x = hR h (hR h v0 4) 33
def wI_mSide_opened_b46 (v0 : Nat) (v1 : Nat) (v2 : Nat) (v3 : Int) (v4 : Int) (h : Hp) (x k : Nat) : Prop := (x = (hR h v0 4) ∧ k = 23) ∨ x = hR h (hR h v0 4) 11 ∨ x = hR h (hR h v0 4) 13 ∨ x = hR h (hR h v0 4) 17 ∨ x = hR h (hR h v0 4) 30 ∨ x = hR h (hR h v0 4) 35 ∨ x = hR h (hR h v0 4) 37 ∨ x = hR h v0 13 ∨ x = hR h v0 34 ∨ (x = v0 ∧ k = 10) ∨ (x = v0 ∧ k = 40) ∨ (x = v0 ∧ k = 41)
def wJ_mSide_opened_b46 (v0 : Nat) (v1 : Nat) (v2 : Nat) (v3 : Int) (v4 : Int) (h : Hp) (x k : Nat) : Prop := x = hR h (hR h v0 4) 33
def wI_mSide_opened_b16 (v0 : Nat) (v1 : Nat) (v2 : Nat) (v3 : Int) (h : Hp) (x k : Nat) : Prop := (x = (hR h v0 4) ∧ k = 23) ∨ x = hR h (hR h v0 4) 11 ∨ x = hR h (hR h v0 4) 13 ∨ x = hR h (hR h v0 4) 17 ∨ x = hR h (hR h v0 4) 30 ∨ x = hR h (hR h v0 4) 35 ∨ x = hR h (hR h v0 4) 37 ∨ x = hR h v0 13 ∨ x = hR h v0 34 ∨ (x = v0 ∧ k = 10) ∨ (x = v0 ∧ k = 14) ∨ (x = v0 ∧ k = 15) ∨ (x = v0 ∧ k = 40) ∨ (x = v0 ∧ k = 41)
def wJ_mSide_opened_b16 (v0 : Nat) (v1 : Nat) (v2 : Nat) (v3 : Int) (h : Hp) (x k : Nat) : Prop := x = hR h (hR h v0 4) 33
def wI_mSide_opened (v0 : Nat) (v1 : Nat) (v2 : Nat) (v3 : Int) (h : Hp) (x k : Nat) : Prop := x = (hR h (hR h (hR h v0 3) 1) 9) ∨ x = (hR h (hR h v0 1) 9) ∨ (x = (hR h (hR h v0 3) 1) ∧ k = 11) ∨ (x = (hR h (hR h v0 3) 1) ∧ k = 13) ∨ x = (hR h (hR h v0 3) 22) ∨ (x = (hR h v0 1) ∧ k = 11) ∨ (x = (hR h v0 1) ∧ k = 13) ∨ x = (hR h v0 18) ∨ x = (hR h v0 20) ∨ (x = (hR h v0 3) ∧ k = 6) ∨ (x = (hR h v0 3) ∧ k = 16) ∨ (x = (hR h v0 4) ∧ k = 23) ∨ x = hR h (hR h (hR h v0 3) 1) 10 ∨ x = hR h (hR h (hR h v0 3) 1) 12 ∨ x = hR h (hR h (hR h v0 3) 1) 14 ∨ x = hR h (hR h (hR h v0 3) 1) 4 ∨ x = hR h (hR h (hR h v0 3) 1) 8 ∨ x = hR h (hR h v0 1) 10 ∨ x = hR h (hR h v0 1) 12 ∨ x = hR h (hR h v0 1) 14 ∨ x = hR h (hR h v0 1) 4 ∨ x = hR h (hR h v0 1) 8 ∨ x = hR h (hR h v0 3) 10 ∨ x = hR h (hR h v0 3) 15 ∨ x = hR h (hR h v0 3) 17 ∨ x = hR h (hR h v0 3) 21 ∨ x = hR h (hR h v0 3) 4 ∨ x = hR h (hR h v0 3) 9 ∨ x = hR h (hR h v0 4) 11 ∨ x = hR h (hR h v0 4) 13 ∨ x = hR h (hR h v0 4) 17 ∨ x = hR h (hR h v0 4) 30 ∨ x = hR h (hR h v0 4) 35 ∨ x = hR h (hR h v0 4) 37 ∨ x = hR h v0 13 ∨ x = hR h v0 16 ∨ x = hR h v0 19 ∨ (x = hR h v0 3 ∧ k = 5) ∨ (x = hR h v0 3 ∧ k = 18) ∨ x = hR h v0 34 ∨ (x = hR h v0 4 ∧ k = 2) ∨ (x = v0 ∧ k = 8) ∨ (x = v0 ∧ k = 10) ∨ (x = v0 ∧ k = 14) ∨ (x = v0 ∧ k = 15) ∨ (x = v0 ∧ k = 17) ∨ (x = v0 ∧ k = 40) ∨ (x = v0 ∧ k = 41)
def wJ_mSide_opened (v0 : Nat) (v1 : Nat) (v2 : Nat) (v3 : Int) (h : Hp) (x k : Nat) : Prop := x = hR h (hR h (hR h v0 3) 1) 5 ∨ x = hR h (hR h (hR h v0 3) 1) 6 ∨ x = hR h (hR h (hR h v0 3) 1) 7 ∨ x = hR h (hR h v0 1) 5 ∨ x = hR h (hR h v0 1) 6 ∨ x = hR h (hR h v0 1) 7 ∨ x = hR h (hR h v0 4) 33
theorem fe_mSide_opened_b77 (v0 : Nat) (v3 : Int) (h : Hp) : Feo (wI_mSide_opened_b77 v0 v3 h) (wJ_mSide_opened_b77 v0 v3 h) h id (f_mSide_opened_b77 v0 v3 h) := by
  unfold f_mSide_opened_b77
  refine fe_it fe_no ?_
  refine fe_I Fe.rf (Or.inr (Or.inr (Or.inr (Or.inr (Or.inr (Or.inr (Or.inr (Or.inr (Or.inr (Or.inl (⟨rfl, rfl⟩))))))))))) (fun h11 F1 => ?_)
  refine fe_I F1 (Or.inr (Or.inr (Or.inr (Or.inr (Or.inr (Or.inr (Or.inr (Or.inr (Or.inr (Or.inr (⟨rfl, rfl⟩))))))))))) (fun h12 F2 => ?_)
  refine fe_it ?_ ?_
  · exact fe_so F2
  · refine fe_it ?_ ?_
    · refine fe_I F2 (Or.inr (Or.inr (Or.inr (Or.inr (Or.inr (Or.inr (Or.inr (Or.inr (Or.inl (⟨rfl, rfl⟩)))))))))) (fun h13 F3 => ?_)
      refine fe_b1 F3 (fe_mSide_discard _ _ _) (fun x k hx => by simp only [wI_mSide_discard, F1.r, F2.r, F3.r] at hx; rcases hx with e | e | e | e | e | e | e | e <;> first | exact Or.inl (e) | exact Or.inr (Or.inl (e)) | exact Or.inr (Or.inr (Or.inl (e))) | exact Or.inr (Or.inr (Or.inr (Or.inl (e)))) | exact Or.inr (Or.inr (Or.inr (Or.inr (Or.inl (e))))) | exact Or.inr (Or.inr (Or.inr (Or.inr (Or.inr (Or.inl (e)))))) | exact Or.inr (Or.inr (Or.inr (Or.inr (Or.inr (Or.inr (Or.inl (e))))))) | exact Or.inr (Or.inr (Or.inr (Or.inr (Or.inr (Or.inr (Or.inr (Or.inl (e))))))))) (fun x k hx => by simp only [wJ_mSide_discard, F1.r, F2.r, F3.r] at hx; have e := hx; exact e) (fun h14 F4 => ?_)
      exact fe_so F4
    · exact fe_so F2
theorem fe_mSide_opened_b46 {k46 : Nat → Nat → Nat → Int → Int → Hp → Option (Hp)} (hk46 : ∀ (v0 : Nat) (v1 : Nat) (v2 : Nat) (v3 : Int) (v4 : Int) (h : Hp), Feo (wI_mSide_opened_b46 v0 v1 v2 v3 v4 h) (wJ_mSide_opened_b46 v0 v1 v2 v3 v4 h) h id (k46 v0 v1 v2 v3 v4 h)) (v0 : Nat) (v1 : Nat) (v2 : Nat) (v3 : Int) (v4 : Int) (h : Hp) : Feo (wI_mSide_opened_b46 v0 v1 v2 v3 v4 h) (wJ_mSide_opened_b46 v0 v1 v2 v3 v4 h) h id (f_mSide_opened_b46 k46 v0 v1 v2 v3 v4 h) := by
  unfold f_mSide_opened_b46
  refine fe_it ?_ ?_
  · exact fe_j Fe.rf (fe_mSide_opened_b77 _ _ _) (fun x k hx => by simp only [wI_mSide_opened_b77] at hx; rcases hx with e | e | e | e | e | e | e | e | e | e | e <;> first | exact Or.inl (e) | exact Or.inr (Or.inl (e)) | exact Or.inr (Or.inr (Or.inl (e))) | exact Or.inr (Or.inr (Or.inr (Or.inl (e)))) | exact Or.inr (Or.inr (Or.inr (Or.inr (Or.inl (e))))) | exact Or.inr (Or.inr (Or.inr (Or.inr (Or.inr (Or.inl (e)))))) | exact Or.inr (Or.inr (Or.inr (Or.inr (Or.inr (Or.inr (Or.inl (e))))))) | exact Or.inr (Or.inr (Or.inr (Or.inr (Or.inr (Or.inr (Or.inr (Or.inr (Or.inl (e))))))))) | exact Or.inr (Or.inr (Or.inr (Or.inr (Or.inr (Or.inr (Or.inr (Or.inr (Or.inr (Or.inl (e)))))))))) | exact Or.inr (Or.inr (Or.inr (Or.inr (Or.inr (Or.inr (Or.inr (Or.inr (Or.inr (Or.inr (Or.inl (e))))))))))) | exact Or.inr (Or.inr (Or.inr (Or.inr (Or.inr (Or.inr (Or.inr (Or.inr (Or.inr (Or.inr (Or.inr (e)))))))))))) (fun x k hx => by simp only [wJ_mSide_opened_b77] at hx; have e := hx; exact e)
  · refine fe_it fe_no ?_
    refine fe_it ?_ fe_no
    refine fe_it fe_no ?_
    refine fe_it ?_ fe_no
    refine fe_it fe_no ?_
    refine fe_it ?_ fe_no
    refine fe_I Fe.rf (Or.inr (Or.inr (Or.inr (Or.inr (Or.inr (Or.inr (Or.inr (Or.inl (rfl))))))))) (fun h22 F1 => ?_)
    exact fe_j F1 (hk46 _ _ _ _ _ _) (fun x k hx => by simp only [wI_mSide_opened_b46, F1.r] at hx; rcases hx with e | e | e | e | e | e | e | e | e | e | e | e <;> first | exact Or.inl (e) | exact Or.inr (Or.inl (e)) | exact Or.inr (Or.inr (Or.inl (e))) | exact Or.inr (Or.inr (Or.inr (Or.inl (e)))) | exact Or.inr (Or.inr (Or.inr (Or.inr (Or.inl (e))))) | exact Or.inr (Or.inr (Or.inr (Or.inr (Or.inr (Or.inl (e)))))) | exact Or.inr (Or.inr (Or.inr (Or.inr (Or.inr (Or.inr (Or.inl (e))))))) | exact Or.inr (Or.inr (Or.inr (Or.inr (Or.inr (Or.inr (Or.inr (Or.inl (e)))))))) | exact Or.inr (Or.inr (Or.inr (Or.inr (Or.inr (Or.inr (Or.inr (Or.inr (Or.inl (e))))))))) | exact Or.inr (Or.inr (Or.inr (Or.inr (Or.inr (Or.inr (Or.inr (Or.inr (Or.inr (Or.inl (e)))))))))) | exact Or.inr (Or.inr (Or.inr (Or.inr (Or.inr (Or.inr (Or.inr (Or.inr (Or.inr (Or.inr (Or.inl (e))))))))))) | exact Or.inr (Or.inr (Or.inr (Or.inr (Or.inr (Or.inr (Or.inr (Or.inr (Or.inr (Or.inr (Or.inr (e)))))))))))) (fun x k hx => by simp only [wJ_mSide_opened_b46, F1.r] at hx; have e := hx; exact e)
theorem fe_mSide_opened_b46_lp (n : Nat) : ∀ (v0 : Nat) (v1 : Nat) (v2 : Nat) (v3 : Int) (v4 : Int) (h : Hp), Feo (wI_mSide_opened_b46 v0 v1 v2 v3 v4 h) (wJ_mSide_opened_b46 v0 v1 v2 v3 v4 h) h id (f_mSide_opened_b46_lp n v0 v1 v2 v3 v4 h) := by
  induction n with
  | zero => intro v0 v1 v2 v3 v4 h; exact fe_no
  | succ n ih => intro v0 v1 v2 v3 v4 h; exact fe_mSide_opened_b46 ih v0 v1 v2 v3 v4 h
theorem fe_mSide_opened_b16 (v0 : Nat) (v1 : Nat) (v2 : Nat) (v3 : Int) (h : Hp) : Feo (wI_mSide_opened_b16 v0 v1 v2 v3 h) (wJ_mSide_opened_b16 v0 v1 v2 v3 h) h id (f_mSide_opened_b16 v0 v1 v2 v3 h) := by
  unfold f_mSide_opened_b16
  refine fe_it ?_ ?_
  · exact fe_j Fe.rf (fe_mSide_opened_b77 _ _ _) (fun x k hx => by simp only [wI_mSide_opened_b77] at hx; rcases hx with e | e | e | e | e | e | e | e | e | e | e <;> first | exact Or.inl (e) | exact Or.inr (Or.inl (e)) | exact Or.inr (Or.inr (Or.inl (e))) | exact Or.inr (Or.inr (Or.inr (Or.inl (e)))) | exact Or.inr (Or.inr (Or.inr (Or.inr (Or.inl (e))))) | exact Or.inr (Or.inr (Or.inr (Or.inr (Or.inr (Or.inl (e)))))) | exact Or.inr (Or.inr (Or.inr (Or.inr (Or.inr (Or.inr (Or.inl (e))))))) | exact Or.inr (Or.inr (Or.inr (Or.inr (Or.inr (Or.inr (Or.inr (Or.inr (Or.inl (e))))))))) | exact Or.inr (Or.inr (Or.inr (Or.inr (Or.inr (Or.inr (Or.inr (Or.inr (Or.inr (Or.inl (e)))))))))) | exact Or.inr (Or.inr (Or.inr (Or.inr (Or.inr (Or.inr (Or.inr (Or.inr (Or.inr (Or.inr (Or.inr (Or.inr (Or.inl (e))))))))))))) | exact Or.inr (Or.inr (Or.inr (Or.inr (Or.inr (Or.inr (Or.inr (Or.inr (Or.inr (Or.inr (Or.inr (Or.inr (Or.inr (e)))))))))))))) (fun x k hx => by simp only [wJ_mSide_opened_b77] at hx; have e := hx; exact e)
  · refine fe_it fe_no ?_
    refine fe_it ?_ fe_no
    refine fe_it ?_ ?_
    · exact fe_j Fe.rf (fe_mSide_opened_b77 _ _ _) (fun x k hx => by simp only [wI_mSide_opened_b77] at hx; rcases hx with e | e | e | e | e | e | e | e | e | e | e <;> first | exact Or.inl (e) | exact Or.inr (Or.inl (e)) | exact Or.inr (Or.inr (Or.inl (e))) | exact Or.inr (Or.inr (Or.inr (Or.inl (e)))) | exact Or.inr (Or.inr (Or.inr (Or.inr (Or.inl (e))))) | exact Or.inr (Or.inr (Or.inr (Or.inr (Or.inr (Or.inl (e)))))) | exact Or.inr (Or.inr (Or.inr (Or.inr (Or.inr (Or.inr (Or.inl (e))))))) | exact Or.inr (Or.inr (Or.inr (Or.inr (Or.inr (Or.inr (Or.inr (Or.inr (Or.inl (e))))))))) | exact Or.inr (Or.inr (Or.inr (Or.inr (Or.inr (Or.inr (Or.inr (Or.inr (Or.inr (Or.inl (e)))))))))) | exact Or.inr (Or.inr (Or.inr (Or.inr (Or.inr (Or.inr (Or.inr (Or.inr (Or.inr (Or.inr (Or.inr (Or.inr (Or.inl (e))))))))))))) | exact Or.inr (Or.inr (Or.inr (Or.inr (Or.inr (Or.inr (Or.inr (Or.inr (Or.inr (Or.inr (Or.inr (Or.inr (Or.inr (e)))))))))))))) (fun x k hx => by simp only [wJ_mSide_opened_b77] at hx; have e := hx; exact e)
    · refine fe_I Fe.rf (Or.inr (Or.inr (Or.inr (Or.inr (Or.inr (Or.inr (Or.inr (Or.inr (Or.inr (Or.inr (Or.inr (Or.inl (⟨rfl, rfl⟩))))))))))))) (fun h7 F1 => ?_)
      refine fe_it ?_ fe_no
      refine fe_I F1 (Or.inr (Or.inr (Or.inr (Or.inr (Or.inr (Or.inr (Or.inr (Or.inr (Or.inr (Or.inr (Or.inl (⟨rfl, rfl⟩)))))))))))) (fun h9 F2 => ?_)
      exact fe_j F2 (fe_mSide_opened_b46_lp FU _ _ _ _ _ _) (fun x k hx => by simp only [wI_mSide_opened_b46, F1.r, F2.r] at hx; rcases hx with e | e | e | e | e | e | e | e | e | e | e | e <;> first | exact Or.inl (e) | exact Or.inr (Or.inl (e)) | exact Or.inr (Or.inr (Or.inl (e))) | exact Or.inr (Or.inr (Or.inr (Or.inl (e)))) | exact Or.inr (Or.inr (Or.inr (Or.inr (Or.inl (e))))) | exact Or.inr (Or.inr (Or.inr (Or.inr (Or.inr (Or.inl (e)))))) | exact Or.inr (Or.inr (Or.inr (Or.inr (Or.inr (Or.inr (Or.inl (e))))))) | exact Or.inr (Or.inr (Or.inr (Or.inr (Or.inr (Or.inr (Or.inr (Or.inl (e)))))))) | exact Or.inr (Or.inr (Or.inr (Or.inr (Or.inr (Or.inr (Or.inr (Or.inr (Or.inl (e))))))))) | exact Or.inr (Or.inr (Or.inr (Or.inr (Or.inr (Or.inr (Or.inr (Or.inr (Or.inr (Or.inl (e)))))))))) | exact Or.inr (Or.inr (Or.inr (Or.inr (Or.inr (Or.inr (Or.inr (Or.inr (Or.inr (Or.inr (Or.inr (Or.inr (Or.inl (e))))))))))))) | exact Or.inr (Or.inr (Or.inr (Or.inr (Or.inr (Or.inr (Or.inr (Or.inr (Or.inr (Or.inr (Or.inr (Or.inr (Or.inr (e)))))))))))))) (fun x k hx => by simp only [wJ_mSide_opened_b46, F1.r, F2.r] at hx; have e := hx; exact e)
theorem fe_mSide_opened (v0 : Nat) (v1 : Nat) (v2 : Nat) (v3 : Int) (h : Hp) : Feo (wI_mSide_opened v0 v1 v2 v3 h) (wJ_mSide_opened v0 v1 v2 v3 h) h id (f_mSide_opened v0 v1 v2 v3 h) := by
  unfold f_mSide_opened
  refine fe_it ?_ ?_
  · exact fe_j Fe.rf (fe_mSide_opened_b16 _ _ _ _ _) (fun x k hx => by simp only [wI_mSide_opened_b16] at hx; rcases hx with e | e | e | e | e | e | e | e | e | e | e | e | e | e <;> first | exact Or.inr (Or.inr (Or.inr (Or.inr (Or.inr (Or.inr (Or.inr (Or.inr (Or.inr (Or.inr (Or.inr (Or.inl (e)))))))))))) | exact Or.inr (Or.inr (Or.inr (Or.inr (Or.inr (Or.inr (Or.inr (Or.inr (Or.inr (Or.inr (Or.inr (Or.inr (Or.inr (Or.inr (Or.inr (Or.inr (Or.inr (Or.inr (Or.inr (Or.inr (Or.inr (Or.inr (Or.inr (Or.inr (Or.inr (Or.inr (Or.inr (Or.inr (Or.inl (e))))))))))))))))))))))))))))) | exact Or.inr (Or.inr (Or.inr (Or.inr (Or.inr (Or.inr (Or.inr (Or.inr (Or.inr (Or.inr (Or.inr (Or.inr (Or.inr (Or.inr (Or.inr (Or.inr (Or.inr (Or.inr (Or.inr (Or.inr (Or.inr (Or.inr (Or.inr (Or.inr (Or.inr (Or.inr (Or.inr (Or.inr (Or.inr (Or.inl (e)))))))))))))))))))))))))))))) | exact Or.inr (Or.inr (Or.inr (Or.inr (Or.inr (Or.inr (Or.inr (Or.inr (Or.inr (Or.inr (Or.inr (Or.inr (Or.inr (Or.inr (Or.inr (Or.inr (Or.inr (Or.inr (Or.inr (Or.inr (Or.inr (Or.inr (Or.inr (Or.inr (Or.inr (Or.inr (Or.inr (Or.inr (Or.inr (Or.inr (Or.inl (e))))))))))))))))))))))))))))))) | exact Or.inr (Or.inr (Or.inr (Or.inr (Or.inr (Or.inr (Or.inr (Or.inr (Or.inr (Or.inr (Or.inr (Or.inr (Or.inr (Or.inr (Or.inr (Or.inr (Or.inr (Or.inr (Or.inr (Or.inr (Or.inr (Or.inr (Or.inr (Or.inr (Or.inr (Or.inr (Or.inr (Or.inr (Or.inr (Or.inr (Or.inr (Or.inl (e)))))))))))))))))))))))))))))))) | exact Or.inr (Or.inr (Or.inr (Or.inr (Or.inr (Or.inr (Or.inr (Or.inr (Or.inr (Or.inr (Or.inr (Or.inr (Or.inr (Or.inr (Or.inr (Or.inr (Or.inr (Or.inr (Or.inr (Or.inr (Or.inr (Or.inr (Or.inr (Or.inr (Or.inr (Or.inr (Or.inr (Or.inr (Or.inr (Or.inr (Or.inr (Or.inr (Or.inl (e))))))))))))))))))))))))))))))))) | exact Or.inr (Or.inr (Or.inr (Or.inr (Or.inr (Or.inr (Or.inr (Or.inr (Or.inr (Or.inr (Or.inr (Or.inr (Or.inr (Or.inr (Or.inr (Or.inr (Or.inr (Or.inr (Or.inr (Or.inr (Or.inr (Or.inr (Or.inr (Or.inr (Or.inr (Or.inr (Or.inr (Or.inr (Or.inr (Or.inr (Or.inr (Or.inr (Or.inr (Or.inl (e)))))))))))))))))))))))))))))))))) | exact Or.inr (Or.inr (Or.inr (Or.inr (Or.inr (Or.inr (Or.inr (Or.inr (Or.inr (Or.inr (Or.inr (Or.inr (Or.inr (Or.inr (Or.inr (Or.inr (Or.inr (Or.inr (Or.inr (Or.inr (Or.inr (Or.inr (Or.inr (Or.inr (Or.inr (Or.inr (Or.inr (Or.inr (Or.inr (Or.inr (Or.inr (Or.inr (Or.inr (Or.inr (Or.inl (e))))))))))))))))))))))))))))))))))) | exact Or.inr (Or.inr (Or.inr (Or.inr (Or.inr (Or.inr (Or.inr (Or.inr (Or.inr (Or.inr (Or.inr (Or.inr (Or.inr (Or.inr (Or.inr (Or.inr (Or.inr (Or.inr (Or.inr (Or.inr (Or.inr (Or.inr (Or.inr (Or.inr (Or.inr (Or.inr (Or.inr (Or.inr (Or.inr (Or.inr (Or.inr (Or.inr (Or.inr (Or.inr (Or.inr (Or.inr (Or.inr (Or.inr (Or.inr (Or.inl (e)))))))))))))))))))))))))))))))))))))))) | exact Or.inr (Or.inr (Or.inr (Or.inr (Or.inr (Or.inr (Or.inr (Or.inr (Or.inr (Or.inr (Or.inr (Or.inr (Or.inr (Or.inr (Or.inr (Or.inr (Or.inr (Or.inr (Or.inr (Or.inr (Or.inr (Or.inr (Or.inr (Or.inr (Or.inr (Or.inr (Or.inr (Or.inr (Or.inr (Or.inr (Or.inr (Or.inr (Or.inr (Or.inr (Or.inr (Or.inr (Or.inr (Or.inr (Or.inr (Or.inr (Or.inr (Or.inr (Or.inl (e))))))))))))))))))))))))))))))))))))))))))) | exact Or.inr (Or.inr (Or.inr (Or.inr (Or.inr (Or.inr (Or.inr (Or.inr (Or.inr (Or.inr (Or.inr (Or.inr (Or.inr (Or.inr (Or.inr (Or.inr (Or.inr (Or.inr (Or.inr (Or.inr (Or.inr (Or.inr (Or.inr (Or.inr (Or.inr (Or.inr (Or.inr (Or.inr (Or.inr (Or.inr (Or.inr (Or.inr (Or.inr (Or.inr (Or.inr (Or.inr (Or.inr (Or.inr (Or.inr (Or.inr (Or.inr (Or.inr (Or.inr (Or.inl (e)))))))))))))))))))))))))))))))))))))))))))) | exact Or.inr (Or.inr (Or.inr (Or.inr (Or.inr (Or.inr (Or.inr (Or.inr (Or.inr (Or.inr (Or.inr (Or.inr (Or.inr (Or.inr (Or.inr (Or.inr (Or.inr (Or.inr (Or.inr (Or.inr (Or.inr (Or.inr (Or.inr (Or.inr (Or.inr (Or.inr (Or.inr (Or.inr (Or.inr (Or.inr (Or.inr (Or.inr (Or.inr (Or.inr (Or.inr (Or.inr (Or.inr (Or.inr (Or.inr (Or.inr (Or.inr (Or.inr (Or.inr (Or.inr (Or.inl (e))))))))))))))))))))))))))))))))))))))))))))) | exact Or.inr (Or.inr (Or.inr (Or.inr (Or.inr (Or.inr (Or.inr (Or.inr (Or.inr (Or.inr (Or.inr (Or.inr (Or.inr (Or.inr (Or.inr (Or.inr (Or.inr (Or.inr (Or.inr (Or.inr (Or.inr (Or.inr (Or.inr (Or.inr (Or.inr (Or.inr (Or.inr (Or.inr (Or.inr (Or.inr (Or.inr (Or.inr (Or.inr (Or.inr (Or.inr (Or.inr (Or.inr (Or.inr (Or.inr (Or.inr (Or.inr (Or.inr (Or.inr (Or.inr (Or.inr (Or.inr (Or.inl (e))))))))))))))))))))))))))))))))))))))))))))))) | exact Or.inr (Or.inr (Or.inr (Or.inr (Or.inr (Or.inr (Or.inr (Or.inr (Or.inr (Or.inr (Or.inr (Or.inr (Or.inr (Or.inr (Or.inr (Or.inr (Or.inr (Or.inr (Or.inr (Or.inr (Or.inr (Or.inr (Or.inr (Or.inr (Or.inr (Or.inr (Or.inr (Or.inr (Or.inr (Or.inr (Or.inr (Or.inr (Or.inr (Or.inr (Or.inr (Or.inr (Or.inr (Or.inr (Or.inr (Or.inr (Or.inr (Or.inr (Or.inr (Or.inr (Or.inr (Or.inr (Or.inr (e)))))))))))))))))))))))))))))))))))))))))))))))) (fun x k hx => by simp only [wJ_mSide_opened_b16] at hx; have e := hx; exact Or.inr (Or.inr (Or.inr (Or.inr (Or.inr (Or.inr (e)))))))
  · refine fe_it fe_no ?_
    refine fe_it ?_ fe_no
    refine fe_b1 Fe.rf (fe_mSide_begin _ _ _ _) (fun x k hx => by simp only [wI_mSide_begin] at hx; rcases hx with e | e | e | e | e | e | e | e | e | e | e | e | e | e | e | e | e | e | e | e | e | e | e | e | e | e | e | e | e | e | e | e | e | e | e | e | e | e <;> first | exact Or.inl (e) | exact Or.inr (Or.inl (e)) | exact Or.inr (Or.inr (Or.inl (e))) | exact Or.inr (Or.inr (Or.inr (Or.inl (e)))) | exact Or.inr (Or.inr (Or.inr (Or.inr (Or.inl (e))))) | exact Or.inr (Or.inr (Or.inr (Or.inr (Or.inr (Or.inl (e)))))) | exact Or.inr (Or.inr (Or.inr (Or.inr (Or.inr (Or.inr (Or.inl (e))))))) | exact Or.inr (Or.inr (Or.inr (Or.inr (Or.inr (Or.inr (Or.inr (Or.inl (e)))))))) | exact Or.inr (Or.inr (Or.inr (Or.inr (Or.inr (Or.inr (Or.inr (Or.inr (Or.inl (e))))))))) | exact Or.inr (Or.inr (Or.inr (Or.inr (Or.inr (Or.inr (Or.inr (Or.inr (Or.inr (Or.inl (e)))))))))) | exact Or.inr (Or.inr (Or.inr (Or.inr (Or.inr (Or.inr (Or.inr (Or.inr (Or.inr (Or.inr (Or.inl (e))))))))))) | exact Or.inr (Or.inr (Or.inr (Or.inr (Or.inr (Or.inr (Or.inr (Or.inr (Or.inr (Or.inr (Or.inr (Or.inr (Or.inl (e))))))))))))) | exact Or.inr (Or.inr (Or.inr (Or.inr (Or.inr (Or.inr (Or.inr (Or.inr (Or.inr (Or.inr (Or.inr (Or.inr (Or.inr (Or.inl (e)))))))))))))) | exact Or.inr (Or.inr (Or.inr (Or.inr (Or.inr (Or.inr (Or.inr (Or.inr (Or.inr (Or.inr (Or.inr (Or.inr (Or.inr (Or.inr (Or.inl (e))))))))))))))) | exact Or.inr (Or.inr (Or.inr (Or.inr (Or.inr (Or.inr (Or.inr (Or.inr (Or.inr (Or.inr (Or.inr (Or.inr (Or.inr (Or.inr (Or.inr (Or.inl (e)))))))))))))))) | exact Or.inr (Or.inr (Or.inr (Or.inr (Or.inr (Or.inr (Or.inr (Or.inr (Or.inr (Or.inr (Or.inr (Or.inr (Or.inr (Or.inr (Or.inr (Or.inr (Or.inl (e))))))))))))))))) | exact Or.inr (Or.inr (Or.inr (Or.inr (Or.inr (Or.inr (Or.inr (Or.inr (Or.inr (Or.inr (Or.inr (Or.inr (Or.inr (Or.inr (Or.inr (Or.inr (Or.inr (Or.inl (e)))))))))))))))))) | exact Or.inr (Or.inr (Or.inr (Or.inr (Or.inr (Or.inr (Or.inr (Or.inr (Or.inr (Or.inr (Or.inr (Or.inr (Or.inr (Or.inr (Or.inr (Or.inr (Or.inr (Or.inr (Or.inl (e))))))))))))))))))) | exact Or.inr (Or.inr (Or.inr (Or.inr (Or.inr (Or.inr (Or.inr (Or.inr (Or.inr (Or.inr (Or.inr (Or.inr (Or.inr (Or.inr (Or.inr (Or.inr (Or.inr (Or.inr (Or.inr (Or.inl (e)))))))))))))))))))) | exact Or.inr (Or.inr (Or.inr (Or.inr (Or.inr (Or.inr (Or.inr (Or.inr (Or.inr (Or.inr (Or.inr (Or.inr (Or.inr (Or.inr (Or.inr (Or.inr (Or.inr (Or.inr (Or.inr (Or.inr (Or.inl (e))))))))))))))))))))) | exact Or.inr (Or.inr (Or.inr (Or.inr (Or.inr (Or.inr (Or.inr (Or.inr (Or.inr (Or.inr (Or.inr (Or.inr (Or.inr (Or.inr (Or.inr (Or.inr (Or.inr (Or.inr (Or.inr (Or.inr (Or.inr (Or.inl (e)))))))))))))))))))))) | exact Or.inr (Or.inr (Or.inr (Or.inr (Or.inr (Or.inr (Or.inr (Or.inr (Or.inr (Or.inr (Or.inr (Or.inr (Or.inr (Or.inr (Or.inr (Or.inr (Or.inr (Or.inr (Or.inr (Or.inr (Or.inr (Or.inr (Or.inl (e))))))))))))))))))))))) | exact Or.inr (Or.inr (Or.inr (Or.inr (Or.inr (Or.inr (Or.inr (Or.inr (Or.inr (Or.inr (Or.inr (Or.inr (Or.inr (Or.inr (Or.inr (Or.inr (Or.inr (Or.inr (Or.inr (Or.inr (Or.inr (Or.inr (Or.inr (Or.inl (e)))))))))))))))))))))))) | exact Or.inr (Or.inr (Or.inr (Or.inr (Or.inr (Or.inr (Or.inr (Or.inr (Or.inr (Or.inr (Or.inr (Or.inr (Or.inr (Or.inr (Or.inr (Or.inr (Or.inr (Or.inr (Or.inr (Or.inr (Or.inr (Or.inr (Or.inr (Or.inr (Or.inl (e))))))))))))))))))))))))) | exact Or.inr (Or.inr (Or.inr (Or.inr (Or.inr (Or.inr (Or.inr (Or.inr (Or.inr (Or.inr (Or.inr (Or.inr (Or.inr (Or.inr (Or.inr (Or.inr (Or.inr (Or.inr (Or.inr (Or.inr (Or.inr (Or.inr (Or.inr (Or.inr (Or.inr (Or.inl (e)))))))))))))))))))))))))) | exact Or.inr (Or.inr (Or.inr (Or.inr (Or.inr (Or.inr (Or.inr (Or.inr (Or.inr (Or.inr (Or.inr (Or.inr (Or.inr (Or.inr (Or.inr (Or.inr (Or.inr (Or.inr (Or.inr (Or.inr (Or.inr (Or.inr (Or.inr (Or.inr (Or.inr (Or.inr (Or.inl (e))))))))))))))))))))))))))) | exact Or.inr (Or.inr (Or.inr (Or.inr (Or.inr (Or.inr (Or.inr (Or.inr (Or.inr (Or.inr (Or.inr (Or.inr (Or.inr (Or.inr (Or.inr (Or.inr (Or.inr (Or.inr (Or.inr (Or.inr (Or.inr (Or.inr (Or.inr (Or.inr (Or.inr (Or.inr (Or.inr (Or.inl (e)))))))))))))))))))))))))))) | exact Or.inr (Or.inr (Or.inr (Or.inr (Or.inr (Or.inr (Or.inr (Or.inr (Or.inr (Or.inr (Or.inr (Or.inr (Or.inr (Or.inr (Or.inr (Or.inr (Or.inr (Or.inr (Or.inr (Or.inr (Or.inr (Or.inr (Or.inr (Or.inr (Or.inr (Or.inr (Or.inr (Or.inr (Or.inr (Or.inr (Or.inr (Or.inr (Or.inr (Or.inr (Or.inl (e))))))))))))))))))))))))))))))))))) | exact Or.inr (Or.inr (Or.inr (Or.inr (Or.inr (Or.inr (Or.inr (Or.inr (Or.inr (Or.inr (Or.inr (Or.inr (Or.inr (Or.inr (Or.inr (Or.inr (Or.inr (Or.inr (Or.inr (Or.inr (Or.inr (Or.inr (Or.inr (Or.inr (Or.inr (Or.inr (Or.inr (Or.inr (Or.inr (Or.inr (Or.inr (Or.inr (Or.inr (Or.inr (Or.inr (Or.inl (e)))))))))))))))))))))))))))))))))))) | exact Or.inr (Or.inr (Or.inr (Or.inr (Or.inr (Or.inr (Or.inr (Or.inr (Or.inr (Or.inr (Or.inr (Or.inr (Or.inr (Or.inr (Or.inr (Or.inr (Or.inr (Or.inr (Or.inr (Or.inr (Or.inr (Or.inr (Or.inr (Or.inr (Or.inr (Or.inr (Or.inr (Or.inr (Or.inr (Or.inr (Or.inr (Or.inr (Or.inr (Or.inr (Or.inr (Or.inr (Or.inl (e))))))))))))))))))))))))))))))))))))) | exact Or.inr (Or.inr (Or.inr (Or.inr (Or.inr (Or.inr (Or.inr (Or.inr (Or.inr (Or.inr (Or.inr (Or.inr (Or.inr (Or.inr (Or.inr (Or.inr (Or.inr (Or.inr (Or.inr (Or.inr (Or.inr (Or.inr (Or.inr (Or.inr (Or.inr (Or.inr (Or.inr (Or.inr (Or.inr (Or.inr (Or.inr (Or.inr (Or.inr (Or.inr (Or.inr (Or.inr (Or.inr (Or.inl (e)))))))))))))))))))))))))))))))))))))) | exact Or.inr (Or.inr (Or.inr (Or.inr (Or.inr (Or.inr (Or.inr (Or.inr (Or.inr (Or.inr (Or.inr (Or.inr (Or.inr (Or.inr (Or.inr (Or.inr (Or.inr (Or.inr (Or.inr (Or.inr (Or.inr (Or.inr (Or.inr (Or.inr (Or.inr (Or.inr (Or.inr (Or.inr (Or.inr (Or.inr (Or.inr (Or.inr (Or.inr (Or.inr (Or.inr (Or.inr (Or.inr (Or.inr (Or.inl (e))))))))))))))))))))))))))))))))))))))) | exact Or.inr (Or.inr (Or.inr (Or.inr (Or.inr (Or.inr (Or.inr (Or.inr (Or.inr (Or.inr (Or.inr (Or.inr (Or.inr (Or.inr (Or.inr (Or.inr (Or.inr (Or.inr (Or.inr (Or.inr (Or.inr (Or.inr (Or.inr (Or.inr (Or.inr (Or.inr (Or.inr (Or.inr (Or.inr (Or.inr (Or.inr (Or.inr (Or.inr (Or.inr (Or.inr (Or.inr (Or.inr (Or.inr (Or.inr (Or.inr (Or.inl (e))))))))))))))))))))))))))))))))))))))))) | exact Or.inr (Or.inr (Or.inr (Or.inr (Or.inr (Or.inr (Or.inr (Or.inr (Or.inr (Or.inr (Or.inr (Or.inr (Or.inr (Or.inr (Or.inr (Or.inr (Or.inr (Or.inr (Or.inr (Or.inr (Or.inr (Or.inr (Or.inr (Or.inr (Or.inr (Or.inr (Or.inr (Or.inr (Or.inr (Or.inr (Or.inr (Or.inr (Or.inr (Or.inr (Or.inr (Or.inr (Or.inr (Or.inr (Or.inr (Or.inr (Or.inr (Or.inl (e)))))))))))))))))))))))))))))))))))))))))) | exact Or.inr (Or.inr (Or.inr (Or.inr (Or.inr (Or.inr (Or.inr (Or.inr (Or.inr (Or.inr (Or.inr (Or.inr (Or.inr (Or.inr (Or.inr (Or.inr (Or.inr (Or.inr (Or.inr (Or.inr (Or.inr (Or.inr (Or.inr (Or.inr (Or.inr (Or.inr (Or.inr (Or.inr (Or.inr (Or.inr (Or.inr (Or.inr (Or.inr (Or.inr (Or.inr (Or.inr (Or.inr (Or.inr (Or.inr (Or.inr (Or.inr (Or.inr (Or.inr (Or.inl (e)))))))))))))))))))))))))))))))))))))))))))) | exact Or.inr (Or.inr (Or.inr (Or.inr (Or.inr (Or.inr (Or.inr (Or.inr (Or.inr (Or.inr (Or.inr (Or.inr (Or.inr (Or.inr (Or.inr (Or.inr (Or.inr (Or.inr (Or.inr (Or.inr (Or.inr (Or.inr (Or.inr (Or.inr (Or.inr (Or.inr (Or.inr (Or.inr (Or.inr (Or.inr (Or.inr (Or.inr (Or.inr (Or.inr (Or.inr (Or.inr (Or.inr (Or.inr (Or.inr (Or.inr (Or.inr (Or.inr (Or.inr (Or.inr (Or.inr (Or.inl (e)))))))))))))))))))))))))))))))))))))))))))))) | exact Or.inr (Or.inr (Or.inr (Or.inr (Or.inr (Or.inr (Or.inr (Or.inr (Or.inr (Or.inr (Or.inr (Or.inr (Or.inr (Or.inr (Or.inr (Or.inr (Or.inr (Or.inr (Or.inr (Or.inr (Or.inr (Or.inr (Or.inr (Or.inr (Or.inr (Or.inr (Or.inr (Or.inr (Or.inr (Or.inr (Or.inr (Or.inr (Or.inr (Or.inr (Or.inr (Or.inr (Or.inr (Or.inr (Or.inr (Or.inr (Or.inr (Or.inr (Or.inr (Or.inr (Or.inr (Or.inr (Or.inl (e))))))))))))))))))))))))))))))))))))))))))))))) | exact Or.inr (Or.inr (Or.inr (Or.inr (Or.inr (Or.inr (Or.inr (Or.inr (Or.inr (Or.inr (Or.inr (Or.inr (Or.inr (Or.inr (Or.inr (Or.inr (Or.inr (Or.inr (Or.inr (Or.inr (Or.inr (Or.inr (Or.inr (Or.inr (Or.inr (Or.inr (Or.inr (Or.inr (Or.inr (Or.inr (Or.inr (Or.inr (Or.inr (Or.inr (Or.inr (Or.inr (Or.inr (Or.inr (Or.inr (Or.inr (Or.inr (Or.inr (Or.inr (Or.inr (Or.inr (Or.inr (Or.inr (e)))))))))))))))))))))))))))))))))))))))))))))))) (fun x k hx => by simp only [wJ_mSide_begin] at hx; rcases hx with e | e | e | e | e | e <;> first | exact Or.inl (e) | exact Or.inr (Or.inl (e)) | exact Or.inr (Or.inr (Or.inl (e))) | exact Or.inr (Or.inr (Or.inr (Or.inl (e)))) | exact Or.inr (Or.inr (Or.inr (Or.inr (Or.inl (e))))) | exact Or.inr (Or.inr (Or.inr (Or.inr (Or.inr (Or.inl (e))))))) (fun h3 F1 => ?_)
    exact fe_j F1 (fe_mSide_opened_b16 _ _ _ _ _) (fun x k hx => by simp only [wI_mSide_opened_b16, F1.r] at hx; rcases hx with e | e | e | e | e | e | e | e | e | e | e | e | e | e <;> first | exact Or.inr (Or.inr (Or.inr (Or.inr (Or.inr (Or.inr (Or.inr (Or.inr (Or.inr (Or.inr (Or.inr (Or.inl (e)))))))))))) | exact Or.inr (Or.inr (Or.inr (Or.inr (Or.inr (Or.inr (Or.inr (Or.inr (Or.inr (Or.inr (Or.inr (Or.inr (Or.inr (Or.inr (Or.inr (Or.inr (Or.inr (Or.inr (Or.inr (Or.inr (Or.inr (Or.inr (Or.inr (Or.inr (Or.inr (Or.inr (Or.inr (Or.inr (Or.inl (e))))))))))))))))))))))))))))) | exact Or.inr (Or.inr (Or.inr (Or.inr (Or.inr (Or.inr (Or.inr (Or.inr (Or.inr (Or.inr (Or.inr (Or.inr (Or.inr (Or.inr (Or.inr (Or.inr (Or.inr (Or.inr (Or.inr (Or.inr (Or.inr (Or.inr (Or.inr (Or.inr (Or.inr (Or.inr (Or.inr (Or.inr (Or.inr (Or.inl (e)))))))))))))))))))))))))))))) | exact Or.inr (Or.inr (Or.inr (Or.inr (Or.inr (Or.inr (Or.inr (Or.inr (Or.inr (Or.inr (Or.inr (Or.inr (Or.inr (Or.inr (Or.inr (Or.inr (Or.inr (Or.inr (Or.inr (Or.inr (Or.inr (Or.inr (Or.inr (Or.inr (Or.inr (Or.inr (Or.inr (Or.inr (Or.inr (Or.inr (Or.inl (e))))))))))))))))))))))))))))))) | exact Or.inr (Or.inr (Or.inr (Or.inr (Or.inr (Or.inr (Or.inr (Or.inr (Or.inr (Or.inr (Or.inr (Or.inr (Or.inr (Or.inr (Or.inr (Or.inr (Or.inr (Or.inr (Or.inr (Or.inr (Or.inr (Or.inr (Or.inr (Or.inr (Or.inr (Or.inr (Or.inr (Or.inr (Or.inr (Or.inr (Or.inr (Or.inl (e)))))))))))))))))))))))))))))))) | exact Or.inr (Or.inr (Or.inr (Or.inr (Or.inr (Or.inr (Or.inr (Or.inr (Or.inr (Or.inr (Or.inr (Or.inr (Or.inr (Or.inr (Or.inr (Or.inr (Or.inr (Or.inr (Or.inr (Or.inr (Or.inr (Or.inr (Or.inr (Or.inr (Or.inr (Or.inr (Or.inr (Or.inr (Or.inr (Or.inr (Or.inr (Or.inr (Or.inl (e))))))))))))))))))))))))))))))))) | exact Or.inr (Or.inr (Or.inr (Or.inr (Or.inr (Or.inr (Or.inr (Or.inr (Or.inr (Or.inr (Or.inr (Or.inr (Or.inr (Or.inr (Or.inr (Or.inr (Or.inr (Or.inr (Or.inr (Or.inr (Or.inr (Or.inr (Or.inr (Or.inr (Or.inr (Or.inr (Or.inr (Or.inr (Or.inr (Or.inr (Or.inr (Or.inr (Or.inr (Or.inl (e)))))))))))))))))))))))))))))))))) | exact Or.inr (Or.inr (Or.inr (Or.inr (Or.inr (Or.inr (Or.inr (Or.inr (Or.inr (Or.inr (Or.inr (Or.inr (Or.inr (Or.inr (Or.inr (Or.inr (Or.inr (Or.inr (Or.inr (Or.inr (Or.inr (Or.inr (Or.inr (Or.inr (Or.inr (Or.inr (Or.inr (Or.inr (Or.inr (Or.inr (Or.inr (Or.inr (Or.inr (Or.inr (Or.inl (e))))))))))))))))))))))))))))))))))) | exact Or.inr (Or.inr (Or.inr (Or.inr (Or.inr (Or.inr (Or.inr (Or.inr (Or.inr (Or.inr (Or.inr (Or.inr (Or.inr (Or.inr (Or.inr (Or.inr (Or.inr (Or.inr (Or.inr (Or.inr (Or.inr (Or.inr (Or.inr (Or.inr (Or.inr (Or.inr (Or.inr (Or.inr (Or.inr (Or.inr (Or.inr (Or.inr (Or.inr (Or.inr (Or.inr (Or.inr (Or.inr (Or.inr (Or.inr (Or.inl (e)))))))))))))))))))))))))))))))))))))))) | exact Or.inr (Or.inr (Or.inr (Or.inr (Or.inr (Or.inr (Or.inr (Or.inr (Or.inr (Or.inr (Or.inr (Or.inr (Or.inr (Or.inr (Or.inr (Or.inr (Or.inr (Or.inr (Or.inr (Or.inr (Or.inr (Or.inr (Or.inr (Or.inr (Or.inr (Or.inr (Or.inr (Or.inr (Or.inr (Or.inr (Or.inr (Or.inr (Or.inr (Or.inr (Or.inr (Or.inr (Or.inr (Or.inr (Or.inr (Or.inr (Or.inr (Or.inr (Or.inl (e))))))))))))))))))))))))))))))))))))))))))) | exact Or.inr (Or.inr (Or.inr (Or.inr (Or.inr (Or.inr (Or.inr (Or.inr (Or.inr (Or.inr (Or.inr (Or.inr (Or.inr (Or.inr (Or.inr (Or.inr (Or.inr (Or.inr (Or.inr (Or.inr (Or.inr (Or.inr (Or.inr (Or.inr (Or.inr (Or.inr (Or.inr (Or.inr (Or.inr (Or.inr (Or.inr (Or.inr (Or.inr (Or.inr (Or.inr (Or.inr (Or.inr (Or.inr (Or.inr (Or.inr (Or.inr (Or.inr (Or.inr (Or.inl (e)))))))))))))))))))))))))))))))))))))))))))) | exact Or.inr (Or.inr (Or.inr (Or.inr (Or.inr (Or.inr (Or.inr (Or.inr (Or.inr (Or.inr (Or.inr (Or.inr (Or.inr (Or.inr (Or.inr (Or.inr (Or.inr (Or.inr (Or.inr (Or.inr (Or.inr (Or.inr (Or.inr (Or.inr (Or.inr (Or.inr (Or.inr (Or.inr (Or.inr (Or.inr (Or.inr (Or.inr (Or.inr (Or.inr (Or.inr (Or.inr (Or.inr (Or.inr (Or.inr (Or.inr (Or.inr (Or.inr (Or.inr (Or.inr (Or.inl (e))))))))))))))))))))))))))))))))))))))))))))) | exact Or.inr (Or.inr (Or.inr (Or.inr (Or.inr (Or.inr (Or.inr (Or.inr (Or.inr (Or.inr (Or.inr (Or.inr (Or.inr (Or.inr (Or.inr (Or.inr (Or.inr (Or.inr (Or.inr (Or.inr (Or.inr (Or.inr (Or.inr (Or.inr (Or.inr (Or.inr (Or.inr (Or.inr (Or.inr (Or.inr (Or.inr (Or.inr (Or.inr (Or.inr (Or.inr (Or.inr (Or.inr (Or.inr (Or.inr (Or.inr (Or.inr (Or.inr (Or.inr (Or.inr (Or.inr (Or.inr (Or.inl (e))))))))))))))))))))))))))))))))))))))))))))))) | exact Or.inr (Or.inr (Or.inr (Or.inr (Or.inr (Or.inr (Or.inr (Or.inr (Or.inr (Or.inr (Or.inr (Or.inr (Or.inr (Or.inr (Or.inr (Or.inr (Or.inr (Or.inr (Or.inr (Or.inr (Or.inr (Or.inr (Or.inr (Or.inr (Or.inr (Or.inr (Or.inr (Or.inr (Or.inr (Or.inr (Or.inr (Or.inr (Or.inr (Or.inr (Or.inr (Or.inr (Or.inr (Or.inr (Or.inr (Or.inr (Or.inr (Or.inr (Or.inr (Or.inr (Or.inr (Or.inr (Or.inr (e)))))))))))))))))))))))))))))))))))))))))))))))) (fun x k hx => by simp only [wJ_mSide_opened_b16, F1.r] at hx; have e := hx; exact Or.inr (Or.inr (Or.inr (Or.inr (Or.inr (Or.inr (e)))))))
def wI_mWire_takeAck_b96 (v0 : Nat) (v1 : Int) (v4 : Int) (h : Hp) (x k : Nat) : Prop := (x = v0 ∧ k = 1) ∨ (x = v0 ∧ k = 3)
def wJ_mWire_takeAck_b96 (v0 : Nat) (v1 : Int) (v4 : Int) (h : Hp) (x k : Nat) : Prop := False
def wI_mWire_takeAck_b90 (v0 : Nat) (v1 : Int) (s0 : Nat) (s1 : Int) (h : Hp) (x k : Nat) : Prop := (x = s0 ∧ k = 8) ∨ (x = v0 ∧ k = 1) ∨ (x = v0 ∧ k = 3)
def wJ_mWire_takeAck_b90 (v0 : Nat) (v1 : Int) (s0 : Nat) (s1 : Int) (h : Hp) (x k : Nat) : Prop := False
def wI_mWire_takeAck_b74 (v0 : Nat) (v1 : Int) (v2 : Int) (h : Hp) (x k : Nat) : Prop := (x = v0 ∧ k = 1) ∨ (x = v0 ∧ k = 3) ∨ (x = v0 ∧ k = 8)
def wJ_mWire_takeAck_b74 (v0 : Nat) (v1 : Int) (v2 : Int) (h : Hp) (x k : Nat) : Prop := False
def wI_mWire_takeAck_b41 (v0 : Nat) (v1 : Int) (v2 : Int) (v4 : Int) (h : Hp) (x k : Nat) : Prop := (x = v0 ∧ k = 1) ∨ (x = v0 ∧ k = 3) ∨ (x = v0 ∧ k = 8)
def wJ_mWire_takeAck_b41 (v0 : Nat) (v1 : Int) (v2 : Int) (v4 : Int) (h : Hp) (x k : Nat) : Prop := False
def wI_mWire_takeAck (v0 : Nat) (v1 : Int) (h : Hp) (x k : Nat) : Prop := (x = v0 ∧ k = 1) ∨ (x = v0 ∧ k = 3) ∨ (x = v0 ∧ k = 8) ∨ (x = v0 ∧ k = 9)
def wJ_mWire_takeAck (v0 : Nat) (v1 : Int) (h : Hp) (x k : Nat) : Prop := x = hR h v0 5
theorem fe_mWire_takeAck_b96 {k96 : Nat → Int → Int → Hp → Option (Hp)} (hk96 : ∀ (v0 : Nat) (v1 : Int) (v4 : Int) (h : Hp), Feo (wI_mWire_takeAck_b96 v0 v1 v4 h) (wJ_mWire_takeAck_b96 v0 v1 v4 h) h id (k96 v0 v1 v4 h)) (v0 : Nat) (v1 : Int) (v4 : Int) (h : Hp) : Feo (wI_mWire_takeAck_b96 v0 v1 v4 h) (wJ_mWire_takeAck_b96 v0 v1 v4 h) h id (f_mWire_takeAck_b96 k96 v0 v1 v4 h) := by
  unfold f_mWire_takeAck_b96
  refine fe_it ?_ ?_
  · exact fe_so Fe.rf
  · refine fe_it ?_ ?_
    · exact fe_so Fe.rf
    · refine fe_b2 Fe.rf (fe_mWire_takeNumber _ _) (fun x k hx => by simp only [wI_mWire_takeNumber] at hx; rcases hx with e | e <;> first | exact Or.inl (e) | exact Or.inr (e)) (fun x k hx => False.elim hx) (fun r31 h29 F1 => ?_)
      exact fe_j F1 (hk96 _ _ _ _) (fun x k hx => by simp only [wI_mWire_takeAck_b96, F1.r] at hx; rcases hx with e | e <;> first | exact Or.inl (e) | exact Or.inr (e)) (fun x k hx => False.elim hx)
theorem fe_mWire_takeAck_b96_lp (n : Nat) : ∀ (v0 : Nat) (v1 : Int) (v4 : Int) (h : Hp), Feo (wI_mWire_takeAck_b96 v0 v1 v4 h) (wJ_mWire_takeAck_b96 v0 v1 v4 h) h id (f_mWire_takeAck_b96_lp n v0 v1 v4 h) := by
  induction n with
  | zero => intro v0 v1 v4 h; exact fe_no
  | succ n ih => intro v0 v1 v4 h; exact fe_mWire_takeAck_b96 ih v0 v1 v4 h
theorem fe_mWire_takeAck_b90 (v0 : Nat) (v1 : Int) (s0 : Nat) (s1 : Int) (h : Hp) : Feo (wI_mWire_takeAck_b90 v0 v1 s0 s1 h) (wJ_mWire_takeAck_b90 v0 v1 s0 s1 h) h id (f_mWire_takeAck_b90 v0 v1 s0 s1 h) := by
  unfold f_mWire_takeAck_b90
  refine fe_it fe_no ?_
  refine fe_I Fe.rf (Or.inl (⟨rfl, rfl⟩)) (fun h28 F1 => ?_)
  exact fe_j F1 (fe_mWire_takeAck_b96_lp FU _ _ _ _) (fun x k hx => by simp only [wI_mWire_takeAck_b96, F1.r] at hx; rcases hx with e | e <;> first | exact Or.inr (Or.inl (e)) | exact Or.inr (Or.inr (e))) (fun x k hx => False.elim hx)
theorem fe_mWire_takeAck_b74 (v0 : Nat) (v1 : Int) (v2 : Int) (h : Hp) : Feo (wI_mWire_takeAck_b74 v0 v1 v2 h) (wJ_mWire_takeAck_b74 v0 v1 v2 h) h id (f_mWire_takeAck_b74 v0 v1 v2 h) := by
  unfold f_mWire_takeAck_b74
  refine fe_it ?_ ?_
  · exact fe_j Fe.rf (fe_mWire_takeAck_b90 _ _ _ _ _) (fun x k hx => by simp only [wI_mWire_takeAck_b90] at hx; rcases hx with e | e | e <;> first | exact Or.inl (e) | exact Or.inr (Or.inl (e)) | exact Or.inr (Or.inr (e))) (fun x k hx => False.elim hx)
  · exact fe_j Fe.rf (fe_mWire_takeAck_b90 _ _ _ _ _) (fun x k hx => by simp only [wI_mWire_takeAck_b90] at hx; rcases hx with e | e | e <;> first | exact Or.inl (e) | exact Or.inr (Or.inl (e)) | exact Or.inr (Or.inr (e))) (fun x k hx => False.elim hx)
theorem fe_mWire_takeAck_b41 {k41 : Nat → Int → Int → Int → Hp → Option (Hp)} (hk41 : ∀ (v0 : Nat) (v1 : Int) (v2 : Int) (v4 : Int) (h : Hp), Feo (wI_mWire_takeAck_b41 v0 v1 v2 v4 h) (wJ_mWire_takeAck_b41 v0 v1 v2 v4 h) h id (k41 v0 v1 v2 v4 h)) (v0 : Nat) (v1 : Int) (v2 : Int) (v4 : Int) (h : Hp) : Feo (wI_mWire_takeAck_b41 v0 v1 v2 v4 h) (wJ_mWire_takeAck_b41 v0 v1 v2 v4 h) h id (f_mWire_takeAck_b41 k41 v0 v1 v2 v4 h) := by
  unfold f_mWire_takeAck_b41
  refine fe_it ?_ ?_
  · exact fe_j Fe.rf (fe_mWire_takeAck_b74 _ _ _ _) (fun x k hx => by simp only [wI_mWire_takeAck_b74] at hx; rcases hx with e | e | e <;> first | exact Or.inl (e) | exact Or.inr (Or.inl (e)) | exact Or.inr (Or.inr (e))) (fun x k hx => False.elim hx)
  · refine fe_it ?_ ?_
    · exact fe_j Fe.rf (fe_mWire_takeAck_b74 _ _ _ _) (fun x k hx => by simp only [wI_mWire_takeAck_b74] at hx; rcases hx with e | e | e <;> first | exact Or.inl (e) | exact Or.inr (Or.inl (e)) | exact Or.inr (Or.inr (e))) (fun x k hx => False.elim hx)
    · refine fe_b2 Fe.rf (fe_mWire_takeNumber _ _) (fun x k hx => by simp only [wI_mWire_takeNumber] at hx; rcases hx with e | e <;> first | exact Or.inl (e) | exact Or.inr (Or.inl (e))) (fun x k hx => False.elim hx) (fun r22 h20 F1 => ?_)
      refine fe_b2 F1 (fe_mWire_takeNumber _ _) (fun x k hx => by simp only [wI_mWire_takeNumber, F1.r] at hx; rcases hx with e | e <;> first | exact Or.inl (e) | exact Or.inr (Or.inl (e))) (fun x k hx => False.elim hx) (fun r25 h23 F2 => ?_)
      refine fe_v (fun y26 => ?_)
      exact fe_j F2 (hk41 _ _ _ _ _) (fun x k hx => by simp only [wI_mWire_takeAck_b41, F1.r, F2.r] at hx; rcases hx with e | e | e <;> first | exact Or.inl (e) | exact Or.inr (Or.inl (e)) | exact Or.inr (Or.inr (e))) (fun x k hx => False.elim hx)
theorem fe_mWire_takeAck_b41_lp (n : Nat) : ∀ (v0 : Nat) (v1 : Int) (v2 : Int) (v4 : Int) (h : Hp), Feo (wI_mWire_takeAck_b41 v0 v1 v2 v4 h) (wJ_mWire_takeAck_b41 v0 v1 v2 v4 h) h id (f_mWire_takeAck_b41_lp n v0 v1 v2 v4 h) := by
  induction n with
  | zero => intro v0 v1 v2 v4 h; exact fe_no
  | succ n ih => intro v0 v1 v2 v4 h; exact fe_mWire_takeAck_b41 ih v0 v1 v2 v4 h
theorem fe_mWire_takeAck (v0 : Nat) (v1 : Int) (h : Hp) : Feo (wI_mWire_takeAck v0 v1 h) (wJ_mWire_takeAck v0 v1 h) h id (f_mWire_takeAck v0 v1 h) := by
  unfold f_mWire_takeAck
  refine fe_b2 Fe.rf (fe_mWire_takeNumber _ _) (fun x k hx => by simp only [wI_mWire_takeNumber] at hx; rcases hx with e | e <;> first | exact Or.inl (e) | exact Or.inr (Or.inl (e))) (fun x k hx => False.elim hx) (fun r3 h1 F1 => ?_)
  refine fe_it fe_no ?_
  refine fe_it ?_ fe_no
  refine fe_J F1 (rfl) (fun h6 F2 => ?_)
  refine fe_b2 F2 (fe_mWire_takeNumber _ _) (fun x k hx => by simp only [wI_mWire_takeNumber, F1.r, F2.r] at hx; rcases hx with e | e <;> first | exact Or.inl (e) | exact Or.inr (Or.inl (e))) (fun x k hx => False.elim hx) (fun r9 h7 F3 => ?_)
  refine fe_it fe_no ?_
  refine fe_it ?_ fe_no
  refine fe_J F3 ((by first | (simp only [F1.r, F2.r, F3.r]; exact rfl) | simp only [F1.r, F2.r, F3.r])) (fun h12 F4 => ?_)
  refine fe_b2 F4 (fe_mWire_takeNumber _ _) (fun x k hx => by simp only [wI_mWire_takeNumber, F1.r, F2.r, F3.r, F4.r] at hx; rcases hx with e | e <;> first | exact Or.inl (e) | exact Or.inr (Or.inl (e))) (fun x k hx => False.elim hx) (fun r15 h13 F5 => ?_)
  refine fe_I F5 (Or.inr (Or.inr (Or.inr (⟨rfl, rfl⟩)))) (fun h16 F6 => ?_)
  refine fe_b2 F6 (fe_mWire_takeNumber _ _) (fun x k hx => by simp only [wI_mWire_takeNumber, F1.r, F2.r, F3.r, F4.r, F5.r, F6.r] at hx; rcases hx with e | e <;> first | exact Or.inl (e) | exact Or.inr (Or.inl (e))) (fun x k hx => False.elim hx) (fun r19 h17 F7 => ?_)
  exact fe_j F7 (fe_mWire_takeAck_b41_lp FU _ _ _ _ _) (fun x k hx => by simp only [wI_mWire_takeAck_b41, F1.r, F2.r, F3.r, F4.r, F5.r, F6.r, F7.r] at hx; rcases hx with e | e | e <;> first | exact Or.inl (e) | exact Or.inr (Or.inl (e)) | exact Or.inr (Or.inr (Or.inl (e)))) (fun x k hx => False.elim hx)
def wI_mWire_takeData_b23 (v0 : Nat) (s0 : Nat) (s1 : Int) (h : Hp) (x k : Nat) : Prop := (x = s0 ∧ k = 7)
def wJ_mWire_takeData_b23 (v0 : Nat) (s0 : Nat) (s1 : Int) (h : Hp) (x k : Nat) : Prop := False
def wI_mWire_takeData (v0 : Nat) (v1 : Int) (h : Hp) (x k : Nat) : Prop := (x = v0 ∧ k = 1) ∨ (x = v0 ∧ k = 3) ∨ (x = v0 ∧ k = 6) ∨ (x = v0 ∧ k = 7)
def wJ_mWire_takeData (v0 : Nat) (v1 : Int) (h : Hp) (x k : Nat) : Prop := False
theorem fe_mWire_takeData_b23 (v0 : Nat) (s0 : Nat) (s1 : Int) (h : Hp) : Feo (wI_mWire_takeData_b23 v0 s0 s1 h) (wJ_mWire_takeData_b23 v0 s0 s1 h) h id (f_mWire_takeData_b23 v0 s0 s1 h) := by
  unfold f_mWire_takeData_b23
  refine fe_it fe_no ?_
  refine fe_I Fe.rf (⟨rfl, rfl⟩) (fun h6 F1 => ?_)
  exact fe_so F1
theorem fe_mWire_takeData (v0 : Nat) (v1 : Int) (h : Hp) : Feo (wI_mWire_takeData v0 v1 h) (wJ_mWire_takeData v0 v1 h) h id (f_mWire_takeData v0 v1 h) := by
  unfold f_mWire_takeData
  refine fe_b2 Fe.rf (fe_mWire_pass _ _ _) (fun x k hx => by simp only [wI_mWire_pass] at hx; rcases hx with e | e <;> first | exact Or.inl (e) | exact Or.inr (Or.inl (e))) (fun x k hx => False.elim hx) (fun r3 h1 F1 => ?_)
  refine fe_I F1 (Or.inr (Or.inr (Or.inl (⟨rfl, rfl⟩)))) (fun h4 F2 => ?_)
  refine fe_it ?_ ?_
  · exact fe_j F2 (fe_mWire_takeData_b23 _ _ _ _) (fun x k hx => by simp only [wI_mWire_takeData_b23, F1.r, F2.r] at hx; have e := hx; exact Or.inr (Or.inr (Or.inr (e)))) (fun x k hx => False.elim hx)
  · exact fe_j F2 (fe_mWire_takeData_b23 _ _ _ _) (fun x k hx => by simp only [wI_mWire_takeData_b23, F1.r, F2.r] at hx; have e := hx; exact Or.inr (Or.inr (Or.inr (e)))) (fun x k hx => False.elim hx)
def wI_mWire_takeStream_b93 (v0 : Nat) (s0 : Nat) (s1 : Int) (h : Hp) (x k : Nat) : Prop := (x = s0 ∧ k = 1) ∨ (x = s0 ∧ k = 3) ∨ (x = s0 ∧ k = 6) ∨ (x = s0 ∧ k = 7)
def wJ_mWire_takeStream_b93 (v0 : Nat) (s0 : Nat) (s1 : Int) (h : Hp) (x k : Nat) : Prop := False
def wI_mWire_takeStream_b51 (v0 : Nat) (s0 : Nat) (s1 : Int) (s2 : Int) (h : Hp) (x k : Nat) : Prop := (x = v0 ∧ k = 1) ∨ (x = v0 ∧ k = 3) ∨ (x = v0 ∧ k = 6) ∨ (x = v0 ∧ k = 7)
def wJ_mWire_takeStream_b51 (v0 : Nat) (s0 : Nat) (s1 : Int) (s2 : Int) (h : Hp) (x k : Nat) : Prop := x = s0
def wI_mWire_takeStream (v0 : Nat) (v1 : Int) (h : Hp) (x k : Nat) : Prop := (x = v0 ∧ k = 1) ∨ (x = v0 ∧ k = 3) ∨ (x = v0 ∧ k = 6) ∨ (x = v0 ∧ k = 7)
def wJ_mWire_takeStream (v0 : Nat) (v1 : Int) (h : Hp) (x k : Nat) : Prop := x = (hR h v0 5) ∨ x = hR h v0 5
theorem fe_mWire_takeStream_b93 (v0 : Nat) (s0 : Nat) (s1 : Int) (h : Hp) : Feo (wI_mWire_takeStream_b93 v0 s0 s1 h) (wJ_mWire_takeStream_b93 v0 s0 s1 h) h id (f_mWire_takeStream_b93 v0 s0 s1 h) := by
  unfold f_mWire_takeStream_b93
  refine fe_it fe_no ?_
  refine fe_b1 Fe.rf (fe_mWire_takeData _ _ _) (fun x k hx => by simp only [wI_mWire_takeData] at hx; rcases hx with e | e | e | e <;> first | exact Or.inl (e) | exact Or.inr (Or.inl (e)) | exact Or.inr (Or.inr (Or.inl (e))) | exact Or.inr (Or.inr (Or.inr (e)))) (fun x k hx => False.elim hx) (fun h25 F1 => ?_)
  exact fe_so F1
theorem fe_mWire_takeStream_b51 (v0 : Nat) (s0 : Nat) (s1 : Int) (s2 : Int) (h : Hp) : Feo (wI_mWire_takeStream_b51 v0 s0 s1 s2 h) (wJ_mWire_takeStream_b51 v0 s0 s1 s2 h) h id (f_mWire_takeStream_b51 v0 s0 s1 s2 h) := by
  unfold f_mWire_takeStream_b51
  refine fe_it fe_no ?_
  refine fe_it ?_ fe_no
  refine fe_J Fe.rf (rfl) (fun h18 F1 => ?_)
  refine fe_it fe_no ?_
  refine fe_it ?_ fe_no
  refine fe_it ?_ ?_
  · refine fe_it ?_ ?_
    · exact fe_j F1 (fe_mWire_takeStream_b93 _ _ _ _) (fun x k hx => by simp only [wI_mWire_takeStream_b93, F1.r] at hx; rcases hx with e | e | e | e <;> first | exact Or.inl (e) | exact Or.inr (Or.inl (e)) | exact Or.inr (Or.inr (Or.inl (e))) | exact Or.inr (Or.inr (Or.inr (e)))) (fun x k hx => False.elim hx)
    · exact fe_j F1 (fe_mWire_takeStream_b93 _ _ _ _) (fun x k hx => by simp only [wI_mWire_takeStream_b93, F1.r] at hx; rcases hx with e | e | e | e <;> first | exact Or.inl (e) | exact Or.inr (Or.inl (e)) | exact Or.inr (Or.inr (Or.inl (e))) | exact Or.inr (Or.inr (Or.inr (e)))) (fun x k hx => False.elim hx)
  · refine fe_b2 F1 (fe_mWire_takeNumber _ _) (fun x k hx => by simp only [wI_mWire_takeNumber, F1.r] at hx; rcases hx with e | e <;> first | exact Or.inl (e) | exact Or.inr (Or.inl (e))) (fun x k hx => False.elim hx) (fun r23 h21 F2 => ?_)
    exact fe_j F2 (fe_mWire_takeStream_b93 _ _ _ _) (fun x k hx => by simp only [wI_mWire_takeStream_b93, F1.r, F2.r] at hx; rcases hx with e | e | e | e <;> first | exact Or.inl (e) | exact Or.inr (Or.inl (e)) | exact Or.inr (Or.inr (Or.inl (e))) | exact Or.inr (Or.inr (Or.inr (e)))) (fun x k hx => False.elim hx)
theorem fe_mWire_takeStream (v0 : Nat) (v1 : Int) (h : Hp) : Feo (wI_mWire_takeStream v0 v1 h) (wJ_mWire_takeStream v0 v1 h) h id (f_mWire_takeStream v0 v1 h) := by
  unfold f_mWire_takeStream
  refine fe_it fe_no ?_
  refine fe_it ?_ fe_no
  refine fe_J Fe.rf (Or.inr (rfl)) (fun h3 F1 => ?_)
  refine fe_it fe_no ?_
  refine fe_it ?_ fe_no
  refine fe_J F1 (Or.inr ((by first | (simp only [F1.r]; exact rfl) | simp only [F1.r]))) (fun h6 F2 => ?_)
  refine fe_b2 F2 (fe_mWire_takeNumber _ _) (fun x k hx => by simp only [wI_mWire_takeNumber, F1.r, F2.r] at hx; rcases hx with e | e <;> first | exact Or.inl (e) | exact Or.inr (Or.inl (e))) (fun x k hx => False.elim hx) (fun r9 h7 F3 => ?_)
  refine fe_it fe_no ?_
  refine fe_it ?_ fe_no
  refine fe_J F3 (Or.inr ((by first | (simp only [F1.r, F2.r, F3.r]; exact rfl) | simp only [F1.r, F2.r, F3.r]))) (fun h12 F4 => ?_)
  refine fe_it ?_ ?_
  · exact fe_j F4 (fe_mWire_takeStream_b51 _ _ _ _ _) (fun x k hx => by simp only [wI_mWire_takeStream_b51, F1.r, F2.r, F3.r, F4.r] at hx; rcases hx with e | e | e | e <;> first | exact Or.inl (e) | exact Or.inr (Or.inl (e)) | exact Or.inr (Or.inr (Or.inl (e))) | exact Or.inr (Or.inr (Or.inr (e)))) (fun x k hx => by simp only [wJ_mWire_takeStream_b51, F1.r, F2.r, F3.r, F4.r] at hx; have e := hx; exact Or.inl (e))
  · refine fe_b2 F4 (fe_mWire_takeNumber _ _) (fun x k hx => by simp only [wI_mWire_takeNumber, F1.r, F2.r, F3.r, F4.r] at hx; rcases hx with e | e <;> first | exact Or.inl (e) | exact Or.inr (Or.inl (e))) (fun x k hx => False.elim hx) (fun r15 h13 F5 => ?_)
    exact fe_j F5 (fe_mWire_takeStream_b51 _ _ _ _ _) (fun x k hx => by simp only [wI_mWire_takeStream_b51, F1.r, F2.r, F3.r, F4.r, F5.r] at hx; rcases hx with e | e | e | e <;> first | exact Or.inl (e) | exact Or.inr (Or.inl (e)) | exact Or.inr (Or.inr (Or.inl (e))) | exact Or.inr (Or.inr (Or.inr (e)))) (fun x k hx => by simp only [wJ_mWire_takeStream_b51, F1.r, F2.r, F3.r, F4.r, F5.r] at hx; have e := hx; exact Or.inl (e))
def wI_mWire_fields_b152 (v0 : Int) (h : Hp) (x k : Nat) : Prop := False
def wJ_mWire_fields_b152 (v0 : Int) (h : Hp) (x k : Nat) : Prop := False
def wI_mWire_fields (v0 : Int) (h : Hp) (x k : Nat) : Prop := False
def wJ_mWire_fields (v0 : Int) (h : Hp) (x k : Nat) : Prop := False
theorem fe_mWire_fields_b152 (v0 : Int) (h : Hp) : Feo (wI_mWire_fields_b152 v0 h) (wJ_mWire_fields_b152 v0 h) h Prod.snd (f_mWire_fields_b152 v0 h) := by
  unfold f_mWire_fields_b152
  refine fe_it ?_ ?_
  · exact fe_so Fe.rf
  · refine fe_it ?_ ?_
    · exact fe_so Fe.rf
    · exact fe_so Fe.rf
theorem fe_mWire_fields (v0 : Int) (h : Hp) : Feo (wI_mWire_fields v0 h) (wJ_mWire_fields v0 h) h Prod.snd (f_mWire_fields v0 h) := by
  unfold f_mWire_fields
  refine fe_it ?_ ?_
  · exact fe_so Fe.rf
  · refine fe_it ?_ ?_
    · exact fe_so Fe.rf
    · refine fe_it ?_ ?_
      · exact fe_so Fe.rf
      · refine fe_it ?_ ?_
        · exact fe_so Fe.rf
        · refine fe_it ?_ ?_
          · exact fe_j Fe.rf (fe_mWire_fields_b152 _ _) (fun x k hx => False.elim hx) (fun x k hx => False.elim hx)
          · refine fe_it ?_ ?_
            · exact fe_j Fe.rf (fe_mWire_fields_b152 _ _) (fun x k hx => False.elim hx) (fun x k hx => False.elim hx)
            · refine fe_it ?_ ?_
              · exact fe_j Fe.rf (fe_mWire_fields_b152 _ _) (fun x k hx => False.elim hx) (fun x k hx => False.elim hx)
              · refine fe_it ?_ ?_
                · exact fe_j Fe.rf (fe_mWire_fields_b152 _ _) (fun x k hx => False.elim hx) (fun x k hx => False.elim hx)
                · refine fe_it ?_ ?_
                  · exact fe_j Fe.rf (fe_mWire_fields_b152 _ _) (fun x k hx => False.elim hx) (fun x k hx => False.elim hx)
                  · refine fe_it ?_ ?_
                    · exact fe_j Fe.rf (fe_mWire_fields_b152 _ _) (fun x k hx => False.elim hx) (fun x k hx => False.elim hx)
                    · refine fe_it ?_ ?_
                      · exact fe_j Fe.rf (fe_mWire_fields_b152 _ _) (fun x k hx => False.elim hx) (fun x k hx => False.elim hx)
                      · refine fe_it ?_ ?_
                        · exact fe_j Fe.rf (fe_mWire_fields_b152 _ _) (fun x k hx => False.elim hx) (fun x k hx => False.elim hx)
                        · refine fe_it ?_ ?_
                          · exact fe_j Fe.rf (fe_mWire_fields_b152 _ _) (fun x k hx => False.elim hx) (fun x k hx => False.elim hx)
                          · refine fe_it ?_ ?_
                            · exact fe_so Fe.rf
                            · refine fe_it ?_ ?_
                              · exact fe_j Fe.rf (fe_mWire_fields_b152 _ _) (fun x k hx => False.elim hx) (fun x k hx => False.elim hx)
                              · refine fe_it ?_ ?_
                                · exact fe_j Fe.rf (fe_mWire_fields_b152 _ _) (fun x k hx => False.elim hx) (fun x k hx => False.elim hx)
                                · refine fe_it ?_ ?_
                                  · exact fe_j Fe.rf (fe_mWire_fields_b152 _ _) (fun x k hx => False.elim hx) (fun x k hx => False.elim hx)
                                  · refine fe_it ?_ ?_
                                    · exact fe_so Fe.rf
                                    · refine fe_it ?_ ?_
                                      · exact fe_j Fe.rf (fe_mWire_fields_b152 _ _) (fun x k hx => False.elim hx) (fun x k hx => False.elim hx)
                                      · refine fe_it ?_ ?_
                                        · exact fe_j Fe.rf (fe_mWire_fields_b152 _ _) (fun x k hx => False.elim hx) (fun x k hx => False.elim hx)
                                        · refine fe_it ?_ ?_
                                          · exact fe_so Fe.rf
                                          · refine fe_it ?_ ?_
                                            · exact fe_j Fe.rf (fe_mWire_fields_b152 _ _) (fun x k hx => False.elim hx) (fun x k hx => False.elim hx)
                                            · refine fe_it ?_ ?_
                                              · exact fe_so Fe.rf
                                              · refine fe_it ?_ ?_
                                                · exact fe_so Fe.rf
                                                · refine fe_it ?_ ?_
                                                  · exact fe_so Fe.rf
                                                  · refine fe_it ?_ ?_
                                                    · exact fe_so Fe.rf
                                                    · exact fe_j Fe.rf (fe_mWire_fields_b152 _ _) (fun x k hx => False.elim hx) (fun x k hx => False.elim hx)
def wI_mWire_takeFields_b62 (v0 : Nat) (v2 : Int) (h : Hp) (x k : Nat) : Prop := (x = v0 ∧ k = 1) ∨ (x = v0 ∧ k = 3) ∨ (x = v0 ∧ k = 6) ∨ (x = v0 ∧ k = 7)
def wJ_mWire_takeFields_b62 (v0 : Nat) (v2 : Int) (h : Hp) (x k : Nat) : Prop := x = hR h v0 5
def wI_mWire_takeFields_b5 (v0 : Nat) (v2 : Int) (h : Hp) (x k : Nat) : Prop := (x = v0 ∧ k = 1) ∨ (x = v0 ∧ k = 3) ∨ (x = v0 ∧ k = 6) ∨ (x = v0 ∧ k = 7)
def wJ_mWire_takeFields_b5 (v0 : Nat) (v2 : Int) (h : Hp) (x k : Nat) : Prop := x = hR h v0 5
def wI_mWire_takeFields (v0 : Nat) (v1 : Int) (h : Hp) (x k : Nat) : Prop := (x = v0 ∧ k = 1) ∨ (x = v0 ∧ k = 3) ∨ (x = v0 ∧ k = 6) ∨ (x = v0 ∧ k = 7)
def wJ_mWire_takeFields (v0 : Nat) (v1 : Int) (h : Hp) (x k : Nat) : Prop := x = hR h v0 5
theorem fe_mWire_takeFields_b62 {k5 : Nat → Int → Hp → Option (Hp)} (hk5 : ∀ (v0 : Nat) (v2 : Int) (h : Hp), Feo (wI_mWire_takeFields_b5 v0 v2 h) (wJ_mWire_takeFields_b5 v0 v2 h) h id (k5 v0 v2 h)) (v0 : Nat) (v2 : Int) (h : Hp) : Feo (wI_mWire_takeFields_b62 v0 v2 h) (wJ_mWire_takeFields_b62 v0 v2 h) h id (f_mWire_takeFields_b62 k5 v0 v2 h) := by
  unfold f_mWire_takeFields_b62
  refine fe_v (fun y22 => ?_)
  exact fe_j Fe.rf (hk5 _ _ _) (fun x k hx => by simp only [wI_mWire_takeFields_b5] at hx; rcases hx with e | e | e | e <;> first | exact Or.inl (e) | exact Or.inr (Or.inl (e)) | exact Or.inr (Or.inr (Or.inl (e))) | exact Or.inr (Or.inr (Or.inr (e)))) (fun x k hx => by simp only [wJ_mWire_takeFields_b5] at hx; have e := hx; exact e)
theorem fe_mWire_takeFields_b5 {k5 : Nat → Int → Hp → Option (Hp)} (hk5 : ∀ (v0 : Nat) (v2 : Int) (h : Hp), Feo (wI_mWire_takeFields_b5 v0 v2 h) (wJ_mWire_takeFields_b5 v0 v2 h) h id (k5 v0 v2 h)) (v0 : Nat) (v2 : Int) (h : Hp) : Feo (wI_mWire_takeFields_b5 v0 v2 h) (wJ_mWire_takeFields_b5 v0 v2 h) h id (f_mWire_takeFields_b5 k5 v0 v2 h) := by
  unfold f_mWire_takeFields_b5
  refine fe_it ?_ ?_
  · exact fe_so Fe.rf
  · refine fe_v (fun y4 => ?_)
    refine fe_it ?_ ?_
    · refine fe_it ?_ ?_
      · refine fe_b2 Fe.rf (fe_mWire_takeNumber _ _) (fun x k hx => by simp only [wI_mWire_takeNumber] at hx; rcases hx with e | e <;> first | exact Or.inl (e) | exact Or.inr (Or.inl (e))) (fun x k hx => False.elim hx) (fun r7 h5 F1 => ?_)
        refine fe_it fe_no ?_
        refine fe_it ?_ fe_no
        refine fe_J F1 (rfl) (fun h10 F2 => ?_)
        exact fe_j F2 (fe_mWire_takeFields_b62 hk5 _ _ _) (fun x k hx => by simp only [wI_mWire_takeFields_b62, F1.r, F2.r] at hx; rcases hx with e | e | e | e <;> first | exact Or.inl (e) | exact Or.inr (Or.inl (e)) | exact Or.inr (Or.inr (Or.inl (e))) | exact Or.inr (Or.inr (Or.inr (e)))) (fun x k hx => by simp only [wJ_mWire_takeFields_b62, F1.r, F2.r] at hx; have e := hx; exact e)
      · refine fe_b2 Fe.rf (fe_mWire_takeNumber _ _) (fun x k hx => by simp only [wI_mWire_takeNumber] at hx; rcases hx with e | e <;> first | exact Or.inl (e) | exact Or.inr (Or.inl (e))) (fun x k hx => False.elim hx) (fun r13 h11 F3 => ?_)
        refine fe_b1 F3 (fe_mWire_takeData _ _ _) (fun x k hx => by simp only [wI_mWire_takeData, F3.r] at hx; rcases hx with e | e | e | e <;> first | exact Or.inl (e) | exact Or.inr (Or.inl (e)) | exact Or.inr (Or.inr (Or.inl (e))) | exact Or.inr (Or.inr (Or.inr (e)))) (fun x k hx => False.elim hx) (fun h14 F4 => ?_)
        exact fe_j F4 (fe_mWire_takeFields_b62 hk5 _ _ _) (fun x k hx => by simp only [wI_mWire_takeFields_b62, F3.r, F4.r] at hx; rcases hx with e | e | e | e <;> first | exact Or.inl (e) | exact Or.inr (Or.inl (e)) | exact Or.inr (Or.inr (Or.inl (e))) | exact Or.inr (Or.inr (Or.inr (e)))) (fun x k hx => by simp only [wJ_mWire_takeFields_b62, F3.r, F4.r] at hx; have e := hx; exact e)
    · refine fe_b2 Fe.rf (fe_mWire_take _ _ _) (fun x k hx => by simp only [wI_mWire_take] at hx; rcases hx with e | e <;> first | exact Or.inl (e) | exact Or.inr (Or.inl (e))) (fun x k hx => False.elim hx) (fun r18 h16 F5 => ?_)
      refine fe_it fe_no ?_
      refine fe_it ?_ fe_no
      refine fe_J F5 (rfl) (fun h21 F6 => ?_)
      exact fe_j F6 (fe_mWire_takeFields_b62 hk5 _ _ _) (fun x k hx => by simp only [wI_mWire_takeFields_b62, F5.r, F6.r] at hx; rcases hx with e | e | e | e <;> first | exact Or.inl (e) | exact Or.inr (Or.inl (e)) | exact Or.inr (Or.inr (Or.inl (e))) | exact Or.inr (Or.inr (Or.inr (e)))) (fun x k hx => by simp only [wJ_mWire_takeFields_b62, F5.r, F6.r] at hx; have e := hx; exact e)
theorem fe_mWire_takeFields_b5_lp (n : Nat) : ∀ (v0 : Nat) (v2 : Int) (h : Hp), Feo (wI_mWire_takeFields_b5 v0 v2 h) (wJ_mWire_takeFields_b5 v0 v2 h) h id (f_mWire_takeFields_b5_lp n v0 v2 h) := by
  induction n with
  | zero => intro v0 v2 h; exact fe_no
  | succ n ih => intro v0 v2 h; exact fe_mWire_takeFields_b5 ih v0 v2 h
theorem fe_mWire_takeFields (v0 : Nat) (v1 : Int) (h : Hp) : Feo (wI_mWire_takeFields v0 v1 h) (wJ_mWire_takeFields v0 v1 h) h id (f_mWire_takeFields v0 v1 h) := by
  unfold f_mWire_takeFields
  refine fe_b2 Fe.rf (fe_mWire_fields _ _) (fun x k hx => False.elim hx) (fun x k hx => False.elim hx) (fun r3 h1 F1 => ?_)
  exact fe_j F1 (fe_mWire_takeFields_b5_lp FU _ _ _) (fun x k hx => by simp only [wI_mWire_takeFields_b5, F1.r] at hx; rcases hx with e | e | e | e <;> first | exact Or.inl (e) | exact Or.inr (Or.inl (e)) | exact Or.inr (Or.inr (Or.inl (e))) | exact Or.inr (Or.inr (Or.inr (e)))) (fun x k hx => by simp only [wJ_mWire_takeFields_b5, F1.r] at hx; have e := hx; exact e)
def wI_mWire_takeRest_b7 (v0 : Nat) (h : Hp) (x k : Nat) : Prop := (x = v0 ∧ k = 1)
def wJ_mWire_takeRest_b7 (v0 : Nat) (h : Hp) (x k : Nat) : Prop := False
def wI_mWire_takeRest_b59 (v0 : Nat) (h : Hp) (x k : Nat) : Prop := (x = v0 ∧ k = 1) ∨ (x = v0 ∧ k = 3) ∨ (x = v0 ∧ k = 8) ∨ (x = v0 ∧ k = 9)
def wJ_mWire_takeRest_b59 (v0 : Nat) (h : Hp) (x k : Nat) : Prop := x = hR h v0 5
def wI_mWire_takeRest (v0 : Nat) (v1 : Int) (h : Hp) (x k : Nat) : Prop := (x = v0 ∧ k = 1) ∨ (x = v0 ∧ k = 3) ∨ (x = v0 ∧ k = 6) ∨ (x = v0 ∧ k = 7) ∨ (x = v0 ∧ k = 8) ∨ (x = v0 ∧ k = 9)
def wJ_mWire_takeRest (v0 : Nat) (v1 : Int) (h : Hp) (x k : Nat) : Prop := x = (hR h v0 5) ∨ x = hR h v0 5
theorem fe_mWire_takeRest_b7 {k7 : Nat → Hp → Option (Hp)} (hk7 : ∀ (v0 : Nat) (h : Hp), Feo (wI_mWire_takeRest_b7 v0 h) (wJ_mWire_takeRest_b7 v0 h) h id (k7 v0 h)) (v0 : Nat) (h : Hp) : Feo (wI_mWire_takeRest_b7 v0 h) (wJ_mWire_takeRest_b7 v0 h) h id (f_mWire_takeRest_b7 k7 v0 h) := by
  unfold f_mWire_takeRest_b7
  refine fe_it ?_ ?_
  · exact fe_so Fe.rf
  · refine fe_it fe_no ?_
    refine fe_it ?_ fe_no
    refine fe_it ?_ ?_
    · exact fe_so Fe.rf
    · refine fe_I Fe.rf (⟨rfl, rfl⟩) (fun h17 F1 => ?_)
      exact fe_j F1 (hk7 _ _) (fun x k hx => by simp only [wI_mWire_takeRest_b7, F1.r] at hx; have e := hx; exact e) (fun x k hx => False.elim hx)
theorem fe_mWire_takeRest_b7_lp (n : Nat) : ∀ (v0 : Nat) (h : Hp), Feo (wI_mWire_takeRest_b7 v0 h) (wJ_mWire_takeRest_b7 v0 h) h id (f_mWire_takeRest_b7_lp n v0 h) := by
  induction n with
  | zero => intro v0 h; exact fe_no
  | succ n ih => intro v0 h; exact fe_mWire_takeRest_b7 ih v0 h
theorem fe_mWire_takeRest_b59 (v0 : Nat) (h : Hp) : Feo (wI_mWire_takeRest_b59 v0 h) (wJ_mWire_takeRest_b59 v0 h) h id (f_mWire_takeRest_b59 v0 h) := by
  unfold f_mWire_takeRest_b59
  refine fe_b1 Fe.rf (fe_mWire_takeAck _ _ _) (fun x k hx => by simp only [wI_mWire_takeAck] at hx; rcases hx with e | e | e | e <;> first | exact Or.inl (e) | exact Or.inr (Or.inl (e)) | exact Or.inr (Or.inr (Or.inl (e))) | exact Or.inr (Or.inr (Or.inr (e)))) (fun x k hx => by simp only [wJ_mWire_takeAck] at hx; have e := hx; exact e) (fun h13 F1 => ?_)
  exact fe_so F1
theorem fe_mWire_takeRest (v0 : Nat) (v1 : Int) (h : Hp) : Feo (wI_mWire_takeRest v0 v1 h) (wJ_mWire_takeRest v0 v1 h) h id (f_mWire_takeRest v0 v1 h) := by
  unfold f_mWire_takeRest
  refine fe_it ?_ ?_
  · refine fe_it ?_ ?_
    · exact fe_j Fe.rf (fe_mWire_takeRest_b59 _ _) (fun x k hx => by simp only [wI_mWire_takeRest_b59] at hx; rcases hx with e | e | e | e <;> first | exact Or.inl (e) | exact Or.inr (Or.inl (e)) | exact Or.inr (Or.inr (Or.inr (Or.inr (Or.inl (e))))) | exact Or.inr (Or.inr (Or.inr (Or.inr (Or.inr (e)))))) (fun x k hx => by simp only [wJ_mWire_takeRest_b59] at hx; have e := hx; exact Or.inr (e))
    · refine fe_it ?_ ?_
      · refine fe_it ?_ ?_
        · refine fe_b1 Fe.rf (fe_mWire_takeFields _ _ _) (fun x k hx => by simp only [wI_mWire_takeFields] at hx; rcases hx with e | e | e | e <;> first | exact Or.inl (e) | exact Or.inr (Or.inl (e)) | exact Or.inr (Or.inr (Or.inl (e))) | exact Or.inr (Or.inr (Or.inr (Or.inl (e))))) (fun x k hx => by simp only [wJ_mWire_takeFields] at hx; have e := hx; exact Or.inr (e)) (fun h1 F1 => ?_)
          refine fe_it ?_ ?_
          · refine fe_b2 F1 (fe_mWire_take _ _ _) (fun x k hx => by simp only [wI_mWire_take, F1.r] at hx; rcases hx with e | e <;> first | exact Or.inl (e) | exact Or.inr (Or.inl (e))) (fun x k hx => False.elim hx) (fun r5 h3 F2 => ?_)
            refine fe_b1 F2 (fe_mWire_takeData _ _ _) (fun x k hx => by simp only [wI_mWire_takeData, F1.r, F2.r] at hx; rcases hx with e | e | e | e <;> first | exact Or.inl (e) | exact Or.inr (Or.inl (e)) | exact Or.inr (Or.inr (Or.inl (e))) | exact Or.inr (Or.inr (Or.inr (Or.inl (e))))) (fun x k hx => False.elim hx) (fun h6 F3 => ?_)
            refine fe_b2 F3 (fe_mWire_pass _ _ _) (fun x k hx => by simp only [wI_mWire_pass, F1.r, F2.r, F3.r] at hx; rcases hx with e | e <;> first | exact Or.inl (e) | exact Or.inr (Or.inl (e))) (fun x k hx => False.elim hx) (fun r10 h8 F4 => ?_)
            exact fe_so F4
          · exact fe_so F1
        · refine fe_b1 Fe.rf (fe_mWire_takeStream _ _ _) (fun x k hx => by simp only [wI_mWire_takeStream] at hx; rcases hx with e | e | e | e <;> first | exact Or.inl (e) | exact Or.inr (Or.inl (e)) | exact Or.inr (Or.inr (Or.inl (e))) | exact Or.inr (Or.inr (Or.inr (Or.inl (e))))) (fun x k hx => by simp only [wJ_mWire_takeStream] at hx; rcases hx with e | e <;> first | exact Or.inl (e) | exact Or.inr (e)) (fun h11 F5 => ?_)
          exact fe_so F5
      · exact fe_j Fe.rf (fe_mWire_takeRest_b59 _ _) (fun x k hx => by simp only [wI_mWire_takeRest_b59] at hx; rcases hx with e | e | e | e <;> first | exact Or.inl (e) | exact Or.inr (Or.inl (e)) | exact Or.inr (Or.inr (Or.inr (Or.inr (Or.inl (e))))) | exact Or.inr (Or.inr (Or.inr (Or.inr (Or.inr (e)))))) (fun x k hx => by simp only [wJ_mWire_takeRest_b59] at hx; have e := hx; exact Or.inr (e))
  · exact fe_j Fe.rf (fe_mWire_takeRest_b7_lp FU _ _) (fun x k hx => by simp only [wI_mWire_takeRest_b7] at hx; have e := hx; exact Or.inl (e)) (fun x k hx => False.elim hx)
def wI_mWire_edge_b79 (v0 : Nat) (v1 : Int) (v2 : Int) (v3 : Int) (v4 : Int) (v8 : Int) (s0 : Int) (h : Hp) (x k : Nat) : Prop := (x = v0 ∧ k = 1) ∨ (x = v0 ∧ k = 3)
def wJ_mWire_edge_b79 (v0 : Nat) (v1 : Int) (v2 : Int) (v3 : Int) (v4 : Int) (v8 : Int) (s0 : Int) (h : Hp) (x k : Nat) : Prop := False
def wI_mWire_edge_b87 (v0 : Nat) (v2 : Int) (v3 : Int) (v4 : Int) (v6 : Int) (h : Hp) (x k : Nat) : Prop := (x = v0 ∧ k = 1)
def wJ_mWire_edge_b87 (v0 : Nat) (v2 : Int) (v3 : Int) (v4 : Int) (v6 : Int) (h : Hp) (x k : Nat) : Prop := False
def wI_mWire_edge_b33 (v0 : Nat) (v1 : Int) (v2 : Int) (v3 : Int) (v4 : Int) (v6 : Int) (v8 : Int) (h : Hp) (x k : Nat) : Prop := (x = v0 ∧ k = 1) ∨ (x = v0 ∧ k = 3)
def wJ_mWire_edge_b33 (v0 : Nat) (v1 : Int) (v2 : Int) (v3 : Int) (v4 : Int) (v6 : Int) (v8 : Int) (h : Hp) (x k : Nat) : Prop := False
def wI_mWire_edge (v0 : Nat) (v1 : Int) (v2 : Int) (h : Hp) (x k : Nat) : Prop := (x = v0 ∧ k = 1) ∨ (x = v0 ∧ k = 3)
def wJ_mWire_edge (v0 : Nat) (v1 : Int) (v2 : Int) (h : Hp) (x k : Nat) : Prop := False
theorem fe_mWire_edge_b79 {k33 : Nat → Int → Int → Int → Int → Int → Int → Hp → Option (Int × Hp)} (hk33 : ∀ (v0 : Nat) (v1 : Int) (v2 : Int) (v3 : Int) (v4 : Int) (v6 : Int) (v8 : Int) (h : Hp), Feo (wI_mWire_edge_b33 v0 v1 v2 v3 v4 v6 v8 h) (wJ_mWire_edge_b33 v0 v1 v2 v3 v4 v6 v8 h) h Prod.snd (k33 v0 v1 v2 v3 v4 v6 v8 h)) (v0 : Nat) (v1 : Int) (v2 : Int) (v3 : Int) (v4 : Int) (v8 : Int) (s0 : Int) (h : Hp) : Feo (wI_mWire_edge_b79 v0 v1 v2 v3 v4 v8 s0 h) (wJ_mWire_edge_b79 v0 v1 v2 v3 v4 v8 s0 h) h Prod.snd (f_mWire_edge_b79 k33 v0 v1 v2 v3 v4 v8 s0 h) := by
  unfold f_mWire_edge_b79
  exact fe_j Fe.rf (hk33 _ _ _ _ _ _ _ _) (fun x k hx => by simp only [wI_mWire_edge_b33] at hx; rcases hx with e | e <;> first | exact Or.inl (e) | exact Or.inr (e)) (fun x k hx => False.elim hx)
theorem fe_mWire_edge_b87 (v0 : Nat) (v2 : Int) (v3 : Int) (v4 : Int) (v6 : Int) (h : Hp) : Feo (wI_mWire_edge_b87 v0 v2 v3 v4 v6 h) (wJ_mWire_edge_b87 v0 v2 v3 v4 v6 h) h Prod.snd (f_mWire_edge_b87 v0 v2 v3 v4 v6 h) := by
  unfold f_mWire_edge_b87
  refine fe_I Fe.rf (⟨rfl, rfl⟩) (fun h17 F1 => ?_)
  refine fe_it ?_ ?_
  · refine fe_it ?_ ?_
    · exact fe_so F1
    · exact fe_so F1
  · exact fe_so F1
theorem fe_mWire_edge_b33 {k33 : Nat → Int → Int → Int → Int → Int → Int → Hp → Option (Int × Hp)} (hk33 : ∀ (v0 : Nat) (v1 : Int) (v2 : Int) (v3 : Int) (v4 : Int) (v6 : Int) (v8 : Int) (h : Hp), Feo (wI_mWire_edge_b33 v0 v1 v2 v3 v4 v6 v8 h) (wJ_mWire_edge_b33 v0 v1 v2 v3 v4 v6 v8 h) h Prod.snd (k33 v0 v1 v2 v3 v4 v6 v8 h)) (v0 : Nat) (v1 : Int) (v2 : Int) (v3 : Int) (v4 : Int) (v6 : Int) (v8 : Int) (h : Hp) : Feo (wI_mWire_edge_b33 v0 v1 v2 v3 v4 v6 v8 h) (wJ_mWire_edge_b33 v0 v1 v2 v3 v4 v6 v8 h) h Prod.snd (f_mWire_edge_b33 k33 v0 v1 v2 v3 v4 v6 v8 h) := by
  unfold f_mWire_edge_b33
  refine fe_it ?_ ?_
  · exact fe_j Fe.rf (fe_mWire_edge_b87 _ _ _ _ _ _) (fun x k hx => by simp only [wI_mWire_edge_b87] at hx; have e := hx; exact Or.inl (e)) (fun x k hx => False.elim hx)
  · refine fe_it ?_ ?_
    · exact fe_j Fe.rf (fe_mWire_edge_b87 _ _ _ _ _ _) (fun x k hx => by simp only [wI_mWire_edge_b87] at hx; have e := hx; exact Or.inl (e)) (fun x k hx => False.elim hx)
    · refine fe_b2 Fe.rf (fe_mWire_takeNumber _ _) (fun x k hx => by simp only [wI_mWire_takeNumber] at hx; rcases hx with e | e <;> first | exact Or.inl (e) | exact Or.inr (e)) (fun x k hx => False.elim hx) (fun r12 h10 F1 => ?_)
      refine fe_v (fun y13 => ?_)
      refine fe_it ?_ ?_
      · refine fe_b2 F1 (fe_mWire_takeNumber _ _) (fun x k hx => by simp only [wI_mWire_takeNumber, F1.r] at hx; rcases hx with e | e <;> first | exact Or.inl (e) | exact Or.inr (e)) (fun x k hx => False.elim hx) (fun r16 h14 F2 => ?_)
        exact fe_j F2 (fe_mWire_edge_b79 hk33 _ _ _ _ _ _ _ _) (fun x k hx => by simp only [wI_mWire_edge_b79, F1.r, F2.r] at hx; rcases hx with e | e <;> first | exact Or.inl (e) | exact Or.inr (e)) (fun x k hx => False.elim hx)
      · exact fe_j F1 (fe_mWire_edge_b79 hk33 _ _ _ _ _ _ _ _) (fun x k hx => by simp only [wI_mWire_edge_b79, F1.r] at hx; rcases hx with e | e <;> first | exact Or.inl (e) | exact Or.inr (e)) (fun x k hx => False.elim hx)
theorem fe_mWire_edge_b33_lp (n : Nat) : ∀ (v0 : Nat) (v1 : Int) (v2 : Int) (v3 : Int) (v4 : Int) (v6 : Int) (v8 : Int) (h : Hp), Feo (wI_mWire_edge_b33 v0 v1 v2 v3 v4 v6 v8 h) (wJ_mWire_edge_b33 v0 v1 v2 v3 v4 v6 v8 h) h Prod.snd (f_mWire_edge_b33_lp n v0 v1 v2 v3 v4 v6 v8 h) := by
  induction n with
  | zero => intro v0 v1 v2 v3 v4 v6 v8 h; exact fe_no
  | succ n ih => intro v0 v1 v2 v3 v4 v6 v8 h; exact fe_mWire_edge_b33 ih v0 v1 v2 v3 v4 v6 v8 h
theorem fe_mWire_edge (v0 : Nat) (v1 : Int) (v2 : Int) (h : Hp) : Feo (wI_mWire_edge v0 v1 v2 h) (wJ_mWire_edge v0 v1 v2 h) h Prod.snd (f_mWire_edge v0 v1 v2 h) := by
  unfold f_mWire_edge
  refine fe_v (fun y1 => ?_)
  refine fe_I Fe.rf (Or.inl (⟨rfl, rfl⟩)) (fun h2 F1 => ?_)
  refine fe_it fe_no ?_
  refine fe_it ?_ fe_no
  refine fe_v (fun y5 => ?_)
  refine fe_b2 F1 (fe_mWire_takeNumber _ _) (fun x k hx => by simp only [wI_mWire_takeNumber, F1.r] at hx; rcases hx with e | e <;> first | exact Or.inl (e) | exact Or.inr (e)) (fun x k hx => False.elim hx) (fun r8 h6 F2 => ?_)
  refine fe_v (fun y9 => ?_)
  exact fe_j F2 (fe_mWire_edge_b33_lp FU _ _ _ _ _ _ _ _) (fun x k hx => by simp only [wI_mWire_edge_b33, F1.r, F2.r] at hx; rcases hx with e | e <;> first | exact Or.inl (e) | exact Or.inr (e)) (fun x k hx => False.elim hx)
def wI_mWire_isRight_b16 (v0 : Nat) (h : Hp) (x k : Nat) : Prop := (x = v0 ∧ k = 1) ∨ (x = v0 ∧ k = 3)
def wJ_mWire_isRight_b16 (v0 : Nat) (h : Hp) (x k : Nat) : Prop := False
def wI_mWire_isRight_b199 (v0 : Nat) (h : Hp) (x k : Nat) : Prop := False
def wJ_mWire_isRight_b199 (v0 : Nat) (h : Hp) (x k : Nat) : Prop := False
def wI_mWire_isRight_b180 (v0 : Nat) (h : Hp) (x k : Nat) : Prop := False
def wJ_mWire_isRight_b180 (v0 : Nat) (h : Hp) (x k : Nat) : Prop := False
def wI_mWire_isRight_b74 (v0 : Nat) (h : Hp) (x k : Nat) : Prop := False
def wJ_mWire_isRight_b74 (v0 : Nat) (h : Hp) (x k : Nat) : Prop := False
def wI_mWire_isRight (v0 : Nat) (h : Hp) (x k : Nat) : Prop := (x = v0 ∧ k = 1) ∨ (x = v0 ∧ k = 3)
def wJ_mWire_isRight (v0 : Nat) (h : Hp) (x k : Nat) : Prop := False
theorem fe_mWire_isRight_b16 (v0 : Nat) (h : Hp) : Feo (wI_mWire_isRight_b16 v0 h) (wJ_mWire_isRight_b16 v0 h) h Prod.snd (f_mWire_isRight_b16 v0 h) := by
  unfold f_mWire_isRight_b16
  refine fe_b2 Fe.rf (fe_mWire_edge _ _ _ _) (fun x k hx => by simp only [wI_mWire_edge] at hx; rcases hx with e | e <;> first | exact Or.inl (e) | exact Or.inr (e)) (fun x k hx => False.elim hx) (fun r10 h8 F1 => ?_)
  refine fe_it ?_ ?_
  · exact fe_so F1
  · exact fe_so F1
theorem fe_mWire_isRight_b199 (v0 : Nat) (h : Hp) : Feo (wI_mWire_isRight_b199 v0 h) (wJ_mWire_isRight_b199 v0 h) h Prod.snd (f_mWire_isRight_b199 v0 h) := by
  unfold f_mWire_isRight_b199
  exact fe_so Fe.rf
theorem fe_mWire_isRight_b180 (v0 : Nat) (h : Hp) : Feo (wI_mWire_isRight_b180 v0 h) (wJ_mWire_isRight_b180 v0 h) h Prod.snd (f_mWire_isRight_b180 v0 h) := by
  unfold f_mWire_isRight_b180
  refine fe_it fe_no ?_
  refine fe_it ?_ fe_no
  refine fe_it ?_ ?_
  · exact fe_so Fe.rf
  · exact fe_j Fe.rf (fe_mWire_isRight_b199 _ _) (fun x k hx => False.elim hx) (fun x k hx => False.elim hx)
theorem fe_mWire_isRight_b74 (v0 : Nat) (h : Hp) : Feo (wI_mWire_isRight_b74 v0 h) (wJ_mWire_isRight_b74 v0 h) h Prod.snd (f_mWire_isRight_b74 v0 h) := by
  unfold f_mWire_isRight_b74
  refine fe_it fe_no ?_
  refine fe_it ?_ fe_no
  refine fe_it ?_ ?_
  · exact fe_so Fe.rf
  · exact fe_so Fe.rf
theorem fe_mWire_isRight (v0 : Nat) (h : Hp) : Feo (wI_mWire_isRight v0 h) (wJ_mWire_isRight v0 h) h Prod.snd (f_mWire_isRight v0 h) := by
  unfold f_mWire_isRight
  refine fe_it ?_ ?_
  · exact fe_j Fe.rf (fe_mWire_isRight_b16 _ _) (fun x k hx => by simp only [wI_mWire_isRight_b16] at hx; rcases hx with e | e <;> first | exact Or.inl (e) | exact Or.inr (e)) (fun x k hx => False.elim hx)
  · refine fe_it ?_ ?_
    · refine fe_it ?_ ?_
      · exact fe_j Fe.rf (fe_mWire_isRight_b74 _ _) (fun x k hx => False.elim hx) (fun x k hx => False.elim hx)
      · refine fe_it ?_ ?_
        · exact fe_j Fe.rf (fe_mWire_isRight_b74 _ _) (fun x k hx => False.elim hx) (fun x k hx => False.elim hx)
        · refine fe_it ?_ ?_
          · exact fe_j Fe.rf (fe_mWire_isRight_b74 _ _) (fun x k hx => False.elim hx) (fun x k hx => False.elim hx)
          · refine fe_it ?_ ?_
            · refine fe_it ?_ ?_
              · refine fe_it ?_ ?_
                · refine fe_it ?_ ?_
                  · exact fe_j Fe.rf (fe_mWire_isRight_b180 _ _) (fun x k hx => False.elim hx) (fun x k hx => False.elim hx)
                  · refine fe_it ?_ ?_
                    · exact fe_j Fe.rf (fe_mWire_isRight_b199 _ _) (fun x k hx => False.elim hx) (fun x k hx => False.elim hx)
                    · exact fe_j Fe.rf (fe_mWire_isRight_b180 _ _) (fun x k hx => False.elim hx) (fun x k hx => False.elim hx)
                · refine fe_it fe_no ?_
                  refine fe_it ?_ fe_no
                  refine fe_it ?_ fe_no
                  refine fe_it ?_ ?_
                  · exact fe_so Fe.rf
                  · refine fe_it ?_ ?_
                    · exact fe_so Fe.rf
                    · refine fe_it ?_ ?_
                      · exact fe_so Fe.rf
                      · exact fe_so Fe.rf
              · refine fe_it ?_ ?_
                · exact fe_so Fe.rf
                · exact fe_so Fe.rf
            · exact fe_j Fe.rf (fe_mWire_isRight_b74 _ _) (fun x k hx => False.elim hx) (fun x k hx => False.elim hx)
    · exact fe_j Fe.rf (fe_mWire_isRight_b16 _ _) (fun x k hx => by simp only [wI_mWire_isRight_b16] at hx; rcases hx with e | e <;> first | exact Or.inl (e) | exact Or.inr (e)) (fun x k hx => False.elim hx)
def wI_mWire_read_b105 (v0 : Nat) (v2 : Int) (h : Hp) (x k : Nat) : Prop := (x = v0 ∧ k = 1) ∨ (x = v0 ∧ k = 3) ∨ (x = v0 ∧ k = 6) ∨ (x = v0 ∧ k = 7) ∨ (x = v0 ∧ k = 8) ∨ (x = v0 ∧ k = 9)
def wJ_mWire_read_b105 (v0 : Nat) (v2 : Int) (h : Hp) (x k : Nat) : Prop := x = (hR h v0 5) ∨ x = hR h v0 5
def wI_mWire_read_b69 (v0 : Nat) (v1 : Int) (v2 : Int) (s0 : Nat) (s1 : Int) (h : Hp) (x k : Nat) : Prop := (x = s0 ∧ k = 4) ∨ (x = v0 ∧ k = 1) ∨ (x = v0 ∧ k = 3) ∨ (x = v0 ∧ k = 6) ∨ (x = v0 ∧ k = 7) ∨ (x = v0 ∧ k = 8) ∨ (x = v0 ∧ k = 9)
def wJ_mWire_read_b69 (v0 : Nat) (v1 : Int) (v2 : Int) (s0 : Nat) (s1 : Int) (h : Hp) (x k : Nat) : Prop := x = (hR h v0 5) ∨ x = hR h v0 5
def wI_mWire_read_b68 (v0 : Nat) (v1 : Int) (v2 : Int) (s0 : Nat) (h : Hp) (x k : Nat) : Prop := (x = s0 ∧ k = 4) ∨ (x = v0 ∧ k = 1) ∨ (x = v0 ∧ k = 3) ∨ (x = v0 ∧ k = 6) ∨ (x = v0 ∧ k = 7) ∨ (x = v0 ∧ k = 8) ∨ (x = v0 ∧ k = 9)
def wJ_mWire_read_b68 (v0 : Nat) (v1 : Int) (v2 : Int) (s0 : Nat) (h : Hp) (x k : Nat) : Prop := x = (hR h v0 5) ∨ x = hR h v0 5
def wI_mWire_read_b9 (v0 : Nat) (v1 : Int) (v2 : Int) (v3 : Int) (h : Hp) (x k : Nat) : Prop := (x = v0 ∧ k = 1) ∨ (x = v0 ∧ k = 3) ∨ (x = v0 ∧ k = 4) ∨ (x = v0 ∧ k = 6) ∨ (x = v0 ∧ k = 7) ∨ (x = v0 ∧ k = 8) ∨ (x = v0 ∧ k = 9)
def wJ_mWire_read_b9 (v0 : Nat) (v1 : Int) (v2 : Int) (v3 : Int) (h : Hp) (x k : Nat) : Prop := x = (hR h v0 5) ∨ x = hR h v0 5
def wI_mWire_read (v0 : Nat) (v1 : Int) (h : Hp) (x k : Nat) : Prop := (x = v0 ∧ k = 1) ∨ (x = v0 ∧ k = 3) ∨ (x = v0 ∧ k = 4) ∨ (x = v0 ∧ k = 6) ∨ (x = v0 ∧ k = 7) ∨ (x = v0 ∧ k = 8) ∨ (x = v0 ∧ k = 9)
def wJ_mWire_read (v0 : Nat) (v1 : Int) (h : Hp) (x k : Nat) : Prop := x = (hR h v0 5) ∨ x = hR h v0 5
theorem fe_mWire_read_b105 (v0 : Nat) (v2 : Int) (h : Hp) : Feo (wI_mWire_read_b105 v0 v2 h) (wJ_mWire_read_b105 v0 v2 h) h Prod.snd (f_mWire_read_b105 v0 v2 h) := by
  unfold f_mWire_read_b105
  refine fe_b1 Fe.rf (fe_mWire_takeRest _ _ _) (fun x k hx => by simp only [wI_mWire_takeRest] at hx; rcases hx with e | e | e | e | e | e <;> first | exact Or.inl (e) | exact Or.inr (Or.inl (e)) | exact Or.inr (Or.inr (Or.inl (e))) | exact Or.inr (Or.inr (Or.inr (Or.inl (e)))) | exact Or.inr (Or.inr (Or.inr (Or.inr (Or.inl (e))))) | exact Or.inr (Or.inr (Or.inr (Or.inr (Or.inr (e)))))) (fun x k hx => by simp only [wJ_mWire_takeRest] at hx; rcases hx with e | e <;> first | exact Or.inl (e) | exact Or.inr (e)) (fun h13 F1 => ?_)
  refine fe_it ?_ ?_
  · refine fe_b2 F1 (fe_mWire_isRight _ _) (fun x k hx => by simp only [wI_mWire_isRight, F1.r] at hx; rcases hx with e | e <;> first | exact Or.inl (e) | exact Or.inr (Or.inl (e))) (fun x k hx => False.elim hx) (fun r17 h15 F2 => ?_)
    refine fe_it ?_ ?_
    · exact fe_so F2
    · exact fe_so F2
  · exact fe_so F1
theorem fe_mWire_read_b69 (v0 : Nat) (v1 : Int) (v2 : Int) (s0 : Nat) (s1 : Int) (h : Hp) : Feo (wI_mWire_read_b69 v0 v1 v2 s0 s1 h) (wJ_mWire_read_b69 v0 v1 v2 s0 s1 h) h Prod.snd (f_mWire_read_b69 v0 v1 v2 s0 s1 h) := by
  unfold f_mWire_read_b69
  refine fe_it fe_no ?_
  refine fe_I Fe.rf (Or.inl (⟨rfl, rfl⟩)) (fun h12 F1 => ?_)
  refine fe_it ?_ ?_
  · exact fe_j F1 (fe_mWire_read_b105 _ _ _) (fun x k hx => by simp only [wI_mWire_read_b105, F1.r] at hx; rcases hx with e | e | e | e | e | e <;> first | exact Or.inr (Or.inl (e)) | exact Or.inr (Or.inr (Or.inl (e))) | exact Or.inr (Or.inr (Or.inr (Or.inl (e)))) | exact Or.inr (Or.inr (Or.inr (Or.inr (Or.inl (e))))) | exact Or.inr (Or.inr (Or.inr (Or.inr (Or.inr (Or.inl (e)))))) | exact Or.inr (Or.inr (Or.inr (Or.inr (Or.inr (Or.inr (e))))))) (fun x k hx => by simp only [wJ_mWire_read_b105, F1.r] at hx; rcases hx with e | e <;> first | exact Or.inl (e) | exact Or.inr (e))
  · refine fe_it ?_ ?_
    · exact fe_j F1 (fe_mWire_read_b105 _ _ _) (fun x k hx => by simp only [wI_mWire_read_b105, F1.r] at hx; rcases hx with e | e | e | e | e | e <;> first | exact Or.inr (Or.inl (e)) | exact Or.inr (Or.inr (Or.inl (e))) | exact Or.inr (Or.inr (Or.inr (Or.inl (e)))) | exact Or.inr (Or.inr (Or.inr (Or.inr (Or.inl (e))))) | exact Or.inr (Or.inr (Or.inr (Or.inr (Or.inr (Or.inl (e)))))) | exact Or.inr (Or.inr (Or.inr (Or.inr (Or.inr (Or.inr (e))))))) (fun x k hx => by simp only [wJ_mWire_read_b105, F1.r] at hx; rcases hx with e | e <;> first | exact Or.inl (e) | exact Or.inr (e))
    · refine fe_it ?_ ?_
      · exact fe_j F1 (fe_mWire_read_b105 _ _ _) (fun x k hx => by simp only [wI_mWire_read_b105, F1.r] at hx; rcases hx with e | e | e | e | e | e <;> first | exact Or.inr (Or.inl (e)) | exact Or.inr (Or.inr (Or.inl (e))) | exact Or.inr (Or.inr (Or.inr (Or.inl (e)))) | exact Or.inr (Or.inr (Or.inr (Or.inr (Or.inl (e))))) | exact Or.inr (Or.inr (Or.inr (Or.inr (Or.inr (Or.inl (e)))))) | exact Or.inr (Or.inr (Or.inr (Or.inr (Or.inr (Or.inr (e))))))) (fun x k hx => by simp only [wJ_mWire_read_b105, F1.r] at hx; rcases hx with e | e <;> first | exact Or.inl (e) | exact Or.inr (e))
      · refine fe_it ?_ ?_
        · exact fe_j F1 (fe_mWire_read_b105 _ _ _) (fun x k hx => by simp only [wI_mWire_read_b105, F1.r] at hx; rcases hx with e | e | e | e | e | e <;> first | exact Or.inr (Or.inl (e)) | exact Or.inr (Or.inr (Or.inl (e))) | exact Or.inr (Or.inr (Or.inr (Or.inl (e)))) | exact Or.inr (Or.inr (Or.inr (Or.inr (Or.inl (e))))) | exact Or.inr (Or.inr (Or.inr (Or.inr (Or.inr (Or.inl (e)))))) | exact Or.inr (Or.inr (Or.inr (Or.inr (Or.inr (Or.inr (e))))))) (fun x k hx => by simp only [wJ_mWire_read_b105, F1.r] at hx; rcases hx with e | e <;> first | exact Or.inl (e) | exact Or.inr (e))
        · exact fe_so F1
theorem fe_mWire_read_b68 (v0 : Nat) (v1 : Int) (v2 : Int) (s0 : Nat) (h : Hp) : Feo (wI_mWire_read_b68 v0 v1 v2 s0 h) (wJ_mWire_read_b68 v0 v1 v2 s0 h) h Prod.snd (f_mWire_read_b68 v0 v1 v2 s0 h) := by
  unfold f_mWire_read_b68
  exact fe_j Fe.rf (fe_mWire_read_b69 _ _ _ _ _ _) (fun x k hx => by simp only [wI_mWire_read_b69] at hx; rcases hx with e | e | e | e | e | e | e <;> first | exact Or.inl (e) | exact Or.inr (Or.inl (e)) | exact Or.inr (Or.inr (Or.inl (e))) | exact Or.inr (Or.inr (Or.inr (Or.inl (e)))) | exact Or.inr (Or.inr (Or.inr (Or.inr (Or.inl (e))))) | exact Or.inr (Or.inr (Or.inr (Or.inr (Or.inr (Or.inl (e)))))) | exact Or.inr (Or.inr (Or.inr (Or.inr (Or.inr (Or.inr (e))))))) (fun x k hx => by simp only [wJ_mWire_read_b69] at hx; rcases hx with e | e <;> first | exact Or.inl (e) | exact Or.inr (e))
theorem fe_mWire_read_b9 {k9 : Nat → Int → Int → Int → Hp → Option (Int × Hp)} (hk9 : ∀ (v0 : Nat) (v1 : Int) (v2 : Int) (v3 : Int) (h : Hp), Feo (wI_mWire_read_b9 v0 v1 v2 v3 h) (wJ_mWire_read_b9 v0 v1 v2 v3 h) h Prod.snd (k9 v0 v1 v2 v3 h)) (v0 : Nat) (v1 : Int) (v2 : Int) (v3 : Int) (h : Hp) : Feo (wI_mWire_read_b9 v0 v1 v2 v3 h) (wJ_mWire_read_b9 v0 v1 v2 v3 h) h Prod.snd (f_mWire_read_b9 k9 v0 v1 v2 v3 h) := by
  unfold f_mWire_read_b9
  refine fe_it ?_ ?_
  · refine fe_I Fe.rf (Or.inr (Or.inr (Or.inr (Or.inl (⟨rfl, rfl⟩))))) (fun h5 F1 => ?_)
    refine fe_I F1 (Or.inr (Or.inr (Or.inr (Or.inr (Or.inl (⟨rfl, rfl⟩)))))) (fun h6 F2 => ?_)
    refine fe_I F2 (Or.inr (Or.inr (Or.inr (Or.inr (Or.inr (Or.inl (⟨rfl, rfl⟩))))))) (fun h7 F3 => ?_)
    refine fe_it ?_ ?_
    · refine fe_it ?_ ?_
      · exact fe_j F3 (fe_mWire_read_b68 _ _ _ _ _) (fun x k hx => by simp only [wI_mWire_read_b68, F1.r, F2.r, F3.r] at hx; rcases hx with e | e | e | e | e | e | e <;> first | exact Or.inl (e) | exact Or.inr (Or.inl (e)) | exact Or.inr (Or.inr (Or.inl (e))) | exact Or.inr (Or.inr (Or.inr (Or.inl (e)))) | exact Or.inr (Or.inr (Or.inr (Or.inr (Or.inl (e))))) | exact Or.inr (Or.inr (Or.inr (Or.inr (Or.inr (Or.inl (e)))))) | exact Or.inr (Or.inr (Or.inr (Or.inr (Or.inr (Or.inr (e))))))) (fun x k hx => by simp only [wJ_mWire_read_b68, F1.r, F2.r, F3.r] at hx; rcases hx with e | e <;> first | exact Or.inl (e) | exact Or.inr (e))
      · refine fe_it ?_ ?_
        · exact fe_j F3 (fe_mWire_read_b68 _ _ _ _ _) (fun x k hx => by simp only [wI_mWire_read_b68, F1.r, F2.r, F3.r] at hx; rcases hx with e | e | e | e | e | e | e <;> first | exact Or.inl (e) | exact Or.inr (Or.inl (e)) | exact Or.inr (Or.inr (Or.inl (e))) | exact Or.inr (Or.inr (Or.inr (Or.inl (e)))) | exact Or.inr (Or.inr (Or.inr (Or.inr (Or.inl (e))))) | exact Or.inr (Or.inr (Or.inr (Or.inr (Or.inr (Or.inl (e)))))) | exact Or.inr (Or.inr (Or.inr (Or.inr (Or.inr (Or.inr (e))))))) (fun x k hx => by simp only [wJ_mWire_read_b68, F1.r, F2.r, F3.r] at hx; rcases hx with e | e <;> first | exact Or.inl (e) | exact Or.inr (e))
        · exact fe_j F3 (fe_mWire_read_b69 _ _ _ _ _ _) (fun x k hx => by simp only [wI_mWire_read_b69, F1.r, F2.r, F3.r] at hx; rcases hx with e | e | e | e | e | e | e <;> first | exact Or.inl (e) | exact Or.inr (Or.inl (e)) | exact Or.inr (Or.inr (Or.inl (e))) | exact Or.inr (Or.inr (Or.inr (Or.inl (e)))) | exact Or.inr (Or.inr (Or.inr (Or.inr (Or.inl (e))))) | exact Or.inr (Or.inr (Or.inr (Or.inr (Or.inr (Or.inl (e)))))) | exact Or.inr (Or.inr (Or.inr (Or.inr (Or.inr (Or.inr (e))))))) (fun x k hx => by simp only [wJ_mWire_read_b69, F1.r, F2.r, F3.r] at hx; rcases hx with e | e <;> first | exact Or.inl (e) | exact Or.inr (e))
    · exact fe_so F3
  · refine fe_it fe_no ?_
    refine fe_it ?_ fe_no
    refine fe_J Fe.rf (Or.inr (rfl)) (fun h10 F4 => ?_)
    exact fe_j F4 (hk9 _ _ _ _ _) (fun x k hx => by simp only [wI_mWire_read_b9, F4.r] at hx; rcases hx with e | e | e | e | e | e | e <;> first | exact Or.inl (e) | exact Or.inr (Or.inl (e)) | exact Or.inr (Or.inr (Or.inl (e))) | exact Or.inr (Or.inr (Or.inr (Or.inl (e)))) | exact Or.inr (Or.inr (Or.inr (Or.inr (Or.inl (e))))) | exact Or.inr (Or.inr (Or.inr (Or.inr (Or.inr (Or.inl (e)))))) | exact Or.inr (Or.inr (Or.inr (Or.inr (Or.inr (Or.inr (e))))))) (fun x k hx => by simp only [wJ_mWire_read_b9, F4.r] at hx; rcases hx with e | e <;> first | exact Or.inl (e) | exact Or.inr (e))
theorem fe_mWire_read_b9_lp (n : Nat) : ∀ (v0 : Nat) (v1 : Int) (v2 : Int) (v3 : Int) (h : Hp), Feo (wI_mWire_read_b9 v0 v1 v2 v3 h) (wJ_mWire_read_b9 v0 v1 v2 v3 h) h Prod.snd (f_mWire_read_b9_lp n v0 v1 v2 v3 h) := by
  induction n with
  | zero => intro v0 v1 v2 v3 h; exact fe_no
  | succ n ih => intro v0 v1 v2 v3 h; exact fe_mWire_read_b9 ih v0 v1 v2 v3 h
theorem fe_mWire_read (v0 : Nat) (v1 : Int) (h : Hp) : Feo (wI_mWire_read v0 v1 h) (wJ_mWire_read v0 v1 h) h Prod.snd (f_mWire_read v0 v1 h) := by
  unfold f_mWire_read
  refine fe_b2 Fe.rf (fe_mWire_take _ _ _) (fun x k hx => by simp only [wI_mWire_take] at hx; rcases hx with e | e <;> first | exact Or.inl (e) | exact Or.inr (Or.inl (e))) (fun x k hx => False.elim hx) (fun r3 h1 F1 => ?_)
  refine fe_v (fun y4 => ?_)
  exact fe_j F1 (fe_mWire_read_b9_lp FU _ _ _ _ _) (fun x k hx => by simp only [wI_mWire_read_b9, F1.r] at hx; rcases hx with e | e | e | e | e | e | e <;> first | exact Or.inl (e) | exact Or.inr (Or.inl (e)) | exact Or.inr (Or.inr (Or.inl (e))) | exact Or.inr (Or.inr (Or.inr (Or.inl (e)))) | exact Or.inr (Or.inr (Or.inr (Or.inr (Or.inl (e))))) | exact Or.inr (Or.inr (Or.inr (Or.inr (Or.inr (Or.inl (e)))))) | exact Or.inr (Or.inr (Or.inr (Or.inr (Or.inr (Or.inr (e))))))) (fun x k hx => by simp only [wJ_mWire_read_b9, F1.r] at hx; rcases hx with e | e <;> first | exact Or.inl (e) | exact Or.inr (e))
def wI_mBook_isOut (v0 : Nat) (v1 : Int) (v2 : Int) (h : Hp) (x k : Nat) : Prop := False
def wJ_mBook_isOut (v0 : Nat) (v1 : Int) (v2 : Int) (h : Hp) (x k : Nat) : Prop := False
theorem fe_mBook_isOut (v0 : Nat) (v1 : Int) (v2 : Int) (h : Hp) : Feo (wI_mBook_isOut v0 v1 v2 h) (wJ_mBook_isOut v0 v1 v2 h) h Prod.snd (f_mBook_isOut v0 v1 v2 h) := by
  unfold f_mBook_isOut
  refine fe_it fe_no ?_
  refine fe_it ?_ fe_no
  refine fe_it ?_ ?_
  · exact fe_so Fe.rf
  · refine fe_it fe_no ?_
    refine fe_it ?_ fe_no
    refine fe_it ?_ ?_
    · exact fe_so Fe.rf
    · exact fe_so Fe.rf
def wI_mBook_isNew_b49 (v0 : Nat) (v1 : Int) (v2 : Int) (v4 : Int) (s0 : Int) (h : Hp) (x k : Nat) : Prop := False
def wJ_mBook_isNew_b49 (v0 : Nat) (v1 : Int) (v2 : Int) (v4 : Int) (s0 : Int) (h : Hp) (x k : Nat) : Prop := False
def wI_mBook_isNew_b44 (v0 : Nat) (v1 : Int) (v2 : Int) (v4 : Int) (h : Hp) (x k : Nat) : Prop := False
def wJ_mBook_isNew_b44 (v0 : Nat) (v1 : Int) (v2 : Int) (v4 : Int) (h : Hp) (x k : Nat) : Prop := False
def wI_mBook_isNew_b48 (v0 : Nat) (v1 : Int) (v2 : Int) (v4 : Int) (h : Hp) (x k : Nat) : Prop := False
def wJ_mBook_isNew_b48 (v0 : Nat) (v1 : Int) (v2 : Int) (v4 : Int) (h : Hp) (x k : Nat) : Prop := False
def wI_mBook_isNew_b5 (v0 : Nat) (v1 : Int) (v2 : Int) (v3 : Int) (v4 : Int) (h : Hp) (x k : Nat) : Prop := False
def wJ_mBook_isNew_b5 (v0 : Nat) (v1 : Int) (v2 : Int) (v3 : Int) (v4 : Int) (h : Hp) (x k : Nat) : Prop := False
def wI_mBook_isNew (v0 : Nat) (v1 : Int) (v2 : Int) (h : Hp) (x k : Nat) : Prop := False
def wJ_mBook_isNew (v0 : Nat) (v1 : Int) (v2 : Int) (h : Hp) (x k : Nat) : Prop := False
theorem fe_mBook_isNew_b49 {k5 : Nat → Int → Int → Int → Int → Hp → Option (Int × Hp)} (hk5 : ∀ (v0 : Nat) (v1 : Int) (v2 : Int) (v3 : Int) (v4 : Int) (h : Hp), Feo (wI_mBook_isNew_b5 v0 v1 v2 v3 v4 h) (wJ_mBook_isNew_b5 v0 v1 v2 v3 v4 h) h Prod.snd (k5 v0 v1 v2 v3 v4 h)) (v0 : Nat) (v1 : Int) (v2 : Int) (v4 : Int) (s0 : Int) (h : Hp) : Feo (wI_mBook_isNew_b49 v0 v1 v2 v4 s0 h) (wJ_mBook_isNew_b49 v0 v1 v2 v4 s0 h) h Prod.snd (f_mBook_isNew_b49 k5 v0 v1 v2 v4 s0 h) := by
  unfold f_mBook_isNew_b49
  exact fe_j Fe.rf (hk5 _ _ _ _ _ _) (fun x k hx => False.elim hx) (fun x k hx => False.elim hx)
theorem fe_mBook_isNew_b44 {k5 : Nat → Int → Int → Int → Int → Hp → Option (Int × Hp)} (hk5 : ∀ (v0 : Nat) (v1 : Int) (v2 : Int) (v3 : Int) (v4 : Int) (h : Hp), Feo (wI_mBook_isNew_b5 v0 v1 v2 v3 v4 h) (wJ_mBook_isNew_b5 v0 v1 v2 v3 v4 h) h Prod.snd (k5 v0 v1 v2 v3 v4 h)) (v0 : Nat) (v1 : Int) (v2 : Int) (v4 : Int) (h : Hp) : Feo (wI_mBook_isNew_b44 v0 v1 v2 v4 h) (wJ_mBook_isNew_b44 v0 v1 v2 v4 h) h Prod.snd (f_mBook_isNew_b44 k5 v0 v1 v2 v4 h) := by
  unfold f_mBook_isNew_b44
  exact fe_j Fe.rf (fe_mBook_isNew_b49 hk5 _ _ _ _ _ _) (fun x k hx => False.elim hx) (fun x k hx => False.elim hx)
theorem fe_mBook_isNew_b48 {k5 : Nat → Int → Int → Int → Int → Hp → Option (Int × Hp)} (hk5 : ∀ (v0 : Nat) (v1 : Int) (v2 : Int) (v3 : Int) (v4 : Int) (h : Hp), Feo (wI_mBook_isNew_b5 v0 v1 v2 v3 v4 h) (wJ_mBook_isNew_b5 v0 v1 v2 v3 v4 h) h Prod.snd (k5 v0 v1 v2 v3 v4 h)) (v0 : Nat) (v1 : Int) (v2 : Int) (v4 : Int) (h : Hp) : Feo (wI_mBook_isNew_b48 v0 v1 v2 v4 h) (wJ_mBook_isNew_b48 v0 v1 v2 v4 h) h Prod.snd (f_mBook_isNew_b48 k5 v0 v1 v2 v4 h) := by
  unfold f_mBook_isNew_b48
  exact fe_j Fe.rf (fe_mBook_isNew_b49 hk5 _ _ _ _ _ _) (fun x k hx => False.elim hx) (fun x k hx => False.elim hx)
theorem fe_mBook_isNew_b5 {k5 : Nat → Int → Int → Int → Int → Hp → Option (Int × Hp)} (hk5 : ∀ (v0 : Nat) (v1 : Int) (v2 : Int) (v3 : Int) (v4 : Int) (h : Hp), Feo (wI_mBook_isNew_b5 v0 v1 v2 v3 v4 h) (wJ_mBook_isNew_b5 v0 v1 v2 v3 v4 h) h Prod.snd (k5 v0 v1 v2 v3 v4 h)) (v0 : Nat) (v1 : Int) (v2 : Int) (v3 : Int) (v4 : Int) (h : Hp) : Feo (wI_mBook_isNew_b5 v0 v1 v2 v3 v4 h) (wJ_mBook_isNew_b5 v0 v1 v2 v3 v4 h) h Prod.snd (f_mBook_isNew_b5 k5 v0 v1 v2 v3 v4 h) := by
  unfold f_mBook_isNew_b5
  refine fe_it ?_ ?_
  · refine fe_it ?_ ?_
    · exact fe_so Fe.rf
    · refine fe_b2 Fe.rf (fe_mBook_isOut _ _ _ _) (fun x k hx => False.elim hx) (fun x k hx => False.elim hx) (fun r3 h1 F1 => ?_)
      refine fe_it ?_ ?_
      · exact fe_so F1
      · exact fe_so F1
  · refine fe_it ?_ ?_
    · exact fe_j Fe.rf (fe_mBook_isNew_b44 hk5 _ _ _ _ _) (fun x k hx => False.elim hx) (fun x k hx => False.elim hx)
    · refine fe_it fe_no ?_
      refine fe_it ?_ fe_no
      refine fe_it ?_ ?_
      · exact fe_j Fe.rf (fe_mBook_isNew_b48 hk5 _ _ _ _ _) (fun x k hx => False.elim hx) (fun x k hx => False.elim hx)
      · refine fe_it fe_no ?_
        refine fe_it ?_ fe_no
        refine fe_it ?_ ?_
        · exact fe_j Fe.rf (fe_mBook_isNew_b48 hk5 _ _ _ _ _) (fun x k hx => False.elim hx) (fun x k hx => False.elim hx)
        · exact fe_j Fe.rf (fe_mBook_isNew_b44 hk5 _ _ _ _ _) (fun x k hx => False.elim hx) (fun x k hx => False.elim hx)
theorem fe_mBook_isNew_b5_lp (n : Nat) : ∀ (v0 : Nat) (v1 : Int) (v2 : Int) (v3 : Int) (v4 : Int) (h : Hp), Feo (wI_mBook_isNew_b5 v0 v1 v2 v3 v4 h) (wJ_mBook_isNew_b5 v0 v1 v2 v3 v4 h) h Prod.snd (f_mBook_isNew_b5_lp n v0 v1 v2 v3 v4 h) := by
  induction n with
  | zero => intro v0 v1 v2 v3 v4 h; exact fe_no
  | succ n ih => intro v0 v1 v2 v3 v4 h; exact fe_mBook_isNew_b5 ih v0 v1 v2 v3 v4 h
theorem fe_mBook_isNew (v0 : Nat) (v1 : Int) (v2 : Int) (h : Hp) : Feo (wI_mBook_isNew v0 v1 v2 h) (wJ_mBook_isNew v0 v1 v2 h) h Prod.snd (f_mBook_isNew v0 v1 v2 h) := by
  unfold f_mBook_isNew
  exact fe_j Fe.rf (fe_mBook_isNew_b5_lp FU _ _ _ _ _ _) (fun x k hx => False.elim hx) (fun x k hx => False.elim hx)
def wI_mBook_sample_b110 (v0 : Nat) (v3 : Int) (s0 : Nat) (s1 : Int) (s2 : Int) (h : Hp) (x k : Nat) : Prop := (x = s0 ∧ k = 19) ∨ (x = v0 ∧ k = 18)
def wJ_mBook_sample_b110 (v0 : Nat) (v3 : Int) (s0 : Nat) (s1 : Int) (s2 : Int) (h : Hp) (x k : Nat) : Prop := False
def wI_mBook_sample_b80 (v0 : Nat) (s0 : Int) (h : Hp) (x k : Nat) : Prop := (x = v0 ∧ k = 18) ∨ (x = v0 ∧ k = 19)
def wJ_mBook_sample_b80 (v0 : Nat) (s0 : Int) (h : Hp) (x k : Nat) : Prop := False
def wI_mBook_sample_b29 (v0 : Nat) (v1 : Int) (v2 : Int) (s0 : Nat) (s1 : Int) (h : Hp) (x k : Nat) : Prop := (x = s0 ∧ k = 21) ∨ (x = v0 ∧ k = 18) ∨ (x = v0 ∧ k = 19) ∨ (x = v0 ∧ k = 22)
def wJ_mBook_sample_b29 (v0 : Nat) (v1 : Int) (v2 : Int) (s0 : Nat) (s1 : Int) (h : Hp) (x k : Nat) : Prop := False
def wI_mBook_sample_b21 (v0 : Nat) (v1 : Int) (v2 : Int) (s0 : Nat) (h : Hp) (x k : Nat) : Prop := (x = s0 ∧ k = 21) ∨ (x = v0 ∧ k = 18) ∨ (x = v0 ∧ k = 19) ∨ (x = v0 ∧ k = 22)
def wJ_mBook_sample_b21 (v0 : Nat) (v1 : Int) (v2 : Int) (s0 : Nat) (h : Hp) (x k : Nat) : Prop := False
def wI_mBook_sample (v0 : Nat) (v1 : Int) (v2 : Int) (h : Hp) (x k : Nat) : Prop := (x = v0 ∧ k = 18) ∨ (x = v0 ∧ k = 19) ∨ (x = v0 ∧ k = 20) ∨ (x = v0 ∧ k = 21) ∨ (x = v0 ∧ k = 22)
def wJ_mBook_sample (v0 : Nat) (v1 : Int) (v2 : Int) (h : Hp) (x k : Nat) : Prop := False
theorem fe_mBook_sample_b110 (v0 : Nat) (v3 : Int) (s0 : Nat) (s1 : Int) (s2 : Int) (h : Hp) : Feo (wI_mBook_sample_b110 v0 v3 s0 s1 s2 h) (wJ_mBook_sample_b110 v0 v3 s0 s1 s2 h) h id (f_mBook_sample_b110 v0 v3 s0 s1 s2 h) := by
  unfold f_mBook_sample_b110
  refine fe_it fe_no ?_
  refine fe_I Fe.rf (Or.inl (⟨rfl, rfl⟩)) (fun h9 F1 => ?_)
  refine fe_I F1 (Or.inr (⟨rfl, rfl⟩)) (fun h10 F2 => ?_)
  exact fe_so F2
theorem fe_mBook_sample_b80 (v0 : Nat) (s0 : Int) (h : Hp) : Feo (wI_mBook_sample_b80 v0 s0 h) (wJ_mBook_sample_b80 v0 s0 h) h id (f_mBook_sample_b80 v0 s0 h) := by
  unfold f_mBook_sample_b80
  refine fe_v (fun y7 => ?_)
  refine fe_it ?_ ?_
  · exact fe_j Fe.rf (fe_mBook_sample_b110 _ _ _ _ _ _) (fun x k hx => by simp only [wI_mBook_sample_b110] at hx; rcases hx with e | e <;> first | exact Or.inl (e) | exact Or.inr (e)) (fun x k hx => False.elim hx)
  · exact fe_j Fe.rf (fe_mBook_sample_b110 _ _ _ _ _ _) (fun x k hx => by simp only [wI_mBook_sample_b110] at hx; rcases hx with e | e <;> first | exact Or.inl (e) | exact Or.inr (e)) (fun x k hx => False.elim hx)
theorem fe_mBook_sample_b29 (v0 : Nat) (v1 : Int) (v2 : Int) (s0 : Nat) (s1 : Int) (h : Hp) : Feo (wI_mBook_sample_b29 v0 v1 v2 s0 s1 h) (wJ_mBook_sample_b29 v0 v1 v2 s0 s1 h) h id (f_mBook_sample_b29 v0 v1 v2 s0 s1 h) := by
  unfold f_mBook_sample_b29
  refine fe_it fe_no ?_
  refine fe_I Fe.rf (Or.inl (⟨rfl, rfl⟩)) (fun h3 F1 => ?_)
  refine fe_it ?_ ?_
  · refine fe_it ?_ ?_
    · exact fe_j F1 (fe_mBook_sample_b80 _ _ _) (fun x k hx => by simp only [wI_mBook_sample_b80, F1.r] at hx; rcases hx with e | e <;> first | exact Or.inr (Or.inl (e)) | exact Or.inr (Or.inr (Or.inl (e)))) (fun x k hx => False.elim hx)
    · exact fe_j F1 (fe_mBook_sample_b80 _ _ _) (fun x k hx => by simp only [wI_mBook_sample_b80, F1.r] at hx; rcases hx with e | e <;> first | exact Or.inr (Or.inl (e)) | exact Or.inr (Or.inr (Or.inl (e)))) (fun x k hx => False.elim hx)
  · refine fe_I F1 (Or.inr (Or.inr (Or.inr (⟨rfl, rfl⟩)))) (fun h4 F2 => ?_)
    refine fe_I F2 (Or.inr (Or.inl (⟨rfl, rfl⟩))) (fun h5 F3 => ?_)
    refine fe_I F3 (Or.inr (Or.inr (Or.inl (⟨rfl, rfl⟩)))) (fun h6 F4 => ?_)
    exact fe_so F4
theorem fe_mBook_sample_b21 (v0 : Nat) (v1 : Int) (v2 : Int) (s0 : Nat) (h : Hp) : Feo (wI_mBook_sample_b21 v0 v1 v2 s0 h) (wJ_mBook_sample_b21 v0 v1 v2 s0 h) h id (f_mBook_sample_b21 v0 v1 v2 s0 h) := by
  unfold f_mBook_sample_b21
  exact fe_j Fe.rf (fe_mBook_sample_b29 _ _ _ _ _ _) (fun x k hx => by simp only [wI_mBook_sample_b29] at hx; rcases hx with e | e | e | e <;> first | exact Or.inl (e) | exact Or.inr (Or.inl (e)) | exact Or.inr (Or.inr (Or.inl (e))) | exact Or.inr (Or.inr (Or.inr (e)))) (fun x k hx => False.elim hx)
theorem fe_mBook_sample (v0 : Nat) (v1 : Int) (v2 : Int) (h : Hp) : Feo (wI_mBook_sample v0 v1 v2 h) (wJ_mBook_sample v0 v1 v2 h) h id (f_mBook_sample v0 v1 v2 h) := by
  unfold f_mBook_sample
  refine fe_I Fe.rf (Or.inr (Or.inr (Or.inl (⟨rfl, rfl⟩)))) (fun h1 F1 => ?_)
  refine fe_it ?_ ?_
  · exact fe_j F1 (fe_mBook_sample_b21 _ _ _ _ _) (fun x k hx => by simp only [wI_mBook_sample_b21, F1.r] at hx; rcases hx with e | e | e | e <;> first | exact Or.inl (e) | exact Or.inr (Or.inl (e)) | exact Or.inr (Or.inr (Or.inr (Or.inl (e)))) | exact Or.inr (Or.inr (Or.inr (Or.inr (e))))) (fun x k hx => False.elim hx)
  · refine fe_it ?_ ?_
    · exact fe_j F1 (fe_mBook_sample_b29 _ _ _ _ _ _) (fun x k hx => by simp only [wI_mBook_sample_b29, F1.r] at hx; rcases hx with e | e | e | e <;> first | exact Or.inl (e) | exact Or.inr (Or.inl (e)) | exact Or.inr (Or.inr (Or.inr (Or.inl (e)))) | exact Or.inr (Or.inr (Or.inr (Or.inr (e))))) (fun x k hx => False.elim hx)
    · exact fe_j F1 (fe_mBook_sample_b21 _ _ _ _ _) (fun x k hx => by simp only [wI_mBook_sample_b21, F1.r] at hx; rcases hx with e | e | e | e <;> first | exact Or.inl (e) | exact Or.inr (Or.inl (e)) | exact Or.inr (Or.inr (Or.inr (Or.inl (e)))) | exact Or.inr (Or.inr (Or.inr (Or.inr (e))))) (fun x k hx => False.elim hx)
def wI_mBook_find_b55 (v0 : Nat) (v1 : Int) (h : Hp) (x k : Nat) : Prop := x = hR h v0 10
def wJ_mBook_find_b55 (v0 : Nat) (v1 : Int) (h : Hp) (x k : Nat) : Prop := False
def wI_mBook_find (v0 : Nat) (v1 : Int) (v2 : Int) (v3 : Int) (h : Hp) (x k : Nat) : Prop := x = hR h v0 10 ∨ x = hR h v0 15 ∨ x = hR h v0 16 ∨ x = hR h v0 6
def wJ_mBook_find (v0 : Nat) (v1 : Int) (v2 : Int) (v3 : Int) (h : Hp) (x k : Nat) : Prop := False
theorem fe_mBook_find_b55 {k55 : Nat → Int → Hp → Option (Hp)} (hk55 : ∀ (v0 : Nat) (v1 : Int) (h : Hp), Feo (wI_mBook_find_b55 v0 v1 h) (wJ_mBook_find_b55 v0 v1 h) h id (k55 v0 v1 h)) (v0 : Nat) (v1 : Int) (h : Hp) : Feo (wI_mBook_find_b55 v0 v1 h) (wJ_mBook_find_b55 v0 v1 h) h id (f_mBook_find_b55 k55 v0 v1 h) := by
  unfold f_mBook_find_b55
  refine fe_it fe_no ?_
  refine fe_it ?_ fe_no
  refine fe_it fe_no ?_
  refine fe_it ?_ fe_no
  refine fe_it ?_ ?_
  · exact fe_so Fe.rf
  · refine fe_it ?_ fe_no
    refine fe_it fe_no ?_
    refine fe_it ?_ fe_no
    refine fe_it ?_ ?_
    · exact fe_so Fe.rf
    · refine fe_it ?_ fe_no
      refine fe_it ?_ fe_no
      refine fe_I Fe.rf (rfl) (fun h23 F1 => ?_)
      exact fe_j F1 (hk55 _ _ _) (fun x k hx => by simp only [wI_mBook_find_b55, F1.r] at hx; have e := hx; exact e) (fun x k hx => False.elim hx)
theorem fe_mBook_find_b55_lp (n : Nat) : ∀ (v0 : Nat) (v1 : Int) (h : Hp), Feo (wI_mBook_find_b55 v0 v1 h) (wJ_mBook_find_b55 v0 v1 h) h id (f_mBook_find_b55_lp n v0 v1 h) := by
  induction n with
  | zero => intro v0 v1 h; exact fe_no
  | succ n ih => intro v0 v1 h; exact fe_mBook_find_b55 ih v0 v1 h
theorem fe_mBook_find (v0 : Nat) (v1 : Int) (v2 : Int) (v3 : Int) (h : Hp) : Feo (wI_mBook_find v0 v1 v2 v3 h) (wJ_mBook_find v0 v1 v2 v3 h) h id (f_mBook_find v0 v1 v2 v3 h) := by
  unfold f_mBook_find
  refine fe_v (fun y1 => ?_)
  refine fe_it fe_no ?_
  refine fe_it ?_ fe_no
  refine fe_I Fe.rf (Or.inr (Or.inr (Or.inr (rfl)))) (fun h4 F1 => ?_)
  refine fe_it fe_no ?_
  refine fe_it ?_ fe_no
  refine fe_it fe_no ?_
  refine fe_it ?_ fe_no
  refine fe_I F1 (Or.inr (Or.inl ((by first | (simp only [F1.r]; exact rfl) | simp only [F1.r])))) (fun h9 F2 => ?_)
  refine fe_it fe_no ?_
  refine fe_it ?_ fe_no
  refine fe_it ?_ fe_no
  refine fe_I F2 (Or.inr (Or.inr (Or.inl ((by first | (simp only [F1.r, F2.r]; exact rfl) | simp only [F1.r, F2.r]))))) (fun h13 F3 => ?_)
  exact fe_j F3 (fe_mBook_find_b55_lp FU _ _ _) (fun x k hx => by simp only [wI_mBook_find_b55, F1.r, F2.r, F3.r] at hx; have e := hx; exact Or.inl (e)) (fun x k hx => False.elim hx)
def wI_mBook_isBehindRecovery_b20 (v0 : Nat) (h : Hp) (x k : Nat) : Prop := False
def wJ_mBook_isBehindRecovery_b20 (v0 : Nat) (h : Hp) (x k : Nat) : Prop := False
def wI_mBook_isBehindRecovery (v0 : Nat) (v1 : Int) (h : Hp) (x k : Nat) : Prop := False
def wJ_mBook_isBehindRecovery (v0 : Nat) (v1 : Int) (h : Hp) (x k : Nat) : Prop := False
theorem fe_mBook_isBehindRecovery_b20 (v0 : Nat) (h : Hp) : Feo (wI_mBook_isBehindRecovery_b20 v0 h) (wJ_mBook_isBehindRecovery_b20 v0 h) h Prod.snd (f_mBook_isBehindRecovery_b20 v0 h) := by
  unfold f_mBook_isBehindRecovery_b20
  exact fe_so Fe.rf
theorem fe_mBook_isBehindRecovery (v0 : Nat) (v1 : Int) (h : Hp) : Feo (wI_mBook_isBehindRecovery v0 v1 h) (wJ_mBook_isBehindRecovery v0 v1 h) h Prod.snd (f_mBook_isBehindRecovery v0 v1 h) := by
  unfold f_mBook_isBehindRecovery
  refine fe_it ?_ ?_
  · exact fe_j Fe.rf (fe_mBook_isBehindRecovery_b20 _ _) (fun x k hx => False.elim hx) (fun x k hx => False.elim hx)
  · refine fe_it fe_no ?_
    refine fe_it ?_ fe_no
    refine fe_it ?_ ?_
    · exact fe_so Fe.rf
    · exact fe_j Fe.rf (fe_mBook_isBehindRecovery_b20 _ _) (fun x k hx => False.elim hx) (fun x k hx => False.elim hx)
def wI_mBook_grow_b74 (v0 : Nat) (s0 : Nat) (s1 : Int) (s2 : Int) (h : Hp) (x k : Nat) : Prop := (x = s0 ∧ k = 24)
def wJ_mBook_grow_b74 (v0 : Nat) (s0 : Nat) (s1 : Int) (s2 : Int) (h : Hp) (x k : Nat) : Prop := False
def wI_mBook_grow_b50 (v0 : Nat) (v1 : Int) (s0 : Nat) (s1 : Int) (h : Hp) (x k : Nat) : Prop := (x = s0 ∧ k = 24)
def wJ_mBook_grow_b50 (v0 : Nat) (v1 : Int) (s0 : Nat) (s1 : Int) (h : Hp) (x k : Nat) : Prop := False
def wI_mBook_grow (v0 : Nat) (v1 : Int) (h : Hp) (x k : Nat) : Prop := (x = v0 ∧ k = 24)
def wJ_mBook_grow (v0 : Nat) (v1 : Int) (h : Hp) (x k : Nat) : Prop := False
theorem fe_mBook_grow_b74 (v0 : Nat) (s0 : Nat) (s1 : Int) (s2 : Int) (h : Hp) : Feo (wI_mBook_grow_b74 v0 s0 s1 s2 h) (wJ_mBook_grow_b74 v0 s0 s1 s2 h) h id (f_mBook_grow_b74 v0 s0 s1 s2 h) := by
  unfold f_mBook_grow_b74
  refine fe_it fe_no ?_
  refine fe_I Fe.rf (⟨rfl, rfl⟩) (fun h14 F1 => ?_)
  exact fe_so F1
theorem fe_mBook_grow_b50 (v0 : Nat) (v1 : Int) (s0 : Nat) (s1 : Int) (h : Hp) : Feo (wI_mBook_grow_b50 v0 v1 s0 s1 h) (wJ_mBook_grow_b50 v0 v1 s0 s1 h) h id (f_mBook_grow_b50 v0 v1 s0 s1 h) := by
  unfold f_mBook_grow_b50
  refine fe_it fe_no ?_
  refine fe_it ?_ fe_no
  exact fe_j Fe.rf (fe_mBook_grow_b74 _ _ _ _ _) (fun x k hx => by simp only [wI_mBook_grow_b74] at hx; have e := hx; exact e) (fun x k hx => False.elim hx)
theorem fe_mBook_grow (v0 : Nat) (v1 : Int) (h : Hp) : Feo (wI_mBook_grow v0 v1 h) (wJ_mBook_grow v0 v1 h) h id (f_mBook_grow v0 v1 h) := by
  unfold f_mBook_grow
  refine fe_it fe_no ?_
  refine fe_it ?_ fe_no
  refine fe_it ?_ ?_
  · exact fe_so Fe.rf
  · refine fe_it fe_no ?_
    refine fe_it ?_ fe_no
    refine fe_it ?_ ?_
    · exact fe_so Fe.rf
    · refine fe_b2 Fe.rf (fe_mBook_isBehindRecovery _ _ _) (fun x k hx => False.elim hx) (fun x k hx => False.elim hx) (fun r7 h5 F1 => ?_)
      refine fe_it ?_ ?_
      · refine fe_it ?_ ?_
        · exact fe_j F1 (fe_mBook_grow_b50 _ _ _ _ _) (fun x k hx => by simp only [wI_mBook_grow_b50, F1.r] at hx; have e := hx; exact e) (fun x k hx => False.elim hx)
        · refine fe_it ?_ ?_
          · refine fe_it fe_no ?_
            refine fe_it ?_ fe_no
            refine fe_it fe_no ?_
            exact fe_j F1 (fe_mBook_grow_b74 _ _ _ _ _) (fun x k hx => by simp only [wI_mBook_grow_b74, F1.r] at hx; have e := hx; exact e) (fun x k hx => False.elim hx)
          · exact fe_j F1 (fe_mBook_grow_b50 _ _ _ _ _) (fun x k hx => by simp only [wI_mBook_grow_b50, F1.r] at hx; have e := hx; exact e) (fun x k hx => False.elim hx)
      · exact fe_so F1
def wI_mBook_limit (v0 : Nat) (h : Hp) (x k : Nat) : Prop := False
def wJ_mBook_limit (v0 : Nat) (h : Hp) (x k : Nat) : Prop := False
theorem fe_mBook_limit (v0 : Nat) (h : Hp) : Feo (wI_mBook_limit v0 h) (wJ_mBook_limit v0 h) h Prod.snd (f_mBook_limit v0 h) := by
  unfold f_mBook_limit
  refine fe_b2 Fe.rf (fe_mBook_greater _ _ _) (fun x k hx => False.elim hx) (fun x k hx => False.elim hx) (fun r3 h1 F1 => ?_)
  refine fe_b2 F1 (fe_mBook_greater _ _ _) (fun x k hx => False.elim hx) (fun x k hx => False.elim hx) (fun r6 h4 F2 => ?_)
  exact fe_so F2
def wI_mBook_persists_b103 (v0 : Nat) (v1 : Int) (v3 : Int) (v4 : Int) (v5 : Int) (h : Hp) (x k : Nat) : Prop := (x = v0 ∧ k = 24) ∨ (x = v0 ∧ k = 26)
def wJ_mBook_persists_b103 (v0 : Nat) (v1 : Int) (v3 : Int) (v4 : Int) (v5 : Int) (h : Hp) (x k : Nat) : Prop := False
def wI_mBook_persists_b98 (v0 : Nat) (v1 : Int) (v5 : Int) (v6 : Int) (s0 : Int) (h : Hp) (x k : Nat) : Prop := (x = v0 ∧ k = 24) ∨ (x = v0 ∧ k = 26)
def wJ_mBook_persists_b98 (v0 : Nat) (v1 : Int) (v5 : Int) (v6 : Int) (s0 : Int) (h : Hp) (x k : Nat) : Prop := False
def wI_mBook_persists_b154 (v0 : Nat) (v1 : Int) (v3 : Int) (v4 : Int) (v6 : Int) (s0 : Int) (h : Hp) (x k : Nat) : Prop := (x = v0 ∧ k = 24) ∨ (x = v0 ∧ k = 26)
def wJ_mBook_persists_b154 (v0 : Nat) (v1 : Int) (v3 : Int) (v4 : Int) (v6 : Int) (s0 : Int) (h : Hp) (x k : Nat) : Prop := False
def wI_mBook_persists_b149 (v0 : Nat) (v1 : Int) (v3 : Int) (v4 : Int) (v6 : Int) (h : Hp) (x k : Nat) : Prop := (x = v0 ∧ k = 24) ∨ (x = v0 ∧ k = 26)
def wJ_mBook_persists_b149 (v0 : Nat) (v1 : Int) (v3 : Int) (v4 : Int) (v6 : Int) (h : Hp) (x k : Nat) : Prop := False
def wI_mBook_persists_b120 (v0 : Nat) (v1 : Int) (v3 : Int) (v4 : Int) (v5 : Int) (v6 : Int) (h : Hp) (x k : Nat) : Prop := (x = v0 ∧ k = 24) ∨ (x = v0 ∧ k = 26)
def wJ_mBook_persists_b120 (v0 : Nat) (v1 : Int) (v3 : Int) (v4 : Int) (v5 : Int) (v6 : Int) (h : Hp) (x k : Nat) : Prop := False
def wI_mBook_persists_b8 (v0 : Nat) (v1 : Int) (v3 : Int) (v4 : Int) (v5 : Int) (h : Hp) (x k : Nat) : Prop := (x = v0 ∧ k = 24) ∨ (x = v0 ∧ k = 26)
def wJ_mBook_persists_b8 (v0 : Nat) (v1 : Int) (v3 : Int) (v4 : Int) (v5 : Int) (h : Hp) (x k : Nat) : Prop := False
def wI_mBook_persists (v0 : Nat) (v1 : Int) (v2 : Int) (h : Hp) (x k : Nat) : Prop := (x = v0 ∧ k = 24) ∨ (x = v0 ∧ k = 26)
def wJ_mBook_persists (v0 : Nat) (v1 : Int) (v2 : Int) (h : Hp) (x k : Nat) : Prop := False
theorem fe_mBook_persists_b103 {k8 : Nat → Int → Int → Int → Int → Hp → Option (Hp)} (hk8 : ∀ (v0 : Nat) (v1 : Int) (v3 : Int) (v4 : Int) (v5 : Int) (h : Hp), Feo (wI_mBook_persists_b8 v0 v1 v3 v4 v5 h) (wJ_mBook_persists_b8 v0 v1 v3 v4 v5 h) h id (k8 v0 v1 v3 v4 v5 h)) (v0 : Nat) (v1 : Int) (v3 : Int) (v4 : Int) (v5 : Int) (h : Hp) : Feo (wI_mBook_persists_b103 v0 v1 v3 v4 v5 h) (wJ_mBook_persists_b103 v0 v1 v3 v4 v5 h) h id (f_mBook_persists_b103 k8 v0 v1 v3 v4 v5 h) := by
  unfold f_mBook_persists_b103
  exact fe_j Fe.rf (hk8 _ _ _ _ _ _) (fun x k hx => by simp only [wI_mBook_persists_b8] at hx; rcases hx with e | e <;> first | exact Or.inl (e) | exact Or.inr (e)) (fun x k hx => False.elim hx)
theorem fe_mBook_persists_b98 {k8 : Nat → Int → Int → Int → Int → Hp → Option (Hp)} (hk8 : ∀ (v0 : Nat) (v1 : Int) (v3 : Int) (v4 : Int) (v5 : Int) (h : Hp), Feo (wI_mBook_persists_b8 v0 v1 v3 v4 v5 h) (wJ_mBook_persists_b8 v0 v1 v3 v4 v5 h) h id (k8 v0 v1 v3 v4 v5 h)) (v0 : Nat) (v1 : Int) (v5 : Int) (v6 : Int) (s0 : Int) (h : Hp) : Feo (wI_mBook_persists_b98 v0 v1 v5 v6 s0 h) (wJ_mBook_persists_b98 v0 v1 v5 v6 s0 h) h id (f_mBook_persists_b98 k8 v0 v1 v5 v6 s0 h) := by
  unfold f_mBook_persists_b98
  exact fe_j Fe.rf (fe_mBook_persists_b103 hk8 _ _ _ _ _ _) (fun x k hx => by simp only [wI_mBook_persists_b103] at hx; rcases hx with e | e <;> first | exact Or.inl (e) | exact Or.inr (e)) (fun x k hx => False.elim hx)
theorem fe_mBook_persists_b154 {k120 : Nat → Int → Int → Int → Int → Int → Hp → Option (Hp)} (hk120 : ∀ (v0 : Nat) (v1 : Int) (v3 : Int) (v4 : Int) (v5 : Int) (v6 : Int) (h : Hp), Feo (wI_mBook_persists_b120 v0 v1 v3 v4 v5 v6 h) (wJ_mBook_persists_b120 v0 v1 v3 v4 v5 v6 h) h id (k120 v0 v1 v3 v4 v5 v6 h)) (v0 : Nat) (v1 : Int) (v3 : Int) (v4 : Int) (v6 : Int) (s0 : Int) (h : Hp) : Feo (wI_mBook_persists_b154 v0 v1 v3 v4 v6 s0 h) (wJ_mBook_persists_b154 v0 v1 v3 v4 v6 s0 h) h id (f_mBook_persists_b154 k120 v0 v1 v3 v4 v6 s0 h) := by
  unfold f_mBook_persists_b154
  exact fe_j Fe.rf (hk120 _ _ _ _ _ _ _) (fun x k hx => by simp only [wI_mBook_persists_b120] at hx; rcases hx with e | e <;> first | exact Or.inl (e) | exact Or.inr (e)) (fun x k hx => False.elim hx)
theorem fe_mBook_persists_b149 {k120 : Nat → Int → Int → Int → Int → Int → Hp → Option (Hp)} (hk120 : ∀ (v0 : Nat) (v1 : Int) (v3 : Int) (v4 : Int) (v5 : Int) (v6 : Int) (h : Hp), Feo (wI_mBook_persists_b120 v0 v1 v3 v4 v5 v6 h) (wJ_mBook_persists_b120 v0 v1 v3 v4 v5 v6 h) h id (k120 v0 v1 v3 v4 v5 v6 h)) (v0 : Nat) (v1 : Int) (v3 : Int) (v4 : Int) (v6 : Int) (h : Hp) : Feo (wI_mBook_persists_b149 v0 v1 v3 v4 v6 h) (wJ_mBook_persists_b149 v0 v1 v3 v4 v6 h) h id (f_mBook_persists_b149 k120 v0 v1 v3 v4 v6 h) := by
  unfold f_mBook_persists_b149
  exact fe_j Fe.rf (fe_mBook_persists_b154 hk120 _ _ _ _ _ _ _) (fun x k hx => by simp only [wI_mBook_persists_b154] at hx; rcases hx with e | e <;> first | exact Or.inl (e) | exact Or.inr (e)) (fun x k hx => False.elim hx)
theorem fe_mBook_persists_b120 {k120 : Nat → Int → Int → Int → Int → Int → Hp → Option (Hp)} (hk120 : ∀ (v0 : Nat) (v1 : Int) (v3 : Int) (v4 : Int) (v5 : Int) (v6 : Int) (h : Hp), Feo (wI_mBook_persists_b120 v0 v1 v3 v4 v5 v6 h) (wJ_mBook_persists_b120 v0 v1 v3 v4 v5 v6 h) h id (k120 v0 v1 v3 v4 v5 v6 h)) (v0 : Nat) (v1 : Int) (v3 : Int) (v4 : Int) (v5 : Int) (v6 : Int) (h : Hp) : Feo (wI_mBook_persists_b120 v0 v1 v3 v4 v5 v6 h) (wJ_mBook_persists_b120 v0 v1 v3 v4 v5 v6 h) h id (f_mBook_persists_b120 k120 v0 v1 v3 v4 v5 v6 h) := by
  unfold f_mBook_persists_b120
  refine fe_it ?_ ?_
  · refine fe_it ?_ ?_
    · exact fe_so Fe.rf
    · refine fe_it fe_no ?_
      refine fe_it ?_ fe_no
      refine fe_it ?_ fe_no
      refine fe_b2 Fe.rf (fe_mBook_patience _ _ _) (fun x k hx => False.elim hx) (fun x k hx => False.elim hx) (fun r15 h13 F1 => ?_)
      refine fe_it ?_ ?_
      · refine fe_I F1 (Or.inl (⟨rfl, rfl⟩)) (fun h16 F2 => ?_)
        refine fe_I F2 (Or.inr (⟨rfl, rfl⟩)) (fun h17 F3 => ?_)
        exact fe_so F3
      · exact fe_so F1
  · refine fe_it ?_ ?_
    · exact fe_j Fe.rf (fe_mBook_persists_b149 hk120 _ _ _ _ _ _) (fun x k hx => by simp only [wI_mBook_persists_b149] at hx; rcases hx with e | e <;> first | exact Or.inl (e) | exact Or.inr (e)) (fun x k hx => False.elim hx)
    · refine fe_it fe_no ?_
      refine fe_it ?_ fe_no
      refine fe_it ?_ ?_
      · exact fe_j Fe.rf (fe_mBook_persists_b154 hk120 _ _ _ _ _ _ _) (fun x k hx => by simp only [wI_mBook_persists_b154] at hx; rcases hx with e | e <;> first | exact Or.inl (e) | exact Or.inr (e)) (fun x k hx => False.elim hx)
      · exact fe_j Fe.rf (fe_mBook_persists_b149 hk120 _ _ _ _ _ _) (fun x k hx => by simp only [wI_mBook_persists_b149] at hx; rcases hx with e | e <;> first | exact Or.inl (e) | exact Or.inr (e)) (fun x k hx => False.elim hx)
theorem fe_mBook_persists_b120_lp (n : Nat) : ∀ (v0 : Nat) (v1 : Int) (v3 : Int) (v4 : Int) (v5 : Int) (v6 : Int) (h : Hp), Feo (wI_mBook_persists_b120 v0 v1 v3 v4 v5 v6 h) (wJ_mBook_persists_b120 v0 v1 v3 v4 v5 v6 h) h id (f_mBook_persists_b120_lp n v0 v1 v3 v4 v5 v6 h) := by
  induction n with
  | zero => intro v0 v1 v3 v4 v5 v6 h; exact fe_no
  | succ n ih => intro v0 v1 v3 v4 v5 v6 h; exact fe_mBook_persists_b120 ih v0 v1 v3 v4 v5 v6 h
theorem fe_mBook_persists_b8 {k8 : Nat → Int → Int → Int → Int → Hp → Option (Hp)} (hk8 : ∀ (v0 : Nat) (v1 : Int) (v3 : Int) (v4 : Int) (v5 : Int) (h : Hp), Feo (wI_mBook_persists_b8 v0 v1 v3 v4 v5 h) (wJ_mBook_persists_b8 v0 v1 v3 v4 v5 h) h id (k8 v0 v1 v3 v4 v5 h)) (v0 : Nat) (v1 : Int) (v3 : Int) (v4 : Int) (v5 : Int) (h : Hp) : Feo (wI_mBook_persists_b8 v0 v1 v3 v4 v5 h) (wJ_mBook_persists_b8 v0 v1 v3 v4 v5 h) h id (f_mBook_persists_b8 k8 v0 v1 v3 v4 v5 h) := by
  unfold f_mBook_persists_b8
  refine fe_it fe_no ?_
  refine fe_it ?_ fe_no
  refine fe_it ?_ ?_
  · refine fe_it ?_ ?_
    · exact fe_j Fe.rf (fe_mBook_persists_b120_lp FU _ _ _ _ _ _ _) (fun x k hx => by simp only [wI_mBook_persists_b120] at hx; rcases hx with e | e <;> first | exact Or.inl (e) | exact Or.inr (e)) (fun x k hx => False.elim hx)
    · exact fe_so Fe.rf
  · refine fe_it fe_no ?_
    refine fe_it ?_ fe_no
    refine fe_v (fun y5 => ?_)
    refine fe_it ?_ ?_
    · exact fe_j Fe.rf (fe_mBook_persists_b103 hk8 _ _ _ _ _ _) (fun x k hx => by simp only [wI_mBook_persists_b103] at hx; rcases hx with e | e <;> first | exact Or.inl (e) | exact Or.inr (e)) (fun x k hx => False.elim hx)
    · refine fe_it fe_no ?_
      refine fe_it ?_ fe_no
      refine fe_it ?_ ?_
      · exact fe_j Fe.rf (fe_mBook_persists_b103 hk8 _ _ _ _ _ _) (fun x k hx => by simp only [wI_mBook_persists_b103] at hx; rcases hx with e | e <;> first | exact Or.inl (e) | exact Or.inr (e)) (fun x k hx => False.elim hx)
      · refine fe_it fe_no ?_
        refine fe_it ?_ fe_no
        refine fe_it ?_ ?_
        · refine fe_it ?_ ?_
          · exact fe_j Fe.rf (fe_mBook_persists_b98 hk8 _ _ _ _ _ _) (fun x k hx => by simp only [wI_mBook_persists_b98] at hx; rcases hx with e | e <;> first | exact Or.inl (e) | exact Or.inr (e)) (fun x k hx => False.elim hx)
          · exact fe_j Fe.rf (fe_mBook_persists_b98 hk8 _ _ _ _ _ _) (fun x k hx => by simp only [wI_mBook_persists_b98] at hx; rcases hx with e | e <;> first | exact Or.inl (e) | exact Or.inr (e)) (fun x k hx => False.elim hx)
        · exact fe_j Fe.rf (fe_mBook_persists_b103 hk8 _ _ _ _ _ _) (fun x k hx => by simp only [wI_mBook_persists_b103] at hx; rcases hx with e | e <;> first | exact Or.inl (e) | exact Or.inr (e)) (fun x k hx => False.elim hx)
theorem fe_mBook_persists_b8_lp (n : Nat) : ∀ (v0 : Nat) (v1 : Int) (v3 : Int) (v4 : Int) (v5 : Int) (h : Hp), Feo (wI_mBook_persists_b8 v0 v1 v3 v4 v5 h) (wJ_mBook_persists_b8 v0 v1 v3 v4 v5 h) h id (f_mBook_persists_b8_lp n v0 v1 v3 v4 v5 h) := by
  induction n with
  | zero => intro v0 v1 v3 v4 v5 h; exact fe_no
  | succ n ih => intro v0 v1 v3 v4 v5 h; exact fe_mBook_persists_b8 ih v0 v1 v3 v4 v5 h
theorem fe_mBook_persists (v0 : Nat) (v1 : Int) (v2 : Int) (h : Hp) : Feo (wI_mBook_persists v0 v1 v2 h) (wJ_mBook_persists v0 v1 v2 h) h id (f_mBook_persists v0 v1 v2 h) := by
  unfold f_mBook_persists
  exact fe_j Fe.rf (fe_mBook_persists_b8_lp FU _ _ _ _ _ _) (fun x k hx => by simp only [wI_mBook_persists_b8] at hx; rcases hx with e | e <;> first | exact Or.inl (e) | exact Or.inr (e)) (fun x k hx => False.elim hx)
def wI_mBook_losses_b142 (v0 : Nat) (v1 : Int) (v2 : Int) (v3 : Int) (v4 : Int) (h : Hp) (x k : Nat) : Prop := x = (hR h v0 13) ∨ x = hR h v0 10 ∨ x = hR h v0 15 ∨ x = hR h v0 16 ∨ x = hR h v0 6 ∨ (x = v0 ∧ k = 24) ∨ (x = v0 ∧ k = 25) ∨ (x = v0 ∧ k = 26)
def wJ_mBook_losses_b142 (v0 : Nat) (v1 : Int) (v2 : Int) (v3 : Int) (v4 : Int) (h : Hp) (x k : Nat) : Prop := False
def wI_mBook_losses_b141 (v0 : Nat) (v1 : Int) (v2 : Int) (v3 : Int) (v4 : Int) (s0 : Nat) (s1 : Int) (s2 : Int) (h : Hp) (x k : Nat) : Prop := x = (hR h v0 13) ∨ x = hR h v0 10 ∨ x = hR h v0 15 ∨ x = hR h v0 16 ∨ x = hR h v0 6 ∨ x = s0 ∨ (x = v0 ∧ k = 24) ∨ (x = v0 ∧ k = 25) ∨ (x = v0 ∧ k = 26)
def wJ_mBook_losses_b141 (v0 : Nat) (v1 : Int) (v2 : Int) (v3 : Int) (v4 : Int) (s0 : Nat) (s1 : Int) (s2 : Int) (h : Hp) (x k : Nat) : Prop := False
def wI_mBook_losses_b94 (v0 : Nat) (v1 : Int) (v2 : Int) (v3 : Int) (v4 : Int) (h : Hp) (x k : Nat) : Prop := x = (hR h v0 13) ∨ x = hR h v0 10 ∨ x = hR h v0 15 ∨ x = hR h v0 16 ∨ x = hR h v0 6 ∨ (x = v0 ∧ k = 24) ∨ (x = v0 ∧ k = 25) ∨ (x = v0 ∧ k = 26)
def wJ_mBook_losses_b94 (v0 : Nat) (v1 : Int) (v2 : Int) (v3 : Int) (v4 : Int) (h : Hp) (x k : Nat) : Prop := False
def wI_mBook_losses_b268 (v0 : Nat) (v1 : Int) (v2 : Int) (h : Hp) (x k : Nat) : Prop := (x = v0 ∧ k = 24) ∨ (x = v0 ∧ k = 26)
def wJ_mBook_losses_b268 (v0 : Nat) (v1 : Int) (v2 : Int) (h : Hp) (x k : Nat) : Prop := False
def wI_mBook_losses_b223 (v0 : Nat) (v1 : Int) (v2 : Int) (v5 : Int) (s0 : Int) (h : Hp) (x k : Nat) : Prop := (x = v0 ∧ k = 24) ∨ (x = v0 ∧ k = 25) ∨ (x = v0 ∧ k = 26)
def wJ_mBook_losses_b223 (v0 : Nat) (v1 : Int) (v2 : Int) (v5 : Int) (s0 : Int) (h : Hp) (x k : Nat) : Prop := False
def wI_mBook_losses_b222 (v0 : Nat) (v1 : Int) (v2 : Int) (v5 : Int) (h : Hp) (x k : Nat) : Prop := (x = v0 ∧ k = 24) ∨ (x = v0 ∧ k = 25) ∨ (x = v0 ∧ k = 26)
def wJ_mBook_losses_b222 (v0 : Nat) (v1 : Int) (v2 : Int) (v5 : Int) (h : Hp) (x k : Nat) : Prop := False
def wI_mBook_losses_b218 (v0 : Nat) (v1 : Int) (v2 : Int) (v5 : Int) (h : Hp) (x k : Nat) : Prop := (x = v0 ∧ k = 24) ∨ (x = v0 ∧ k = 25) ∨ (x = v0 ∧ k = 26)
def wJ_mBook_losses_b218 (v0 : Nat) (v1 : Int) (v2 : Int) (v5 : Int) (h : Hp) (x k : Nat) : Prop := False
def wI_mBook_losses_b154 (v0 : Nat) (v1 : Int) (v2 : Int) (v4 : Int) (v5 : Int) (h : Hp) (x k : Nat) : Prop := (x = v0 ∧ k = 24) ∨ (x = v0 ∧ k = 25) ∨ (x = v0 ∧ k = 26)
def wJ_mBook_losses_b154 (v0 : Nat) (v1 : Int) (v2 : Int) (v4 : Int) (v5 : Int) (h : Hp) (x k : Nat) : Prop := False
def wI_mBook_losses_b130 (v0 : Nat) (v1 : Int) (v2 : Int) (v3 : Int) (v4 : Int) (v5 : Int) (s0 : Nat) (s1 : Int) (h : Hp) (x k : Nat) : Prop := x = (hR h v0 13) ∨ x = hR h v0 10 ∨ x = hR h v0 15 ∨ x = hR h v0 16 ∨ x = hR h v0 6 ∨ x = s0 ∨ (x = v0 ∧ k = 24) ∨ (x = v0 ∧ k = 25) ∨ (x = v0 ∧ k = 26)
def wJ_mBook_losses_b130 (v0 : Nat) (v1 : Int) (v2 : Int) (v3 : Int) (v4 : Int) (v5 : Int) (s0 : Nat) (s1 : Int) (h : Hp) (x k : Nat) : Prop := False
def wI_mBook_losses_b31 (v0 : Nat) (v1 : Int) (v2 : Int) (v3 : Int) (v4 : Int) (h : Hp) (x k : Nat) : Prop := x = (hR h v0 13) ∨ x = hR h v0 10 ∨ x = hR h v0 15 ∨ x = hR h v0 16 ∨ x = hR h v0 6 ∨ (x = v0 ∧ k = 24) ∨ (x = v0 ∧ k = 25) ∨ (x = v0 ∧ k = 26)
def wJ_mBook_losses_b31 (v0 : Nat) (v1 : Int) (v2 : Int) (v3 : Int) (v4 : Int) (h : Hp) (x k : Nat) : Prop := False
def wI_mBook_losses (v0 : Nat) (v1 : Int) (h : Hp) (x k : Nat) : Prop := x = (hR h v0 13) ∨ x = hR h v0 10 ∨ x = hR h v0 13 ∨ x = hR h v0 15 ∨ x = hR h v0 16 ∨ x = hR h v0 6 ∨ (x = v0 ∧ k = 24) ∨ (x = v0 ∧ k = 25) ∨ (x = v0 ∧ k = 26)
def wJ_mBook_losses (v0 : Nat) (v1 : Int) (h : Hp) (x k : Nat) : Prop := False
theorem fe_mBook_losses_b142 {k31 : Nat → Int → Int → Int → Int → Hp → Option (Hp)} (hk31 : ∀ (v0 : Nat) (v1 : Int) (v2 : Int) (v3 : Int) (v4 : Int) (h : Hp), Feo (wI_mBook_losses_b31 v0 v1 v2 v3 v4 h) (wJ_mBook_losses_b31 v0 v1 v2 v3 v4 h) h id (k31 v0 v1 v2 v3 v4 h)) (v0 : Nat) (v1 : Int) (v2 : Int) (v3 : Int) (v4 : Int) (h : Hp) : Feo (wI_mBook_losses_b142 v0 v1 v2 v3 v4 h) (wJ_mBook_losses_b142 v0 v1 v2 v3 v4 h) h id (f_mBook_losses_b142 k31 v0 v1 v2 v3 v4 h) := by
  unfold f_mBook_losses_b142
  exact fe_j Fe.rf (hk31 _ _ _ _ _ _) (fun x k hx => by simp only [wI_mBook_losses_b31] at hx; rcases hx with e | e | e | e | e | e | e | e <;> first | exact Or.inl (e) | exact Or.inr (Or.inl (e)) | exact Or.inr (Or.inr (Or.inl (e))) | exact Or.inr (Or.inr (Or.inr (Or.inl (e)))) | exact Or.inr (Or.inr (Or.inr (Or.inr (Or.inl (e))))) | exact Or.inr (Or.inr (Or.inr (Or.inr (Or.inr (Or.inl (e)))))) | exact Or.inr (Or.inr (Or.inr (Or.inr (Or.inr (Or.inr (Or.inl (e))))))) | exact Or.inr (Or.inr (Or.inr (Or.inr (Or.inr (Or.inr (Or.inr (e)))))))) (fun x k hx => False.elim hx)
theorem fe_mBook_losses_b141 {k31 : Nat → Int → Int → Int → Int → Hp → Option (Hp)} (hk31 : ∀ (v0 : Nat) (v1 : Int) (v2 : Int) (v3 : Int) (v4 : Int) (h : Hp), Feo (wI_mBook_losses_b31 v0 v1 v2 v3 v4 h) (wJ_mBook_losses_b31 v0 v1 v2 v3 v4 h) h id (k31 v0 v1 v2 v3 v4 h)) (v0 : Nat) (v1 : Int) (v2 : Int) (v3 : Int) (v4 : Int) (s0 : Nat) (s1 : Int) (s2 : Int) (h : Hp) : Feo (wI_mBook_losses_b141 v0 v1 v2 v3 v4 s0 s1 s2 h) (wJ_mBook_losses_b141 v0 v1 v2 v3 v4 s0 s1 s2 h) h id (f_mBook_losses_b141 k31 v0 v1 v2 v3 v4 s0 s1 s2 h) := by
  unfold f_mBook_losses_b141
  refine fe_it fe_no ?_
  refine fe_it ?_ fe_no
  refine fe_I Fe.rf (Or.inr (Or.inr (Or.inr (Or.inr (Or.inr (Or.inl (rfl))))))) (fun h29 F1 => ?_)
  exact fe_j F1 (fe_mBook_losses_b142 hk31 _ _ _ _ _ _) (fun x k hx => by simp only [wI_mBook_losses_b142, F1.r] at hx; rcases hx with e | e | e | e | e | e | e | e <;> first | exact Or.inl (e) | exact Or.inr (Or.inl (e)) | exact Or.inr (Or.inr (Or.inl (e))) | exact Or.inr (Or.inr (Or.inr (Or.inl (e)))) | exact Or.inr (Or.inr (Or.inr (Or.inr (Or.inl (e))))) | exact Or.inr (Or.inr (Or.inr (Or.inr (Or.inr (Or.inr (Or.inl (e))))))) | exact Or.inr (Or.inr (Or.inr (Or.inr (Or.inr (Or.inr (Or.inr (Or.inl (e)))))))) | exact Or.inr (Or.inr (Or.inr (Or.inr (Or.inr (Or.inr (Or.inr (Or.inr (e))))))))) (fun x k hx => False.elim hx)
theorem fe_mBook_losses_b94 {k31 : Nat → Int → Int → Int → Int → Hp → Option (Hp)} (hk31 : ∀ (v0 : Nat) (v1 : Int) (v2 : Int) (v3 : Int) (v4 : Int) (h : Hp), Feo (wI_mBook_losses_b31 v0 v1 v2 v3 v4 h) (wJ_mBook_losses_b31 v0 v1 v2 v3 v4 h) h id (k31 v0 v1 v2 v3 v4 h)) (v0 : Nat) (v1 : Int) (v2 : Int) (v3 : Int) (v4 : Int) (h : Hp) : Feo (wI_mBook_losses_b94 v0 v1 v2 v3 v4 h) (wJ_mBook_losses_b94 v0 v1 v2 v3 v4 h) h id (f_mBook_losses_b94 k31 v0 v1 v2 v3 v4 h) := by
  unfold f_mBook_losses_b94
  refine fe_b1 Fe.rf (fe_mBook_find _ _ _ _ _) (fun x k hx => by simp only [wI_mBook_find] at hx; rcases hx with e | e | e | e <;> first | exact Or.inr (Or.inl (e)) | exact Or.inr (Or.inr (Or.inl (e))) | exact Or.inr (Or.inr (Or.inr (Or.inl (e)))) | exact Or.inr (Or.inr (Or.inr (Or.inr (Or.inl (e)))))) (fun x k hx => False.elim hx) (fun h48 F1 => ?_)
  exact fe_j F1 (fe_mBook_losses_b142 hk31 _ _ _ _ _ _) (fun x k hx => by simp only [wI_mBook_losses_b142, F1.r] at hx; rcases hx with e | e | e | e | e | e | e | e <;> first | exact Or.inl (e) | exact Or.inr (Or.inl (e)) | exact Or.inr (Or.inr (Or.inl (e))) | exact Or.inr (Or.inr (Or.inr (Or.inl (e)))) | exact Or.inr (Or.inr (Or.inr (Or.inr (Or.inl (e))))) | exact Or.inr (Or.inr (Or.inr (Or.inr (Or.inr (Or.inl (e)))))) | exact Or.inr (Or.inr (Or.inr (Or.inr (Or.inr (Or.inr (Or.inl (e))))))) | exact Or.inr (Or.inr (Or.inr (Or.inr (Or.inr (Or.inr (Or.inr (e)))))))) (fun x k hx => False.elim hx)
theorem fe_mBook_losses_b268 (v0 : Nat) (v1 : Int) (v2 : Int) (h : Hp) : Feo (wI_mBook_losses_b268 v0 v1 v2 h) (wJ_mBook_losses_b268 v0 v1 v2 h) h id (f_mBook_losses_b268 v0 v1 v2 h) := by
  unfold f_mBook_losses_b268
  refine fe_b1 Fe.rf (fe_mBook_persists _ _ _ _) (fun x k hx => by simp only [wI_mBook_persists] at hx; rcases hx with e | e <;> first | exact Or.inl (e) | exact Or.inr (e)) (fun x k hx => False.elim hx) (fun h46 F1 => ?_)
  exact fe_so F1
theorem fe_mBook_losses_b223 {k154 : Nat → Int → Int → Int → Int → Hp → Option (Hp)} (hk154 : ∀ (v0 : Nat) (v1 : Int) (v2 : Int) (v4 : Int) (v5 : Int) (h : Hp), Feo (wI_mBook_losses_b154 v0 v1 v2 v4 v5 h) (wJ_mBook_losses_b154 v0 v1 v2 v4 v5 h) h id (k154 v0 v1 v2 v4 v5 h)) (v0 : Nat) (v1 : Int) (v2 : Int) (v5 : Int) (s0 : Int) (h : Hp) : Feo (wI_mBook_losses_b223 v0 v1 v2 v5 s0 h) (wJ_mBook_losses_b223 v0 v1 v2 v5 s0 h) h id (f_mBook_losses_b223 k154 v0 v1 v2 v5 s0 h) := by
  unfold f_mBook_losses_b223
  exact fe_j Fe.rf (hk154 _ _ _ _ _ _) (fun x k hx => by simp only [wI_mBook_losses_b154] at hx; rcases hx with e | e | e <;> first | exact Or.inl (e) | exact Or.inr (Or.inl (e)) | exact Or.inr (Or.inr (e))) (fun x k hx => False.elim hx)
theorem fe_mBook_losses_b222 {k154 : Nat → Int → Int → Int → Int → Hp → Option (Hp)} (hk154 : ∀ (v0 : Nat) (v1 : Int) (v2 : Int) (v4 : Int) (v5 : Int) (h : Hp), Feo (wI_mBook_losses_b154 v0 v1 v2 v4 v5 h) (wJ_mBook_losses_b154 v0 v1 v2 v4 v5 h) h id (k154 v0 v1 v2 v4 v5 h)) (v0 : Nat) (v1 : Int) (v2 : Int) (v5 : Int) (h : Hp) : Feo (wI_mBook_losses_b222 v0 v1 v2 v5 h) (wJ_mBook_losses_b222 v0 v1 v2 v5 h) h id (f_mBook_losses_b222 k154 v0 v1 v2 v5 h) := by
  unfold f_mBook_losses_b222
  exact fe_j Fe.rf (fe_mBook_losses_b223 hk154 _ _ _ _ _ _) (fun x k hx => by simp only [wI_mBook_losses_b223] at hx; rcases hx with e | e | e <;> first | exact Or.inl (e) | exact Or.inr (Or.inl (e)) | exact Or.inr (Or.inr (e))) (fun x k hx => False.elim hx)
theorem fe_mBook_losses_b218 {k154 : Nat → Int → Int → Int → Int → Hp → Option (Hp)} (hk154 : ∀ (v0 : Nat) (v1 : Int) (v2 : Int) (v4 : Int) (v5 : Int) (h : Hp), Feo (wI_mBook_losses_b154 v0 v1 v2 v4 v5 h) (wJ_mBook_losses_b154 v0 v1 v2 v4 v5 h) h id (k154 v0 v1 v2 v4 v5 h)) (v0 : Nat) (v1 : Int) (v2 : Int) (v5 : Int) (h : Hp) : Feo (wI_mBook_losses_b218 v0 v1 v2 v5 h) (wJ_mBook_losses_b218 v0 v1 v2 v5 h) h id (f_mBook_losses_b218 k154 v0 v1 v2 v5 h) := by
  unfold f_mBook_losses_b218
  exact fe_j Fe.rf (fe_mBook_losses_b223 hk154 _ _ _ _ _ _) (fun x k hx => by simp only [wI_mBook_losses_b223] at hx; rcases hx with e | e | e <;> first | exact Or.inl (e) | exact Or.inr (Or.inl (e)) | exact Or.inr (Or.inr (e))) (fun x k hx => False.elim hx)
theorem fe_mBook_losses_b154 {k154 : Nat → Int → Int → Int → Int → Hp → Option (Hp)} (hk154 : ∀ (v0 : Nat) (v1 : Int) (v2 : Int) (v4 : Int) (v5 : Int) (h : Hp), Feo (wI_mBook_losses_b154 v0 v1 v2 v4 v5 h) (wJ_mBook_losses_b154 v0 v1 v2 v4 v5 h) h id (k154 v0 v1 v2 v4 v5 h)) (v0 : Nat) (v1 : Int) (v2 : Int) (v4 : Int) (v5 : Int) (h : Hp) : Feo (wI_mBook_losses_b154 v0 v1 v2 v4 v5 h) (wJ_mBook_losses_b154 v0 v1 v2 v4 v5 h) h id (f_mBook_losses_b154 k154 v0 v1 v2 v4 v5 h) := by
  unfold f_mBook_losses_b154
  refine fe_it fe_no ?_
  refine fe_it ?_ fe_no
  refine fe_it ?_ ?_
  · refine fe_it ?_ ?_
    · exact fe_j Fe.rf (fe_mBook_losses_b268 _ _ _ _) (fun x k hx => by simp only [wI_mBook_losses_b268] at hx; rcases hx with e | e <;> first | exact Or.inl (e) | exact Or.inr (Or.inr (e))) (fun x k hx => False.elim hx)
    · refine fe_I Fe.rf (Or.inr (Or.inr (⟨rfl, rfl⟩))) (fun h32 F1 => ?_)
      refine fe_I F1 (Or.inr (Or.inl (⟨rfl, rfl⟩))) (fun h33 F2 => ?_)
      refine fe_b2 F2 (fe_mBook_greater _ _ _) (fun x k hx => False.elim hx) (fun x k hx => False.elim hx) (fun r36 h34 F3 => ?_)
      refine fe_I F3 (Or.inl (⟨rfl, rfl⟩)) (fun h37 F4 => ?_)
      exact fe_j F4 (fe_mBook_losses_b268 _ _ _ _) (fun x k hx => by simp only [wI_mBook_losses_b268, F1.r, F2.r, F3.r, F4.r] at hx; rcases hx with e | e <;> first | exact Or.inl (e) | exact Or.inr (Or.inr (e))) (fun x k hx => False.elim hx)
  · refine fe_it fe_no ?_
    refine fe_it ?_ fe_no
    refine fe_v (fun y40 => ?_)
    refine fe_it ?_ ?_
    · exact fe_j Fe.rf (fe_mBook_losses_b218 hk154 _ _ _ _ _) (fun x k hx => by simp only [wI_mBook_losses_b218] at hx; rcases hx with e | e | e <;> first | exact Or.inl (e) | exact Or.inr (Or.inl (e)) | exact Or.inr (Or.inr (e))) (fun x k hx => False.elim hx)
    · refine fe_it fe_no ?_
      refine fe_it ?_ fe_no
      refine fe_it ?_ ?_
      · exact fe_j Fe.rf (fe_mBook_losses_b222 hk154 _ _ _ _ _) (fun x k hx => by simp only [wI_mBook_losses_b222] at hx; rcases hx with e | e | e <;> first | exact Or.inl (e) | exact Or.inr (Or.inl (e)) | exact Or.inr (Or.inr (e))) (fun x k hx => False.elim hx)
      · refine fe_b2 Fe.rf (fe_mBook_isBehindRecovery _ _ _) (fun x k hx => False.elim hx) (fun x k hx => False.elim hx) (fun r45 h43 F5 => ?_)
        refine fe_it ?_ ?_
        · exact fe_j F5 (fe_mBook_losses_b222 hk154 _ _ _ _ _) (fun x k hx => by simp only [wI_mBook_losses_b222, F5.r] at hx; rcases hx with e | e | e <;> first | exact Or.inl (e) | exact Or.inr (Or.inl (e)) | exact Or.inr (Or.inr (e))) (fun x k hx => False.elim hx)
        · exact fe_j F5 (fe_mBook_losses_b218 hk154 _ _ _ _ _) (fun x k hx => by simp only [wI_mBook_losses_b218, F5.r] at hx; rcases hx with e | e | e <;> first | exact Or.inl (e) | exact Or.inr (Or.inl (e)) | exact Or.inr (Or.inr (e))) (fun x k hx => False.elim hx)
theorem fe_mBook_losses_b154_lp (n : Nat) : ∀ (v0 : Nat) (v1 : Int) (v2 : Int) (v4 : Int) (v5 : Int) (h : Hp), Feo (wI_mBook_losses_b154 v0 v1 v2 v4 v5 h) (wJ_mBook_losses_b154 v0 v1 v2 v4 v5 h) h id (f_mBook_losses_b154_lp n v0 v1 v2 v4 v5 h) := by
  induction n with
  | zero => intro v0 v1 v2 v4 v5 h; exact fe_no
  | succ n ih => intro v0 v1 v2 v4 v5 h; exact fe_mBook_losses_b154 ih v0 v1 v2 v4 v5 h
theorem fe_mBook_losses_b130 {k31 : Nat → Int → Int → Int → Int → Hp → Option (Hp)} (hk31 : ∀ (v0 : Nat) (v1 : Int) (v2 : Int) (v3 : Int) (v4 : Int) (h : Hp), Feo (wI_mBook_losses_b31 v0 v1 v2 v3 v4 h) (wJ_mBook_losses_b31 v0 v1 v2 v3 v4 h) h id (k31 v0 v1 v2 v3 v4 h)) (v0 : Nat) (v1 : Int) (v2 : Int) (v3 : Int) (v4 : Int) (v5 : Int) (s0 : Nat) (s1 : Int) (h : Hp) : Feo (wI_mBook_losses_b130 v0 v1 v2 v3 v4 v5 s0 s1 h) (wJ_mBook_losses_b130 v0 v1 v2 v3 v4 v5 s0 s1 h) h id (f_mBook_losses_b130 k31 v0 v1 v2 v3 v4 v5 s0 s1 h) := by
  unfold f_mBook_losses_b130
  exact fe_j Fe.rf (fe_mBook_losses_b141 hk31 _ _ _ _ _ _ _ _ _) (fun x k hx => by simp only [wI_mBook_losses_b141] at hx; rcases hx with e | e | e | e | e | e | e | e | e <;> first | exact Or.inl (e) | exact Or.inr (Or.inl (e)) | exact Or.inr (Or.inr (Or.inl (e))) | exact Or.inr (Or.inr (Or.inr (Or.inl (e)))) | exact Or.inr (Or.inr (Or.inr (Or.inr (Or.inl (e))))) | exact Or.inr (Or.inr (Or.inr (Or.inr (Or.inr (Or.inl (e)))))) | exact Or.inr (Or.inr (Or.inr (Or.inr (Or.inr (Or.inr (Or.inl (e))))))) | exact Or.inr (Or.inr (Or.inr (Or.inr (Or.inr (Or.inr (Or.inr (Or.inl (e)))))))) | exact Or.inr (Or.inr (Or.inr (Or.inr (Or.inr (Or.inr (Or.inr (Or.inr (e))))))))) (fun x k hx => False.elim hx)
theorem fe_mBook_losses_b31 {k31 : Nat → Int → Int → Int → Int → Hp → Option (Hp)} (hk31 : ∀ (v0 : Nat) (v1 : Int) (v2 : Int) (v3 : Int) (v4 : Int) (h : Hp), Feo (wI_mBook_losses_b31 v0 v1 v2 v3 v4 h) (wJ_mBook_losses_b31 v0 v1 v2 v3 v4 h) h id (k31 v0 v1 v2 v3 v4 h)) (v0 : Nat) (v1 : Int) (v2 : Int) (v3 : Int) (v4 : Int) (h : Hp) : Feo (wI_mBook_losses_b31 v0 v1 v2 v3 v4 h) (wJ_mBook_losses_b31 v0 v1 v2 v3 v4 h) h id (f_mBook_losses_b31 k31 v0 v1 v2 v3 v4 h) := by
  unfold f_mBook_losses_b31
  refine fe_it fe_no ?_
  refine fe_it ?_ fe_no
  refine fe_it ?_ ?_
  · exact fe_j Fe.rf (fe_mBook_losses_b154_lp FU _ _ _ _ _ _) (fun x k hx => by simp only [wI_mBook_losses_b154] at hx; rcases hx with e | e | e <;> first | exact Or.inr (Or.inr (Or.inr (Or.inr (Or.inr (Or.inl (e)))))) | exact Or.inr (Or.inr (Or.inr (Or.inr (Or.inr (Or.inr (Or.inl (e))))))) | exact Or.inr (Or.inr (Or.inr (Or.inr (Or.inr (Or.inr (Or.inr (e)))))))) (fun x k hx => False.elim hx)
  · refine fe_b2 Fe.rf (fe_mBook_isOut _ _ _ _) (fun x k hx => False.elim hx) (fun x k hx => False.elim hx) (fun r17 h15 F1 => ?_)
    refine fe_it ?_ ?_
    · refine fe_it fe_no ?_
      refine fe_it ?_ fe_no
      refine fe_v (fun y20 => ?_)
      refine fe_it fe_no ?_
      refine fe_it ?_ fe_no
      refine fe_it ?_ ?_
      · exact fe_j F1 (fe_mBook_losses_b94 hk31 _ _ _ _ _ _) (fun x k hx => by simp only [wI_mBook_losses_b94, F1.r] at hx; rcases hx with e | e | e | e | e | e | e | e <;> first | exact Or.inl (e) | exact Or.inr (Or.inl (e)) | exact Or.inr (Or.inr (Or.inl (e))) | exact Or.inr (Or.inr (Or.inr (Or.inl (e)))) | exact Or.inr (Or.inr (Or.inr (Or.inr (Or.inl (e))))) | exact Or.inr (Or.inr (Or.inr (Or.inr (Or.inr (Or.inl (e)))))) | exact Or.inr (Or.inr (Or.inr (Or.inr (Or.inr (Or.inr (Or.inl (e))))))) | exact Or.inr (Or.inr (Or.inr (Or.inr (Or.inr (Or.inr (Or.inr (e)))))))) (fun x k hx => False.elim hx)
      · refine fe_it ?_ ?_
        · refine fe_it fe_no ?_
          refine fe_it ?_ fe_no
          refine fe_it ?_ ?_
          · exact fe_j F1 (fe_mBook_losses_b130 hk31 _ _ _ _ _ _ _ _ _) (fun x k hx => by simp only [wI_mBook_losses_b130, F1.r] at hx; rcases hx with e | e | e | e | e | e | e | e | e <;> first | exact Or.inl (e) | exact Or.inr (Or.inl (e)) | exact Or.inr (Or.inr (Or.inl (e))) | exact Or.inr (Or.inr (Or.inr (Or.inl (e)))) | exact Or.inr (Or.inr (Or.inr (Or.inr (Or.inl (e))))) | exact Or.inr (Or.inr (Or.inr (Or.inr (Or.inr (Or.inl (e)))))) | exact Or.inr (Or.inr (Or.inr (Or.inr (Or.inr (Or.inr (Or.inl (e))))))) | exact Or.inr (Or.inr (Or.inr (Or.inr (Or.inr (Or.inr (Or.inr (e)))))))) (fun x k hx => False.elim hx)
          · refine fe_it ?_ fe_no
            refine fe_it ?_ ?_
            · refine fe_it ?_ fe_no
              exact fe_j F1 (fe_mBook_losses_b141 hk31 _ _ _ _ _ _ _ _ _) (fun x k hx => by simp only [wI_mBook_losses_b141, F1.r] at hx; rcases hx with e | e | e | e | e | e | e | e | e <;> first | exact Or.inl (e) | exact Or.inr (Or.inl (e)) | exact Or.inr (Or.inr (Or.inl (e))) | exact Or.inr (Or.inr (Or.inr (Or.inl (e)))) | exact Or.inr (Or.inr (Or.inr (Or.inr (Or.inl (e))))) | exact Or.inr (Or.inr (Or.inr (Or.inr (Or.inr (Or.inl (e)))))) | exact Or.inr (Or.inr (Or.inr (Or.inr (Or.inr (Or.inr (Or.inl (e))))))) | exact Or.inr (Or.inr (Or.inr (Or.inr (Or.inr (Or.inr (Or.inr (e)))))))) (fun x k hx => False.elim hx)
            · exact fe_j F1 (fe_mBook_losses_b130 hk31 _ _ _ _ _ _ _ _ _) (fun x k hx => by simp only [wI_mBook_losses_b130, F1.r] at hx; rcases hx with e | e | e | e | e | e | e | e | e <;> first | exact Or.inl (e) | exact Or.inr (Or.inl (e)) | exact Or.inr (Or.inr (Or.inl (e))) | exact Or.inr (Or.inr (Or.inr (Or.inl (e)))) | exact Or.inr (Or.inr (Or.inr (Or.inr (Or.inl (e))))) | exact Or.inr (Or.inr (Or.inr (Or.inr (Or.inr (Or.inl (e)))))) | exact Or.inr (Or.inr (Or.inr (Or.inr (Or.inr (Or.inr (Or.inl (e))))))) | exact Or.inr (Or.inr (Or.inr (Or.inr (Or.inr (Or.inr (Or.inr (e)))))))) (fun x k hx => False.elim hx)
        · exact fe_j F1 (fe_mBook_losses_b94 hk31 _ _ _ _ _ _) (fun x k hx => by simp only [wI_mBook_losses_b94, F1.r] at hx; rcases hx with e | e | e | e | e | e | e | e <;> first | exact Or.inl (e) | exact Or.inr (Or.inl (e)) | exact Or.inr (Or.inr (Or.inl (e))) | exact Or.inr (Or.inr (Or.inr (Or.inl (e)))) | exact Or.inr (Or.inr (Or.inr (Or.inr (Or.inl (e))))) | exact Or.inr (Or.inr (Or.inr (Or.inr (Or.inr (Or.inl (e)))))) | exact Or.inr (Or.inr (Or.inr (Or.inr (Or.inr (Or.inr (Or.inl (e))))))) | exact Or.inr (Or.inr (Or.inr (Or.inr (Or.inr (Or.inr (Or.inr (e)))))))) (fun x k hx => False.elim hx)
    · exact fe_j F1 (fe_mBook_losses_b142 hk31 _ _ _ _ _ _) (fun x k hx => by simp only [wI_mBook_losses_b142, F1.r] at hx; rcases hx with e | e | e | e | e | e | e | e <;> first | exact Or.inl (e) | exact Or.inr (Or.inl (e)) | exact Or.inr (Or.inr (Or.inl (e))) | exact Or.inr (Or.inr (Or.inr (Or.inl (e)))) | exact Or.inr (Or.inr (Or.inr (Or.inr (Or.inl (e))))) | exact Or.inr (Or.inr (Or.inr (Or.inr (Or.inr (Or.inl (e)))))) | exact Or.inr (Or.inr (Or.inr (Or.inr (Or.inr (Or.inr (Or.inl (e))))))) | exact Or.inr (Or.inr (Or.inr (Or.inr (Or.inr (Or.inr (Or.inr (e)))))))) (fun x k hx => False.elim hx)
theorem fe_mBook_losses_b31_lp (n : Nat) : ∀ (v0 : Nat) (v1 : Int) (v2 : Int) (v3 : Int) (v4 : Int) (h : Hp), Feo (wI_mBook_losses_b31 v0 v1 v2 v3 v4 h) (wJ_mBook_losses_b31 v0 v1 v2 v3 v4 h) h id (f_mBook_losses_b31_lp n v0 v1 v2 v3 v4 h) := by
  induction n with
  | zero => intro v0 v1 v2 v3 v4 h; exact fe_no
  | succ n ih => intro v0 v1 v2 v3 v4 h; exact fe_mBook_losses_b31 ih v0 v1 v2 v3 v4 h
theorem fe_mBook_losses (v0 : Nat) (v1 : Int) (h : Hp) : Feo (wI_mBook_losses v0 v1 h) (wJ_mBook_losses v0 v1 h) h id (f_mBook_losses v0 v1 h) := by
  unfold f_mBook_losses
  refine fe_it fe_no ?_
  refine fe_it ?_ fe_no
  refine fe_v (fun y3 => ?_)
  refine fe_b2 Fe.rf (fe_mBook_limit _ _) (fun x k hx => False.elim hx) (fun x k hx => False.elim hx) (fun r6 h4 F1 => ?_)
  refine fe_it fe_no ?_
  refine fe_it ?_ fe_no
  refine fe_I F1 (Or.inr (Or.inr (Or.inl ((by first | (simp only [F1.r]; exact rfl) | simp only [F1.r]))))) (fun h9 F2 => ?_)
  refine fe_it fe_no ?_
  refine fe_it ?_ fe_no
  refine fe_v (fun y12 => ?_)
  exact fe_j F2 (fe_mBook_losses_b31_lp FU _ _ _ _ _ _) (fun x k hx => by simp only [wI_mBook_losses_b31, F1.r, F2.r] at hx; rcases hx with e | e | e | e | e | e | e | e <;> first | exact Or.inl (e) | exact Or.inr (Or.inl (e)) | exact Or.inr (Or.inr (Or.inr (Or.inl (e)))) | exact Or.inr (Or.inr (Or.inr (Or.inr (Or.inl (e))))) | exact Or.inr (Or.inr (Or.inr (Or.inr (Or.inr (Or.inl (e)))))) | exact Or.inr (Or.inr (Or.inr (Or.inr (Or.inr (Or.inr (Or.inl (e))))))) | exact Or.inr (Or.inr (Or.inr (Or.inr (Or.inr (Or.inr (Or.inr (Or.inl (e)))))))) | exact Or.inr (Or.inr (Or.inr (Or.inr (Or.inr (Or.inr (Or.inr (Or.inr (e))))))))) (fun x k hx => False.elim hx)
def wI_mBook_acknowledge_b116 (v0 : Nat) (v1 : Int) (v2 : Int) (v3 : Int) (v4 : Int) (v5 : Int) (v6 : Int) (v7 : Int) (h : Hp) (x k : Nat) : Prop := x = (hR h v0 13) ∨ x = hR h v0 10 ∨ x = hR h v0 13 ∨ x = hR h v0 15 ∨ x = hR h v0 16 ∨ x = hR h v0 6 ∨ (x = v0 ∧ k = 18) ∨ (x = v0 ∧ k = 19) ∨ (x = v0 ∧ k = 20) ∨ (x = v0 ∧ k = 21) ∨ (x = v0 ∧ k = 22) ∨ (x = v0 ∧ k = 23) ∨ (x = v0 ∧ k = 24) ∨ (x = v0 ∧ k = 25) ∨ (x = v0 ∧ k = 26)
def wJ_mBook_acknowledge_b116 (v0 : Nat) (v1 : Int) (v2 : Int) (v3 : Int) (v4 : Int) (v5 : Int) (v6 : Int) (v7 : Int) (h : Hp) (x k : Nat) : Prop := False
def wI_mBook_acknowledge_b114 (v0 : Nat) (v1 : Int) (v2 : Int) (v3 : Int) (v4 : Int) (v5 : Int) (v7 : Int) (s0 : Int) (h : Hp) (x k : Nat) : Prop := x = (hR h v0 13) ∨ x = hR h v0 10 ∨ x = hR h v0 13 ∨ x = hR h v0 15 ∨ x = hR h v0 16 ∨ x = hR h v0 6 ∨ (x = v0 ∧ k = 18) ∨ (x = v0 ∧ k = 19) ∨ (x = v0 ∧ k = 20) ∨ (x = v0 ∧ k = 21) ∨ (x = v0 ∧ k = 22) ∨ (x = v0 ∧ k = 23) ∨ (x = v0 ∧ k = 24) ∨ (x = v0 ∧ k = 25) ∨ (x = v0 ∧ k = 26)
def wJ_mBook_acknowledge_b114 (v0 : Nat) (v1 : Int) (v2 : Int) (v3 : Int) (v4 : Int) (v5 : Int) (v7 : Int) (s0 : Int) (h : Hp) (x k : Nat) : Prop := False
def wI_mBook_acknowledge_b109 (v0 : Nat) (v1 : Int) (v2 : Int) (v3 : Int) (v4 : Int) (v5 : Int) (v7 : Int) (h : Hp) (x k : Nat) : Prop := x = (hR h v0 13) ∨ x = hR h v0 10 ∨ x = hR h v0 13 ∨ x = hR h v0 15 ∨ x = hR h v0 16 ∨ x = hR h v0 6 ∨ (x = v0 ∧ k = 18) ∨ (x = v0 ∧ k = 19) ∨ (x = v0 ∧ k = 20) ∨ (x = v0 ∧ k = 21) ∨ (x = v0 ∧ k = 22) ∨ (x = v0 ∧ k = 23) ∨ (x = v0 ∧ k = 24) ∨ (x = v0 ∧ k = 25) ∨ (x = v0 ∧ k = 26)
def wJ_mBook_acknowledge_b109 (v0 : Nat) (v1 : Int) (v2 : Int) (v3 : Int) (v4 : Int) (v5 : Int) (v7 : Int) (h : Hp) (x k : Nat) : Prop := False
def wI_mBook_acknowledge_b233 (v0 : Nat) (v1 : Int) (v7 : Int) (h : Hp) (x k : Nat) : Prop := x = (hR h v0 13) ∨ x = hR h v0 10 ∨ x = hR h v0 13 ∨ x = hR h v0 15 ∨ x = hR h v0 16 ∨ x = hR h v0 6 ∨ (x = v0 ∧ k = 23) ∨ (x = v0 ∧ k = 24) ∨ (x = v0 ∧ k = 25) ∨ (x = v0 ∧ k = 26)
def wJ_mBook_acknowledge_b233 (v0 : Nat) (v1 : Int) (v7 : Int) (h : Hp) (x k : Nat) : Prop := False
def wI_mBook_acknowledge_b189 (v0 : Nat) (v1 : Int) (v7 : Int) (h : Hp) (x k : Nat) : Prop := x = (hR h v0 13) ∨ x = hR h v0 10 ∨ x = hR h v0 13 ∨ x = hR h v0 15 ∨ x = hR h v0 16 ∨ x = hR h v0 6 ∨ (x = v0 ∧ k = 23) ∨ (x = v0 ∧ k = 24) ∨ (x = v0 ∧ k = 25) ∨ (x = v0 ∧ k = 26)
def wJ_mBook_acknowledge_b189 (v0 : Nat) (v1 : Int) (v7 : Int) (h : Hp) (x k : Nat) : Prop := False
def wI_mBook_acknowledge_b185 (v0 : Nat) (v1 : Int) (v4 : Int) (h : Hp) (x k : Nat) : Prop := x = (hR h v0 13) ∨ x = hR h v0 10 ∨ x = hR h v0 13 ∨ x = hR h v0 15 ∨ x = hR h v0 16 ∨ x = hR h v0 6 ∨ (x = v0 ∧ k = 23) ∨ (x = v0 ∧ k = 24) ∨ (x = v0 ∧ k = 25) ∨ (x = v0 ∧ k = 26)
def wJ_mBook_acknowledge_b185 (v0 : Nat) (v1 : Int) (v4 : Int) (h : Hp) (x k : Nat) : Prop := False
def wI_mBook_acknowledge_b182 (v0 : Nat) (v1 : Int) (v4 : Int) (s0 : Nat) (s1 : Int) (s2 : Int) (h : Hp) (x k : Nat) : Prop := x = (hR h v0 13) ∨ x = hR h v0 10 ∨ x = hR h v0 13 ∨ x = hR h v0 15 ∨ x = hR h v0 16 ∨ x = hR h v0 6 ∨ (x = s0 ∧ k = 18) ∨ (x = s0 ∧ k = 19) ∨ (x = s0 ∧ k = 20) ∨ (x = s0 ∧ k = 21) ∨ (x = s0 ∧ k = 22) ∨ (x = v0 ∧ k = 23) ∨ (x = v0 ∧ k = 24) ∨ (x = v0 ∧ k = 25) ∨ (x = v0 ∧ k = 26)
def wJ_mBook_acknowledge_b182 (v0 : Nat) (v1 : Int) (v4 : Int) (s0 : Nat) (s1 : Int) (s2 : Int) (h : Hp) (x k : Nat) : Prop := False
def wI_mBook_acknowledge_b61 (v0 : Nat) (v1 : Int) (v2 : Int) (v3 : Int) (v4 : Int) (v5 : Int) (v6 : Int) (v7 : Int) (h : Hp) (x k : Nat) : Prop := x = (hR h v0 13) ∨ x = hR h v0 10 ∨ x = hR h v0 13 ∨ x = hR h v0 15 ∨ x = hR h v0 16 ∨ x = hR h v0 6 ∨ (x = v0 ∧ k = 18) ∨ (x = v0 ∧ k = 19) ∨ (x = v0 ∧ k = 20) ∨ (x = v0 ∧ k = 21) ∨ (x = v0 ∧ k = 22) ∨ (x = v0 ∧ k = 23) ∨ (x = v0 ∧ k = 24) ∨ (x = v0 ∧ k = 25) ∨ (x = v0 ∧ k = 26)
def wJ_mBook_acknowledge_b61 (v0 : Nat) (v1 : Int) (v2 : Int) (v3 : Int) (v4 : Int) (v5 : Int) (v6 : Int) (v7 : Int) (h : Hp) (x k : Nat) : Prop := False
def wI_mBook_acknowledge (v0 : Nat) (v1 : Int) (v2 : Int) (h : Hp) (x k : Nat) : Prop := x = (hR h v0 13) ∨ x = hR h v0 10 ∨ x = hR h v0 12 ∨ x = hR h v0 13 ∨ x = hR h v0 15 ∨ x = hR h v0 16 ∨ x = hR h v0 6 ∨ (x = v0 ∧ k = 18) ∨ (x = v0 ∧ k = 19) ∨ (x = v0 ∧ k = 20) ∨ (x = v0 ∧ k = 21) ∨ (x = v0 ∧ k = 22) ∨ (x = v0 ∧ k = 23) ∨ (x = v0 ∧ k = 24) ∨ (x = v0 ∧ k = 25) ∨ (x = v0 ∧ k = 26)
def wJ_mBook_acknowledge (v0 : Nat) (v1 : Int) (v2 : Int) (h : Hp) (x k : Nat) : Prop := False
theorem fe_mBook_acknowledge_b116 {k61 : Nat → Int → Int → Int → Int → Int → Int → Int → Hp → Option (Int × Hp)} (hk61 : ∀ (v0 : Nat) (v1 : Int) (v2 : Int) (v3 : Int) (v4 : Int) (v5 : Int) (v6 : Int) (v7 : Int) (h : Hp), Feo (wI_mBook_acknowledge_b61 v0 v1 v2 v3 v4 v5 v6 v7 h) (wJ_mBook_acknowledge_b61 v0 v1 v2 v3 v4 v5 v6 v7 h) h Prod.snd (k61 v0 v1 v2 v3 v4 v5 v6 v7 h)) (v0 : Nat) (v1 : Int) (v2 : Int) (v3 : Int) (v4 : Int) (v5 : Int) (v6 : Int) (v7 : Int) (h : Hp) : Feo (wI_mBook_acknowledge_b116 v0 v1 v2 v3 v4 v5 v6 v7 h) (wJ_mBook_acknowledge_b116 v0 v1 v2 v3 v4 v5 v6 v7 h) h Prod.snd (f_mBook_acknowledge_b116 k61 v0 v1 v2 v3 v4 v5 v6 v7 h) := by
  unfold f_mBook_acknowledge_b116
  exact fe_j Fe.rf (hk61 _ _ _ _ _ _ _ _ _) (fun x k hx => by simp only [wI_mBook_acknowledge_b61] at hx; rcases hx with e | e | e | e | e | e | e | e | e | e | e | e | e | e | e <;> first | exact Or.inl (e) | exact Or.inr (Or.inl (e)) | exact Or.inr (Or.inr (Or.inl (e))) | exact Or.inr (Or.inr (Or.inr (Or.inl (e)))) | exact Or.inr (Or.inr (Or.inr (Or.inr (Or.inl (e))))) | exact Or.inr (Or.inr (Or.inr (Or.inr (Or.inr (Or.inl (e)))))) | exact Or.inr (Or.inr (Or.inr (Or.inr (Or.inr (Or.inr (Or.inl (e))))))) | exact Or.inr (Or.inr (Or.inr (Or.inr (Or.inr (Or.inr (Or.inr (Or.inl (e)))))))) | exact Or.inr (Or.inr (Or.inr (Or.inr (Or.inr (Or.inr (Or.inr (Or.inr (Or.inl (e))))))))) | exact Or.inr (Or.inr (Or.inr (Or.inr (Or.inr (Or.inr (Or.inr (Or.inr (Or.inr (Or.inl (e)))))))))) | exact Or.inr (Or.inr (Or.inr (Or.inr (Or.inr (Or.inr (Or.inr (Or.inr (Or.inr (Or.inr (Or.inl (e))))))))))) | exact Or.inr (Or.inr (Or.inr (Or.inr (Or.inr (Or.inr (Or.inr (Or.inr (Or.inr (Or.inr (Or.inr (Or.inl (e)))))))))))) | exact Or.inr (Or.inr (Or.inr (Or.inr (Or.inr (Or.inr (Or.inr (Or.inr (Or.inr (Or.inr (Or.inr (Or.inr (Or.inl (e))))))))))))) | exact Or.inr (Or.inr (Or.inr (Or.inr (Or.inr (Or.inr (Or.inr (Or.inr (Or.inr (Or.inr (Or.inr (Or.inr (Or.inr (Or.inl (e)))))))))))))) | exact Or.inr (Or.inr (Or.inr (Or.inr (Or.inr (Or.inr (Or.inr (Or.inr (Or.inr (Or.inr (Or.inr (Or.inr (Or.inr (Or.inr (e))))))))))))))) (fun x k hx => False.elim hx)
theorem fe_mBook_acknowledge_b114 {k61 : Nat → Int → Int → Int → Int → Int → Int → Int → Hp → Option (Int × Hp)} (hk61 : ∀ (v0 : Nat) (v1 : Int) (v2 : Int) (v3 : Int) (v4 : Int) (v5 : Int) (v6 : Int) (v7 : Int) (h : Hp), Feo (wI_mBook_acknowledge_b61 v0 v1 v2 v3 v4 v5 v6 v7 h) (wJ_mBook_acknowledge_b61 v0 v1 v2 v3 v4 v5 v6 v7 h) h Prod.snd (k61 v0 v1 v2 v3 v4 v5 v6 v7 h)) (v0 : Nat) (v1 : Int) (v2 : Int) (v3 : Int) (v4 : Int) (v5 : Int) (v7 : Int) (s0 : Int) (h : Hp) : Feo (wI_mBook_acknowledge_b114 v0 v1 v2 v3 v4 v5 v7 s0 h) (wJ_mBook_acknowledge_b114 v0 v1 v2 v3 v4 v5 v7 s0 h) h Prod.snd (f_mBook_acknowledge_b114 k61 v0 v1 v2 v3 v4 v5 v7 s0 h) := by
  unfold f_mBook_acknowledge_b114
  exact fe_j Fe.rf (fe_mBook_acknowledge_b116 hk61 _ _ _ _ _ _ _ _ _) (fun x k hx => by simp only [wI_mBook_acknowledge_b116] at hx; rcases hx with e | e | e | e | e | e | e | e | e | e | e | e | e | e | e <;> first | exact Or.inl (e) | exact Or.inr (Or.inl (e)) | exact Or.inr (Or.inr (Or.inl (e))) | exact Or.inr (Or.inr (Or.inr (Or.inl (e)))) | exact Or.inr (Or.inr (Or.inr (Or.inr (Or.inl (e))))) | exact Or.inr (Or.inr (Or.inr (Or.inr (Or.inr (Or.inl (e)))))) | exact Or.inr (Or.inr (Or.inr (Or.inr (Or.inr (Or.inr (Or.inl (e))))))) | exact Or.inr (Or.inr (Or.inr (Or.inr (Or.inr (Or.inr (Or.inr (Or.inl (e)))))))) | exact Or.inr (Or.inr (Or.inr (Or.inr (Or.inr (Or.inr (Or.inr (Or.inr (Or.inl (e))))))))) | exact Or.inr (Or.inr (Or.inr (Or.inr (Or.inr (Or.inr (Or.inr (Or.inr (Or.inr (Or.inl (e)))))))))) | exact Or.inr (Or.inr (Or.inr (Or.inr (Or.inr (Or.inr (Or.inr (Or.inr (Or.inr (Or.inr (Or.inl (e))))))))))) | exact Or.inr (Or.inr (Or.inr (Or.inr (Or.inr (Or.inr (Or.inr (Or.inr (Or.inr (Or.inr (Or.inr (Or.inl (e)))))))))))) | exact Or.inr (Or.inr (Or.inr (Or.inr (Or.inr (Or.inr (Or.inr (Or.inr (Or.inr (Or.inr (Or.inr (Or.inr (Or.inl (e))))))))))))) | exact Or.inr (Or.inr (Or.inr (Or.inr (Or.inr (Or.inr (Or.inr (Or.inr (Or.inr (Or.inr (Or.inr (Or.inr (Or.inr (Or.inl (e)))))))))))))) | exact Or.inr (Or.inr (Or.inr (Or.inr (Or.inr (Or.inr (Or.inr (Or.inr (Or.inr (Or.inr (Or.inr (Or.inr (Or.inr (Or.inr (e))))))))))))))) (fun x k hx => False.elim hx)
theorem fe_mBook_acknowledge_b109 {k61 : Nat → Int → Int → Int → Int → Int → Int → Int → Hp → Option (Int × Hp)} (hk61 : ∀ (v0 : Nat) (v1 : Int) (v2 : Int) (v3 : Int) (v4 : Int) (v5 : Int) (v6 : Int) (v7 : Int) (h : Hp), Feo (wI_mBook_acknowledge_b61 v0 v1 v2 v3 v4 v5 v6 v7 h) (wJ_mBook_acknowledge_b61 v0 v1 v2 v3 v4 v5 v6 v7 h) h Prod.snd (k61 v0 v1 v2 v3 v4 v5 v6 v7 h)) (v0 : Nat) (v1 : Int) (v2 : Int) (v3 : Int) (v4 : Int) (v5 : Int) (v7 : Int) (h : Hp) : Feo (wI_mBook_acknowledge_b109 v0 v1 v2 v3 v4 v5 v7 h) (wJ_mBook_acknowledge_b109 v0 v1 v2 v3 v4 v5 v7 h) h Prod.snd (f_mBook_acknowledge_b109 k61 v0 v1 v2 v3 v4 v5 v7 h) := by
  unfold f_mBook_acknowledge_b109
  exact fe_j Fe.rf (fe_mBook_acknowledge_b114 hk61 _ _ _ _ _ _ _ _ _) (fun x k hx => by simp only [wI_mBook_acknowledge_b114] at hx; rcases hx with e | e | e | e | e | e | e | e | e | e | e | e | e | e | e <;> first | exact Or.inl (e) | exact Or.inr (Or.inl (e)) | exact Or.inr (Or.inr (Or.inl (e))) | exact Or.inr (Or.inr (Or.inr (Or.inl (e)))) | exact Or.inr (Or.inr (Or.inr (Or.inr (Or.inl (e))))) | exact Or.inr (Or.inr (Or.inr (Or.inr (Or.inr (Or.inl (e)))))) | exact Or.inr (Or.inr (Or.inr (Or.inr (Or.inr (Or.inr (Or.inl (e))))))) | exact Or.inr (Or.inr (Or.inr (Or.inr (Or.inr (Or.inr (Or.inr (Or.inl (e)))))))) | exact Or.inr (Or.inr (Or.inr (Or.inr (Or.inr (Or.inr (Or.inr (Or.inr (Or.inl (e))))))))) | exact Or.inr (Or.inr (Or.inr (Or.inr (Or.inr (Or.inr (Or.inr (Or.inr (Or.inr (Or.inl (e)))))))))) | exact Or.inr (Or.inr (Or.inr (Or.inr (Or.inr (Or.inr (Or.inr (Or.inr (Or.inr (Or.inr (Or.inl (e))))))))))) | exact Or.inr (Or.inr (Or.inr (Or.inr (Or.inr (Or.inr (Or.inr (Or.inr (Or.inr (Or.inr (Or.inr (Or.inl (e)))))))))))) | exact Or.inr (Or.inr (Or.inr (Or.inr (Or.inr (Or.inr (Or.inr (Or.inr (Or.inr (Or.inr (Or.inr (Or.inr (Or.inl (e))))))))))))) | exact Or.inr (Or.inr (Or.inr (Or.inr (Or.inr (Or.inr (Or.inr (Or.inr (Or.inr (Or.inr (Or.inr (Or.inr (Or.inr (Or.inl (e)))))))))))))) | exact Or.inr (Or.inr (Or.inr (Or.inr (Or.inr (Or.inr (Or.inr (Or.inr (Or.inr (Or.inr (Or.inr (Or.inr (Or.inr (Or.inr (e))))))))))))))) (fun x k hx => False.elim hx)
theorem fe_mBook_acknowledge_b233 {k189 : Nat → Int → Int → Hp → Option (Int × Hp)} (hk189 : ∀ (v0 : Nat) (v1 : Int) (v7 : Int) (h : Hp), Feo (wI_mBook_acknowledge_b189 v0 v1 v7 h) (wJ_mBook_acknowledge_b189 v0 v1 v7 h) h Prod.snd (k189 v0 v1 v7 h)) (v0 : Nat) (v1 : Int) (v7 : Int) (h : Hp) : Feo (wI_mBook_acknowledge_b233 v0 v1 v7 h) (wJ_mBook_acknowledge_b233 v0 v1 v7 h) h Prod.snd (f_mBook_acknowledge_b233 k189 v0 v1 v7 h) := by
  unfold f_mBook_acknowledge_b233
  exact fe_j Fe.rf (hk189 _ _ _ _) (fun x k hx => by simp only [wI_mBook_acknowledge_b189] at hx; rcases hx with e | e | e | e | e | e | e | e | e | e <;> first | exact Or.inl (e) | exact Or.inr (Or.inl (e)) | exact Or.inr (Or.inr (Or.inl (e))) | exact Or.inr (Or.inr (Or.inr (Or.inl (e)))) | exact Or.inr (Or.inr (Or.inr (Or.inr (Or.inl (e))))) | exact Or.inr (Or.inr (Or.inr (Or.inr (Or.inr (Or.inl (e)))))) | exact Or.inr (Or.inr (Or.inr (Or.inr (Or.inr (Or.inr (Or.inl (e))))))) | exact Or.inr (Or.inr (Or.inr (Or.inr (Or.inr (Or.inr (Or.inr (Or.inl (e)))))))) | exact Or.inr (Or.inr (Or.inr (Or.inr (Or.inr (Or.inr (Or.inr (Or.inr (Or.inl (e))))))))) | exact Or.inr (Or.inr (Or.inr (Or.inr (Or.inr (Or.inr (Or.inr (Or.inr (Or.inr (e)))))))))) (fun x k hx => False.elim hx)
theorem fe_mBook_acknowledge_b189 {k189 : Nat → Int → Int → Hp → Option (Int × Hp)} (hk189 : ∀ (v0 : Nat) (v1 : Int) (v7 : Int) (h : Hp), Feo (wI_mBook_acknowledge_b189 v0 v1 v7 h) (wJ_mBook_acknowledge_b189 v0 v1 v7 h) h Prod.snd (k189 v0 v1 v7 h)) (v0 : Nat) (v1 : Int) (v7 : Int) (h : Hp) : Feo (wI_mBook_acknowledge_b189 v0 v1 v7 h) (wJ_mBook_acknowledge_b189 v0 v1 v7 h) h Prod.snd (f_mBook_acknowledge_b189 k189 v0 v1 v7 h) := by
  unfold f_mBook_acknowledge_b189
  refine fe_it fe_no ?_
  refine fe_it ?_ fe_no
  refine fe_it ?_ ?_
  · refine fe_b1 Fe.rf (fe_mBook_losses _ _ _) (fun x k hx => by simp only [wI_mBook_losses] at hx; rcases hx with e | e | e | e | e | e | e | e | e <;> first | exact Or.inl (e) | exact Or.inr (Or.inl (e)) | exact Or.inr (Or.inr (Or.inl (e))) | exact Or.inr (Or.inr (Or.inr (Or.inl (e)))) | exact Or.inr (Or.inr (Or.inr (Or.inr (Or.inl (e))))) | exact Or.inr (Or.inr (Or.inr (Or.inr (Or.inr (Or.inl (e)))))) | exact Or.inr (Or.inr (Or.inr (Or.inr (Or.inr (Or.inr (Or.inr (Or.inl (e)))))))) | exact Or.inr (Or.inr (Or.inr (Or.inr (Or.inr (Or.inr (Or.inr (Or.inr (Or.inl (e))))))))) | exact Or.inr (Or.inr (Or.inr (Or.inr (Or.inr (Or.inr (Or.inr (Or.inr (Or.inr (e)))))))))) (fun x k hx => False.elim hx) (fun h31 F1 => ?_)
    refine fe_I F1 (Or.inr (Or.inr (Or.inr (Or.inr (Or.inr (Or.inr (Or.inl (⟨rfl, rfl⟩)))))))) (fun h33 F2 => ?_)
    exact fe_so F2
  · refine fe_b2 Fe.rf (fe_mBook_isNew _ _ _ _) (fun x k hx => False.elim hx) (fun x k hx => False.elim hx) (fun r36 h34 F3 => ?_)
    refine fe_it ?_ ?_
    · refine fe_b1 F3 (fe_mBook_find _ _ _ _ _) (fun x k hx => by simp only [wI_mBook_find, F3.r] at hx; rcases hx with e | e | e | e <;> first | exact Or.inr (Or.inl (e)) | exact Or.inr (Or.inr (Or.inr (Or.inl (e)))) | exact Or.inr (Or.inr (Or.inr (Or.inr (Or.inl (e))))) | exact Or.inr (Or.inr (Or.inr (Or.inr (Or.inr (Or.inl (e))))))) (fun x k hx => False.elim hx) (fun h37 F4 => ?_)
      refine fe_b1 F4 (fe_mBook_grow _ _ _) (fun x k hx => by simp only [wI_mBook_grow, F3.r, F4.r] at hx; have e := hx; exact Or.inr (Or.inr (Or.inr (Or.inr (Or.inr (Or.inr (Or.inr (Or.inl (e))))))))) (fun x k hx => False.elim hx) (fun h39 F5 => ?_)
      exact fe_j F5 (fe_mBook_acknowledge_b233 hk189 _ _ _ _) (fun x k hx => by simp only [wI_mBook_acknowledge_b233, F3.r, F4.r, F5.r] at hx; rcases hx with e | e | e | e | e | e | e | e | e | e <;> first | exact Or.inl (e) | exact Or.inr (Or.inl (e)) | exact Or.inr (Or.inr (Or.inl (e))) | exact Or.inr (Or.inr (Or.inr (Or.inl (e)))) | exact Or.inr (Or.inr (Or.inr (Or.inr (Or.inl (e))))) | exact Or.inr (Or.inr (Or.inr (Or.inr (Or.inr (Or.inl (e)))))) | exact Or.inr (Or.inr (Or.inr (Or.inr (Or.inr (Or.inr (Or.inl (e))))))) | exact Or.inr (Or.inr (Or.inr (Or.inr (Or.inr (Or.inr (Or.inr (Or.inl (e)))))))) | exact Or.inr (Or.inr (Or.inr (Or.inr (Or.inr (Or.inr (Or.inr (Or.inr (Or.inl (e))))))))) | exact Or.inr (Or.inr (Or.inr (Or.inr (Or.inr (Or.inr (Or.inr (Or.inr (Or.inr (e)))))))))) (fun x k hx => False.elim hx)
    · exact fe_j F3 (fe_mBook_acknowledge_b233 hk189 _ _ _ _) (fun x k hx => by simp only [wI_mBook_acknowledge_b233, F3.r] at hx; rcases hx with e | e | e | e | e | e | e | e | e | e <;> first | exact Or.inl (e) | exact Or.inr (Or.inl (e)) | exact Or.inr (Or.inr (Or.inl (e))) | exact Or.inr (Or.inr (Or.inr (Or.inl (e)))) | exact Or.inr (Or.inr (Or.inr (Or.inr (Or.inl (e))))) | exact Or.inr (Or.inr (Or.inr (Or.inr (Or.inr (Or.inl (e)))))) | exact Or.inr (Or.inr (Or.inr (Or.inr (Or.inr (Or.inr (Or.inl (e))))))) | exact Or.inr (Or.inr (Or.inr (Or.inr (Or.inr (Or.inr (Or.inr (Or.inl (e)))))))) | exact Or.inr (Or.inr (Or.inr (Or.inr (Or.inr (Or.inr (Or.inr (Or.inr (Or.inl (e))))))))) | exact Or.inr (Or.inr (Or.inr (Or.inr (Or.inr (Or.inr (Or.inr (Or.inr (Or.inr (e)))))))))) (fun x k hx => False.elim hx)
theorem fe_mBook_acknowledge_b189_lp (n : Nat) : ∀ (v0 : Nat) (v1 : Int) (v7 : Int) (h : Hp), Feo (wI_mBook_acknowledge_b189 v0 v1 v7 h) (wJ_mBook_acknowledge_b189 v0 v1 v7 h) h Prod.snd (f_mBook_acknowledge_b189_lp n v0 v1 v7 h) := by
  induction n with
  | zero => intro v0 v1 v7 h; exact fe_no
  | succ n ih => intro v0 v1 v7 h; exact fe_mBook_acknowledge_b189 ih v0 v1 v7 h
theorem fe_mBook_acknowledge_b185 (v0 : Nat) (v1 : Int) (v4 : Int) (h : Hp) : Feo (wI_mBook_acknowledge_b185 v0 v1 v4 h) (wJ_mBook_acknowledge_b185 v0 v1 v4 h) h Prod.snd (f_mBook_acknowledge_b185 v0 v1 v4 h) := by
  unfold f_mBook_acknowledge_b185
  exact fe_j Fe.rf (fe_mBook_acknowledge_b189_lp FU _ _ _ _) (fun x k hx => by simp only [wI_mBook_acknowledge_b189] at hx; rcases hx with e | e | e | e | e | e | e | e | e | e <;> first | exact Or.inl (e) | exact Or.inr (Or.inl (e)) | exact Or.inr (Or.inr (Or.inl (e))) | exact Or.inr (Or.inr (Or.inr (Or.inl (e)))) | exact Or.inr (Or.inr (Or.inr (Or.inr (Or.inl (e))))) | exact Or.inr (Or.inr (Or.inr (Or.inr (Or.inr (Or.inl (e)))))) | exact Or.inr (Or.inr (Or.inr (Or.inr (Or.inr (Or.inr (Or.inl (e))))))) | exact Or.inr (Or.inr (Or.inr (Or.inr (Or.inr (Or.inr (Or.inr (Or.inl (e)))))))) | exact Or.inr (Or.inr (Or.inr (Or.inr (Or.inr (Or.inr (Or.inr (Or.inr (Or.inl (e))))))))) | exact Or.inr (Or.inr (Or.inr (Or.inr (Or.inr (Or.inr (Or.inr (Or.inr (Or.inr (e)))))))))) (fun x k hx => False.elim hx)
theorem fe_mBook_acknowledge_b182 (v0 : Nat) (v1 : Int) (v4 : Int) (s0 : Nat) (s1 : Int) (s2 : Int) (h : Hp) : Feo (wI_mBook_acknowledge_b182 v0 v1 v4 s0 s1 s2 h) (wJ_mBook_acknowledge_b182 v0 v1 v4 s0 s1 s2 h) h Prod.snd (f_mBook_acknowledge_b182 v0 v1 v4 s0 s1 s2 h) := by
  unfold f_mBook_acknowledge_b182
  refine fe_it fe_no ?_
  refine fe_b1 Fe.rf (fe_mBook_sample _ _ _ _) (fun x k hx => by simp only [wI_mBook_sample] at hx; rcases hx with e | e | e | e | e <;> first | exact Or.inr (Or.inr (Or.inr (Or.inr (Or.inr (Or.inr (Or.inl (e))))))) | exact Or.inr (Or.inr (Or.inr (Or.inr (Or.inr (Or.inr (Or.inr (Or.inl (e)))))))) | exact Or.inr (Or.inr (Or.inr (Or.inr (Or.inr (Or.inr (Or.inr (Or.inr (Or.inl (e))))))))) | exact Or.inr (Or.inr (Or.inr (Or.inr (Or.inr (Or.inr (Or.inr (Or.inr (Or.inr (Or.inl (e)))))))))) | exact Or.inr (Or.inr (Or.inr (Or.inr (Or.inr (Or.inr (Or.inr (Or.inr (Or.inr (Or.inr (Or.inl (e)))))))))))) (fun x k hx => False.elim hx) (fun h42 F1 => ?_)
  exact fe_j F1 (fe_mBook_acknowledge_b185 _ _ _ _) (fun x k hx => by simp only [wI_mBook_acknowledge_b185, F1.r] at hx; rcases hx with e | e | e | e | e | e | e | e | e | e <;> first | exact Or.inl (e) | exact Or.inr (Or.inl (e)) | exact Or.inr (Or.inr (Or.inl (e))) | exact Or.inr (Or.inr (Or.inr (Or.inl (e)))) | exact Or.inr (Or.inr (Or.inr (Or.inr (Or.inl (e))))) | exact Or.inr (Or.inr (Or.inr (Or.inr (Or.inr (Or.inl (e)))))) | exact Or.inr (Or.inr (Or.inr (Or.inr (Or.inr (Or.inr (Or.inr (Or.inr (Or.inr (Or.inr (Or.inr (Or.inl (e)))))))))))) | exact Or.inr (Or.inr (Or.inr (Or.inr (Or.inr (Or.inr (Or.inr (Or.inr (Or.inr (Or.inr (Or.inr (Or.inr (Or.inl (e))))))))))))) | exact Or.inr (Or.inr (Or.inr (Or.inr (Or.inr (Or.inr (Or.inr (Or.inr (Or.inr (Or.inr (Or.inr (Or.inr (Or.inr (Or.inl (e)))))))))))))) | exact Or.inr (Or.inr (Or.inr (Or.inr (Or.inr (Or.inr (Or.inr (Or.inr (Or.inr (Or.inr (Or.inr (Or.inr (Or.inr (Or.inr (e))))))))))))))) (fun x k hx => False.elim hx)
theorem fe_mBook_acknowledge_b61 {k61 : Nat → Int → Int → Int → Int → Int → Int → Int → Hp → Option (Int × Hp)} (hk61 : ∀ (v0 : Nat) (v1 : Int) (v2 : Int) (v3 : Int) (v4 : Int) (v5 : Int) (v6 : Int) (v7 : Int) (h : Hp), Feo (wI_mBook_acknowledge_b61 v0 v1 v2 v3 v4 v5 v6 v7 h) (wJ_mBook_acknowledge_b61 v0 v1 v2 v3 v4 v5 v6 v7 h) h Prod.snd (k61 v0 v1 v2 v3 v4 v5 v6 v7 h)) (v0 : Nat) (v1 : Int) (v2 : Int) (v3 : Int) (v4 : Int) (v5 : Int) (v6 : Int) (v7 : Int) (h : Hp) : Feo (wI_mBook_acknowledge_b61 v0 v1 v2 v3 v4 v5 v6 v7 h) (wJ_mBook_acknowledge_b61 v0 v1 v2 v3 v4 v5 v6 v7 h) h Prod.snd (f_mBook_acknowledge_b61 k61 v0 v1 v2 v3 v4 v5 v6 v7 h) := by
  unfold f_mBook_acknowledge_b61
  refine fe_it fe_no ?_
  refine fe_it ?_ fe_no
  refine fe_it ?_ ?_
  · refine fe_it ?_ ?_
    · refine fe_it ?_ ?_
      · exact fe_j Fe.rf (fe_mBook_acknowledge_b185 _ _ _ _) (fun x k hx => by simp only [wI_mBook_acknowledge_b185] at hx; rcases hx with e | e | e | e | e | e | e | e | e | e <;> first | exact Or.inl (e) | exact Or.inr (Or.inl (e)) | exact Or.inr (Or.inr (Or.inl (e))) | exact Or.inr (Or.inr (Or.inr (Or.inl (e)))) | exact Or.inr (Or.inr (Or.inr (Or.inr (Or.inl (e))))) | exact Or.inr (Or.inr (Or.inr (Or.inr (Or.inr (Or.inl (e)))))) | exact Or.inr (Or.inr (Or.inr (Or.inr (Or.inr (Or.inr (Or.inr (Or.inr (Or.inr (Or.inr (Or.inr (Or.inl (e)))))))))))) | exact Or.inr (Or.inr (Or.inr (Or.inr (Or.inr (Or.inr (Or.inr (Or.inr (Or.inr (Or.inr (Or.inr (Or.inr (Or.inl (e))))))))))))) | exact Or.inr (Or.inr (Or.inr (Or.inr (Or.inr (Or.inr (Or.inr (Or.inr (Or.inr (Or.inr (Or.inr (Or.inr (Or.inr (Or.inl (e)))))))))))))) | exact Or.inr (Or.inr (Or.inr (Or.inr (Or.inr (Or.inr (Or.inr (Or.inr (Or.inr (Or.inr (Or.inr (Or.inr (Or.inr (Or.inr (e))))))))))))))) (fun x k hx => False.elim hx)
      · refine fe_b2 Fe.rf (fe_mBook_isNew _ _ _ _) (fun x k hx => False.elim hx) (fun x k hx => False.elim hx) (fun r21 h19 F1 => ?_)
        refine fe_it ?_ ?_
        · exact fe_j F1 (fe_mBook_acknowledge_b185 _ _ _ _) (fun x k hx => by simp only [wI_mBook_acknowledge_b185, F1.r] at hx; rcases hx with e | e | e | e | e | e | e | e | e | e <;> first | exact Or.inl (e) | exact Or.inr (Or.inl (e)) | exact Or.inr (Or.inr (Or.inl (e))) | exact Or.inr (Or.inr (Or.inr (Or.inl (e)))) | exact Or.inr (Or.inr (Or.inr (Or.inr (Or.inl (e))))) | exact Or.inr (Or.inr (Or.inr (Or.inr (Or.inr (Or.inl (e)))))) | exact Or.inr (Or.inr (Or.inr (Or.inr (Or.inr (Or.inr (Or.inr (Or.inr (Or.inr (Or.inr (Or.inr (Or.inl (e)))))))))))) | exact Or.inr (Or.inr (Or.inr (Or.inr (Or.inr (Or.inr (Or.inr (Or.inr (Or.inr (Or.inr (Or.inr (Or.inr (Or.inl (e))))))))))))) | exact Or.inr (Or.inr (Or.inr (Or.inr (Or.inr (Or.inr (Or.inr (Or.inr (Or.inr (Or.inr (Or.inr (Or.inr (Or.inr (Or.inl (e)))))))))))))) | exact Or.inr (Or.inr (Or.inr (Or.inr (Or.inr (Or.inr (Or.inr (Or.inr (Or.inr (Or.inr (Or.inr (Or.inr (Or.inr (Or.inr (e))))))))))))))) (fun x k hx => False.elim hx)
        · refine fe_it fe_no ?_
          refine fe_it ?_ fe_no
          refine fe_it ?_ ?_
          · refine fe_it ?_ ?_
            · exact fe_j F1 (fe_mBook_acknowledge_b182 _ _ _ _ _ _ _) (fun x k hx => by simp only [wI_mBook_acknowledge_b182, F1.r] at hx; rcases hx with e | e | e | e | e | e | e | e | e | e | e | e | e | e | e <;> first | exact Or.inl (e) | exact Or.inr (Or.inl (e)) | exact Or.inr (Or.inr (Or.inl (e))) | exact Or.inr (Or.inr (Or.inr (Or.inl (e)))) | exact Or.inr (Or.inr (Or.inr (Or.inr (Or.inl (e))))) | exact Or.inr (Or.inr (Or.inr (Or.inr (Or.inr (Or.inl (e)))))) | exact Or.inr (Or.inr (Or.inr (Or.inr (Or.inr (Or.inr (Or.inl (e))))))) | exact Or.inr (Or.inr (Or.inr (Or.inr (Or.inr (Or.inr (Or.inr (Or.inl (e)))))))) | exact Or.inr (Or.inr (Or.inr (Or.inr (Or.inr (Or.inr (Or.inr (Or.inr (Or.inl (e))))))))) | exact Or.inr (Or.inr (Or.inr (Or.inr (Or.inr (Or.inr (Or.inr (Or.inr (Or.inr (Or.inl (e)))))))))) | exact Or.inr (Or.inr (Or.inr (Or.inr (Or.inr (Or.inr (Or.inr (Or.inr (Or.inr (Or.inr (Or.inl (e))))))))))) | exact Or.inr (Or.inr (Or.inr (Or.inr (Or.inr (Or.inr (Or.inr (Or.inr (Or.inr (Or.inr (Or.inr (Or.inl (e)))))))))))) | exact Or.inr (Or.inr (Or.inr (Or.inr (Or.inr (Or.inr (Or.inr (Or.inr (Or.inr (Or.inr (Or.inr (Or.inr (Or.inl (e))))))))))))) | exact Or.inr (Or.inr (Or.inr (Or.inr (Or.inr (Or.inr (Or.inr (Or.inr (Or.inr (Or.inr (Or.inr (Or.inr (Or.inr (Or.inl (e)))))))))))))) | exact Or.inr (Or.inr (Or.inr (Or.inr (Or.inr (Or.inr (Or.inr (Or.inr (Or.inr (Or.inr (Or.inr (Or.inr (Or.inr (Or.inr (e))))))))))))))) (fun x k hx => False.elim hx)
            · exact fe_j F1 (fe_mBook_acknowledge_b182 _ _ _ _ _ _ _) (fun x k hx => by simp only [wI_mBook_acknowledge_b182, F1.r] at hx; rcases hx with e | e | e | e | e | e | e | e | e | e | e | e | e | e | e <;> first | exact Or.inl (e) | exact Or.inr (Or.inl (e)) | exact Or.inr (Or.inr (Or.inl (e))) | exact Or.inr (Or.inr (Or.inr (Or.inl (e)))) | exact Or.inr (Or.inr (Or.inr (Or.inr (Or.inl (e))))) | exact Or.inr (Or.inr (Or.inr (Or.inr (Or.inr (Or.inl (e)))))) | exact Or.inr (Or.inr (Or.inr (Or.inr (Or.inr (Or.inr (Or.inl (e))))))) | exact Or.inr (Or.inr (Or.inr (Or.inr (Or.inr (Or.inr (Or.inr (Or.inl (e)))))))) | exact Or.inr (Or.inr (Or.inr (Or.inr (Or.inr (Or.inr (Or.inr (Or.inr (Or.inl (e))))))))) | exact Or.inr (Or.inr (Or.inr (Or.inr (Or.inr (Or.inr (Or.inr (Or.inr (Or.inr (Or.inl (e)))))))))) | exact Or.inr (Or.inr (Or.inr (Or.inr (Or.inr (Or.inr (Or.inr (Or.inr (Or.inr (Or.inr (Or.inl (e))))))))))) | exact Or.inr (Or.inr (Or.inr (Or.inr (Or.inr (Or.inr (Or.inr (Or.inr (Or.inr (Or.inr (Or.inr (Or.inl (e)))))))))))) | exact Or.inr (Or.inr (Or.inr (Or.inr (Or.inr (Or.inr (Or.inr (Or.inr (Or.inr (Or.inr (Or.inr (Or.inr (Or.inl (e))))))))))))) | exact Or.inr (Or.inr (Or.inr (Or.inr (Or.inr (Or.inr (Or.inr (Or.inr (Or.inr (Or.inr (Or.inr (Or.inr (Or.inr (Or.inl (e)))))))))))))) | exact Or.inr (Or.inr (Or.inr (Or.inr (Or.inr (Or.inr (Or.inr (Or.inr (Or.inr (Or.inr (Or.inr (Or.inr (Or.inr (Or.inr (e))))))))))))))) (fun x k hx => False.elim hx)
          · exact fe_j F1 (fe_mBook_acknowledge_b182 _ _ _ _ _ _ _) (fun x k hx => by simp only [wI_mBook_acknowledge_b182, F1.r] at hx; rcases hx with e | e | e | e | e | e | e | e | e | e | e | e | e | e | e <;> first | exact Or.inl (e) | exact Or.inr (Or.inl (e)) | exact Or.inr (Or.inr (Or.inl (e))) | exact Or.inr (Or.inr (Or.inr (Or.inl (e)))) | exact Or.inr (Or.inr (Or.inr (Or.inr (Or.inl (e))))) | exact Or.inr (Or.inr (Or.inr (Or.inr (Or.inr (Or.inl (e)))))) | exact Or.inr (Or.inr (Or.inr (Or.inr (Or.inr (Or.inr (Or.inl (e))))))) | exact Or.inr (Or.inr (Or.inr (Or.inr (Or.inr (Or.inr (Or.inr (Or.inl (e)))))))) | exact Or.inr (Or.inr (Or.inr (Or.inr (Or.inr (Or.inr (Or.inr (Or.inr (Or.inl (e))))))))) | exact Or.inr (Or.inr (Or.inr (Or.inr (Or.inr (Or.inr (Or.inr (Or.inr (Or.inr (Or.inl (e)))))))))) | exact Or.inr (Or.inr (Or.inr (Or.inr (Or.inr (Or.inr (Or.inr (Or.inr (Or.inr (Or.inr (Or.inl (e))))))))))) | exact Or.inr (Or.inr (Or.inr (Or.inr (Or.inr (Or.inr (Or.inr (Or.inr (Or.inr (Or.inr (Or.inr (Or.inl (e)))))))))))) | exact Or.inr (Or.inr (Or.inr (Or.inr (Or.inr (Or.inr (Or.inr (Or.inr (Or.inr (Or.inr (Or.inr (Or.inr (Or.inl (e))))))))))))) | exact Or.inr (Or.inr (Or.inr (Or.inr (Or.inr (Or.inr (Or.inr (Or.inr (Or.inr (Or.inr (Or.inr (Or.inr (Or.inr (Or.inl (e)))))))))))))) | exact Or.inr (Or.inr (Or.inr (Or.inr (Or.inr (Or.inr (Or.inr (Or.inr (Or.inr (Or.inr (Or.inr (Or.inr (Or.inr (Or.inr (e))))))))))))))) (fun x k hx => False.elim hx)
    · exact fe_so Fe.rf
  · refine fe_b2 Fe.rf (fe_mBook_isNew _ _ _ _) (fun x k hx => False.elim hx) (fun x k hx => False.elim hx) (fun r26 h24 F2 => ?_)
    refine fe_it ?_ ?_
    · refine fe_it ?_ ?_
      · exact fe_j F2 (fe_mBook_acknowledge_b109 hk61 _ _ _ _ _ _ _ _) (fun x k hx => by simp only [wI_mBook_acknowledge_b109, F2.r] at hx; rcases hx with e | e | e | e | e | e | e | e | e | e | e | e | e | e | e <;> first | exact Or.inl (e) | exact Or.inr (Or.inl (e)) | exact Or.inr (Or.inr (Or.inl (e))) | exact Or.inr (Or.inr (Or.inr (Or.inl (e)))) | exact Or.inr (Or.inr (Or.inr (Or.inr (Or.inl (e))))) | exact Or.inr (Or.inr (Or.inr (Or.inr (Or.inr (Or.inl (e)))))) | exact Or.inr (Or.inr (Or.inr (Or.inr (Or.inr (Or.inr (Or.inl (e))))))) | exact Or.inr (Or.inr (Or.inr (Or.inr (Or.inr (Or.inr (Or.inr (Or.inl (e)))))))) | exact Or.inr (Or.inr (Or.inr (Or.inr (Or.inr (Or.inr (Or.inr (Or.inr (Or.inl (e))))))))) | exact Or.inr (Or.inr (Or.inr (Or.inr (Or.inr (Or.inr (Or.inr (Or.inr (Or.inr (Or.inl (e)))))))))) | exact Or.inr (Or.inr (Or.inr (Or.inr (Or.inr (Or.inr (Or.inr (Or.inr (Or.inr (Or.inr (Or.inl (e))))))))))) | exact Or.inr (Or.inr (Or.inr (Or.inr (Or.inr (Or.inr (Or.inr (Or.inr (Or.inr (Or.inr (Or.inr (Or.inl (e)))))))))))) | exact Or.inr (Or.inr (Or.inr (Or.inr (Or.inr (Or.inr (Or.inr (Or.inr (Or.inr (Or.inr (Or.inr (Or.inr (Or.inl (e))))))))))))) | exact Or.inr (Or.inr (Or.inr (Or.inr (Or.inr (Or.inr (Or.inr (Or.inr (Or.inr (Or.inr (Or.inr (Or.inr (Or.inr (Or.inl (e)))))))))))))) | exact Or.inr (Or.inr (Or.inr (Or.inr (Or.inr (Or.inr (Or.inr (Or.inr (Or.inr (Or.inr (Or.inr (Or.inr (Or.inr (Or.inr (e))))))))))))))) (fun x k hx => False.elim hx)
      · refine fe_it fe_no ?_
        refine fe_it ?_ fe_no
        refine fe_it ?_ ?_
        · exact fe_j F2 (fe_mBook_acknowledge_b114 hk61 _ _ _ _ _ _ _ _ _) (fun x k hx => by simp only [wI_mBook_acknowledge_b114, F2.r] at hx; rcases hx with e | e | e | e | e | e | e | e | e | e | e | e | e | e | e <;> first | exact Or.inl (e) | exact Or.inr (Or.inl (e)) | exact Or.inr (Or.inr (Or.inl (e))) | exact Or.inr (Or.inr (Or.inr (Or.inl (e)))) | exact Or.inr (Or.inr (Or.inr (Or.inr (Or.inl (e))))) | exact Or.inr (Or.inr (Or.inr (Or.inr (Or.inr (Or.inl (e)))))) | exact Or.inr (Or.inr (Or.inr (Or.inr (Or.inr (Or.inr (Or.inl (e))))))) | exact Or.inr (Or.inr (Or.inr (Or.inr (Or.inr (Or.inr (Or.inr (Or.inl (e)))))))) | exact Or.inr (Or.inr (Or.inr (Or.inr (Or.inr (Or.inr (Or.inr (Or.inr (Or.inl (e))))))))) | exact Or.inr (Or.inr (Or.inr (Or.inr (Or.inr (Or.inr (Or.inr (Or.inr (Or.inr (Or.inl (e)))))))))) | exact Or.inr (Or.inr (Or.inr (Or.inr (Or.inr (Or.inr (Or.inr (Or.inr (Or.inr (Or.inr (Or.inl (e))))))))))) | exact Or.inr (Or.inr (Or.inr (Or.inr (Or.inr (Or.inr (Or.inr (Or.inr (Or.inr (Or.inr (Or.inr (Or.inl (e)))))))))))) | exact Or.inr (Or.inr (Or.inr (Or.inr (Or.inr (Or.inr (Or.inr (Or.inr (Or.inr (Or.inr (Or.inr (Or.inr (Or.inl (e))))))))))))) | exact Or.inr (Or.inr (Or.inr (Or.inr (Or.inr (Or.inr (Or.inr (Or.inr (Or.inr (Or.inr (Or.inr (Or.inr (Or.inr (Or.inl (e)))))))))))))) | exact Or.inr (Or.inr (Or.inr (Or.inr (Or.inr (Or.inr (Or.inr (Or.inr (Or.inr (Or.inr (Or.inr (Or.inr (Or.inr (Or.inr (e))))))))))))))) (fun x k hx => False.elim hx)
        · exact fe_j F2 (fe_mBook_acknowledge_b109 hk61 _ _ _ _ _ _ _ _) (fun x k hx => by simp only [wI_mBook_acknowledge_b109, F2.r] at hx; rcases hx with e | e | e | e | e | e | e | e | e | e | e | e | e | e | e <;> first | exact Or.inl (e) | exact Or.inr (Or.inl (e)) | exact Or.inr (Or.inr (Or.inl (e))) | exact Or.inr (Or.inr (Or.inr (Or.inl (e)))) | exact Or.inr (Or.inr (Or.inr (Or.inr (Or.inl (e))))) | exact Or.inr (Or.inr (Or.inr (Or.inr (Or.inr (Or.inl (e)))))) | exact Or.inr (Or.inr (Or.inr (Or.inr (Or.inr (Or.inr (Or.inl (e))))))) | exact Or.inr (Or.inr (Or.inr (Or.inr (Or.inr (Or.inr (Or.inr (Or.inl (e)))))))) | exact Or.inr (Or.inr (Or.inr (Or.inr (Or.inr (Or.inr (Or.inr (Or.inr (Or.inl (e))))))))) | exact Or.inr (Or.inr (Or.inr (Or.inr (Or.inr (Or.inr (Or.inr (Or.inr (Or.inr (Or.inl (e)))))))))) | exact Or.inr (Or.inr (Or.inr (Or.inr (Or.inr (Or.inr (Or.inr (Or.inr (Or.inr (Or.inr (Or.inl (e))))))))))) | exact Or.inr (Or.inr (Or.inr (Or.inr (Or.inr (Or.inr (Or.inr (Or.inr (Or.inr (Or.inr (Or.inr (Or.inl (e)))))))))))) | exact Or.inr (Or.inr (Or.inr (Or.inr (Or.inr (Or.inr (Or.inr (Or.inr (Or.inr (Or.inr (Or.inr (Or.inr (Or.inl (e))))))))))))) | exact Or.inr (Or.inr (Or.inr (Or.inr (Or.inr (Or.inr (Or.inr (Or.inr (Or.inr (Or.inr (Or.inr (Or.inr (Or.inr (Or.inl (e)))))))))))))) | exact Or.inr (Or.inr (Or.inr (Or.inr (Or.inr (Or.inr (Or.inr (Or.inr (Or.inr (Or.inr (Or.inr (Or.inr (Or.inr (Or.inr (e))))))))))))))) (fun x k hx => False.elim hx)
    · exact fe_j F2 (fe_mBook_acknowledge_b116 hk61 _ _ _ _ _ _ _ _ _) (fun x k hx => by simp only [wI_mBook_acknowledge_b116, F2.r] at hx; rcases hx with e | e | e | e | e | e | e | e | e | e | e | e | e | e | e <;> first | exact Or.inl (e) | exact Or.inr (Or.inl (e)) | exact Or.inr (Or.inr (Or.inl (e))) | exact Or.inr (Or.inr (Or.inr (Or.inl (e)))) | exact Or.inr (Or.inr (Or.inr (Or.inr (Or.inl (e))))) | exact Or.inr (Or.inr (Or.inr (Or.inr (Or.inr (Or.inl (e)))))) | exact Or.inr (Or.inr (Or.inr (Or.inr (Or.inr (Or.inr (Or.inl (e))))))) | exact Or.inr (Or.inr (Or.inr (Or.inr (Or.inr (Or.inr (Or.inr (Or.inl (e)))))))) | exact Or.inr (Or.inr (Or.inr (Or.inr (Or.inr (Or.inr (Or.inr (Or.inr (Or.inl (e))))))))) | exact Or.inr (Or.inr (Or.inr (Or.inr (Or.inr (Or.inr (Or.inr (Or.inr (Or.inr (Or.inl (e)))))))))) | exact Or.inr (Or.inr (Or.inr (Or.inr (Or.inr (Or.inr (Or.inr (Or.inr (Or.inr (Or.inr (Or.inl (e))))))))))) | exact Or.inr (Or.inr (Or.inr (Or.inr (Or.inr (Or.inr (Or.inr (Or.inr (Or.inr (Or.inr (Or.inr (Or.inl (e)))))))))))) | exact Or.inr (Or.inr (Or.inr (Or.inr (Or.inr (Or.inr (Or.inr (Or.inr (Or.inr (Or.inr (Or.inr (Or.inr (Or.inl (e))))))))))))) | exact Or.inr (Or.inr (Or.inr (Or.inr (Or.inr (Or.inr (Or.inr (Or.inr (Or.inr (Or.inr (Or.inr (Or.inr (Or.inr (Or.inl (e)))))))))))))) | exact Or.inr (Or.inr (Or.inr (Or.inr (Or.inr (Or.inr (Or.inr (Or.inr (Or.inr (Or.inr (Or.inr (Or.inr (Or.inr (Or.inr (e))))))))))))))) (fun x k hx => False.elim hx)
theorem fe_mBook_acknowledge_b61_lp (n : Nat) : ∀ (v0 : Nat) (v1 : Int) (v2 : Int) (v3 : Int) (v4 : Int) (v5 : Int) (v6 : Int) (v7 : Int) (h : Hp), Feo (wI_mBook_acknowledge_b61 v0 v1 v2 v3 v4 v5 v6 v7 h) (wJ_mBook_acknowledge_b61 v0 v1 v2 v3 v4 v5 v6 v7 h) h Prod.snd (f_mBook_acknowledge_b61_lp n v0 v1 v2 v3 v4 v5 v6 v7 h) := by
  induction n with
  | zero => intro v0 v1 v2 v3 v4 v5 v6 v7 h; exact fe_no
  | succ n ih => intro v0 v1 v2 v3 v4 v5 v6 v7 h; exact fe_mBook_acknowledge_b61 ih v0 v1 v2 v3 v4 v5 v6 v7 h
theorem fe_mBook_acknowledge (v0 : Nat) (v1 : Int) (v2 : Int) (h : Hp) : Feo (wI_mBook_acknowledge v0 v1 v2 h) (wJ_mBook_acknowledge v0 v1 v2 h) h Prod.snd (f_mBook_acknowledge v0 v1 v2 h) := by
  unfold f_mBook_acknowledge
  refine fe_it fe_no ?_
  refine fe_it ?_ fe_no
  refine fe_it fe_no ?_
  refine fe_it ?_ fe_no
  refine fe_it ?_ ?_
  · refine fe_it ?_ fe_no
    refine fe_v (fun y6 => ?_)
    refine fe_it fe_no ?_
    refine fe_it ?_ fe_no
    refine fe_b2 Fe.rf (fe_mBook_greater _ _ _) (fun x k hx => False.elim hx) (fun x k hx => False.elim hx) (fun r11 h9 F1 => ?_)
    refine fe_it ?_ fe_no
    refine fe_I F1 (Or.inr (Or.inr (Or.inl (rfl)))) (fun h13 F2 => ?_)
    refine fe_it fe_no ?_
    refine fe_it ?_ fe_no
    refine fe_v (fun y16 => ?_)
    exact fe_j F2 (fe_mBook_acknowledge_b61_lp FU _ _ _ _ _ _ _ _ _) (fun x k hx => by simp only [wI_mBook_acknowledge_b61, F1.r, F2.r] at hx; rcases hx with e | e | e | e | e | e | e | e | e | e | e | e | e | e | e <;> first | exact Or.inl (e) | exact Or.inr (Or.inl (e)) | exact Or.inr (Or.inr (Or.inr (Or.inl (e)))) | exact Or.inr (Or.inr (Or.inr (Or.inr (Or.inl (e))))) | exact Or.inr (Or.inr (Or.inr (Or.inr (Or.inr (Or.inl (e)))))) | exact Or.inr (Or.inr (Or.inr (Or.inr (Or.inr (Or.inr (Or.inl (e))))))) | exact Or.inr (Or.inr (Or.inr (Or.inr (Or.inr (Or.inr (Or.inr (Or.inl (e)))))))) | exact Or.inr (Or.inr (Or.inr (Or.inr (Or.inr (Or.inr (Or.inr (Or.inr (Or.inl (e))))))))) | exact Or.inr (Or.inr (Or.inr (Or.inr (Or.inr (Or.inr (Or.inr (Or.inr (Or.inr (Or.inl (e)))))))))) | exact Or.inr (Or.inr (Or.inr (Or.inr (Or.inr (Or.inr (Or.inr (Or.inr (Or.inr (Or.inr (Or.inl (e))))))))))) | exact Or.inr (Or.inr (Or.inr (Or.inr (Or.inr (Or.inr (Or.inr (Or.inr (Or.inr (Or.inr (Or.inr (Or.inl (e)))))))))))) | exact Or.inr (Or.inr (Or.inr (Or.inr (Or.inr (Or.inr (Or.inr (Or.inr (Or.inr (Or.inr (Or.inr (Or.inr (Or.inl (e))))))))))))) | exact Or.inr (Or.inr (Or.inr (Or.inr (Or.inr (Or.inr (Or.inr (Or.inr (Or.inr (Or.inr (Or.inr (Or.inr (Or.inr (Or.inl (e)))))))))))))) | exact Or.inr (Or.inr (Or.inr (Or.inr (Or.inr (Or.inr (Or.inr (Or.inr (Or.inr (Or.inr (Or.inr (Or.inr (Or.inr (Or.inr (Or.inl (e))))))))))))))) | exact Or.inr (Or.inr (Or.inr (Or.inr (Or.inr (Or.inr (Or.inr (Or.inr (Or.inr (Or.inr (Or.inr (Or.inr (Or.inr (Or.inr (Or.inr (e)))))))))))))))) (fun x k hx => False.elim hx)
  · exact fe_so Fe.rf
def wI_mBook_next_b12 (v0 : Nat) (s0 : Int) (s1 : Int) (h : Hp) (x k : Nat) : Prop := x = hR h v0 17
def wJ_mBook_next_b12 (v0 : Nat) (s0 : Int) (s1 : Int) (h : Hp) (x k : Nat) : Prop := False
def wI_mBook_next (v0 : Nat) (v1 : Int) (v2 : Int) (h : Hp) (x k : Nat) : Prop := x = hR h v0 17
def wJ_mBook_next (v0 : Nat) (v1 : Int) (v2 : Int) (h : Hp) (x k : Nat) : Prop := False
theorem fe_mBook_next_b12 (v0 : Nat) (s0 : Int) (s1 : Int) (h : Hp) : Feo (wI_mBook_next_b12 v0 s0 s1 h) (wJ_mBook_next_b12 v0 s0 s1 h) h Prod.snd (f_mBook_next_b12 v0 s0 s1 h) := by
  unfold f_mBook_next_b12
  refine fe_v (fun y1 => ?_)
  refine fe_it fe_no ?_
  refine fe_it ?_ fe_no
  refine fe_it fe_no ?_
  refine fe_it ?_ fe_no
  refine fe_it ?_ ?_
  · refine fe_it ?_ fe_no
    refine fe_it ?_ fe_no
    refine fe_I Fe.rf (rfl) (fun h8 F1 => ?_)
    refine fe_it fe_no ?_
    refine fe_it ?_ fe_no
    refine fe_it fe_no ?_
    refine fe_it ?_ fe_no
    exact fe_so F1
  · exact fe_so Fe.rf
theorem fe_mBook_next (v0 : Nat) (v1 : Int) (v2 : Int) (h : Hp) : Feo (wI_mBook_next v0 v1 v2 h) (wJ_mBook_next v0 v1 v2 h) h Prod.snd (f_mBook_next v0 v1 v2 h) := by
  unfold f_mBook_next
  refine fe_it ?_ ?_
  · exact fe_j Fe.rf (fe_mBook_next_b12 _ _ _ _) (fun x k hx => by simp only [wI_mBook_next_b12] at hx; have e := hx; exact e) (fun x k hx => False.elim hx)
  · exact fe_j Fe.rf (fe_mBook_next_b12 _ _ _ _) (fun x k hx => by simp only [wI_mBook_next_b12] at hx; have e := hx; exact e) (fun x k hx => False.elim hx)
def wI_mSide_tellCrypto_b58 (v0 : Nat) (v1 : Int) (v2 : Int) (v3 : Int) (v4 : Int) (v5 : Int) (h : Hp) (x k : Nat) : Prop := x = hR h v0 28
def wJ_mSide_tellCrypto_b58 (v0 : Nat) (v1 : Int) (v2 : Int) (v3 : Int) (v4 : Int) (v5 : Int) (h : Hp) (x k : Nat) : Prop := False
def wI_mSide_tellCrypto_b9 (v0 : Nat) (v1 : Int) (v2 : Int) (v3 : Int) (v4 : Int) (v5 : Int) (h : Hp) (x k : Nat) : Prop := x = hR h v0 28
def wJ_mSide_tellCrypto_b9 (v0 : Nat) (v1 : Int) (v2 : Int) (v3 : Int) (v4 : Int) (v5 : Int) (h : Hp) (x k : Nat) : Prop := False
def wI_mSide_tellCrypto (v0 : Nat) (v1 : Int) (v2 : Int) (v3 : Int) (v4 : Int) (h : Hp) (x k : Nat) : Prop := x = hR h v0 28
def wJ_mSide_tellCrypto (v0 : Nat) (v1 : Int) (v2 : Int) (v3 : Int) (v4 : Int) (h : Hp) (x k : Nat) : Prop := False
theorem fe_mSide_tellCrypto_b58 {k9 : Nat → Int → Int → Int → Int → Int → Hp → Option (Hp)} (hk9 : ∀ (v0 : Nat) (v1 : Int) (v2 : Int) (v3 : Int) (v4 : Int) (v5 : Int) (h : Hp), Feo (wI_mSide_tellCrypto_b9 v0 v1 v2 v3 v4 v5 h) (wJ_mSide_tellCrypto_b9 v0 v1 v2 v3 v4 v5 h) h id (k9 v0 v1 v2 v3 v4 v5 h)) (v0 : Nat) (v1 : Int) (v2 : Int) (v3 : Int) (v4 : Int) (v5 : Int) (h : Hp) : Feo (wI_mSide_tellCrypto_b58 v0 v1 v2 v3 v4 v5 h) (wJ_mSide_tellCrypto_b58 v0 v1 v2 v3 v4 v5 h) h id (f_mSide_tellCrypto_b58 k9 v0 v1 v2 v3 v4 v5 h) := by
  unfold f_mSide_tellCrypto_b58
  exact fe_j Fe.rf (hk9 _ _ _ _ _ _ _) (fun x k hx => by simp only [wI_mSide_tellCrypto_b9] at hx; have e := hx; exact e) (fun x k hx => False.elim hx)
theorem fe_mSide_tellCrypto_b9 {k9 : Nat → Int → Int → Int → Int → Int → Hp → Option (Hp)} (hk9 : ∀ (v0 : Nat) (v1 : Int) (v2 : Int) (v3 : Int) (v4 : Int) (v5 : Int) (h : Hp), Feo (wI_mSide_tellCrypto_b9 v0 v1 v2 v3 v4 v5 h) (wJ_mSide_tellCrypto_b9 v0 v1 v2 v3 v4 v5 h) h id (k9 v0 v1 v2 v3 v4 v5 h)) (v0 : Nat) (v1 : Int) (v2 : Int) (v3 : Int) (v4 : Int) (v5 : Int) (h : Hp) : Feo (wI_mSide_tellCrypto_b9 v0 v1 v2 v3 v4 v5 h) (wJ_mSide_tellCrypto_b9 v0 v1 v2 v3 v4 v5 h) h id (f_mSide_tellCrypto_b9 k9 v0 v1 v2 v3 v4 v5 h) := by
  unfold f_mSide_tellCrypto_b9
  refine fe_it ?_ ?_
  · exact fe_so Fe.rf
  · refine fe_it ?_ ?_
    · refine fe_it fe_no ?_
      refine fe_it ?_ fe_no
      refine fe_it ?_ ?_
      · exact fe_j Fe.rf (fe_mSide_tellCrypto_b58 hk9 _ _ _ _ _ _ _) (fun x k hx => by simp only [wI_mSide_tellCrypto_b58] at hx; have e := hx; exact e) (fun x k hx => False.elim hx)
      · refine fe_it ?_ fe_no
        refine fe_I Fe.rf (rfl) (fun h5 F1 => ?_)
        exact fe_j F1 (fe_mSide_tellCrypto_b58 hk9 _ _ _ _ _ _ _) (fun x k hx => by simp only [wI_mSide_tellCrypto_b58, F1.r] at hx; have e := hx; exact e) (fun x k hx => False.elim hx)
    · refine fe_it fe_no ?_
      refine fe_it ?_ fe_no
      refine fe_I Fe.rf (rfl) (fun h8 F2 => ?_)
      exact fe_j F2 (fe_mSide_tellCrypto_b58 hk9 _ _ _ _ _ _ _) (fun x k hx => by simp only [wI_mSide_tellCrypto_b58, F2.r] at hx; have e := hx; exact e) (fun x k hx => False.elim hx)
theorem fe_mSide_tellCrypto_b9_lp (n : Nat) : ∀ (v0 : Nat) (v1 : Int) (v2 : Int) (v3 : Int) (v4 : Int) (v5 : Int) (h : Hp), Feo (wI_mSide_tellCrypto_b9 v0 v1 v2 v3 v4 v5 h) (wJ_mSide_tellCrypto_b9 v0 v1 v2 v3 v4 v5 h) h id (f_mSide_tellCrypto_b9_lp n v0 v1 v2 v3 v4 v5 h) := by
  induction n with
  | zero => intro v0 v1 v2 v3 v4 v5 h; exact fe_no
  | succ n ih => intro v0 v1 v2 v3 v4 v5 h; exact fe_mSide_tellCrypto_b9 ih v0 v1 v2 v3 v4 v5 h
theorem fe_mSide_tellCrypto (v0 : Nat) (v1 : Int) (v2 : Int) (v3 : Int) (v4 : Int) (h : Hp) : Feo (wI_mSide_tellCrypto v0 v1 v2 v3 v4 h) (wJ_mSide_tellCrypto v0 v1 v2 v3 v4 h) h id (f_mSide_tellCrypto v0 v1 v2 v3 v4 h) := by
  unfold f_mSide_tellCrypto
  refine fe_v (fun y1 => ?_)
  exact fe_j Fe.rf (fe_mSide_tellCrypto_b9_lp FU _ _ _ _ _ _ _) (fun x k hx => by simp only [wI_mSide_tellCrypto_b9] at hx; have e := hx; exact e) (fun x k hx => False.elim hx)
def wI_mSide_tellDone_b44 (v0 : Nat) (s0 : Nat) (s1 : Int) (h : Hp) (x k : Nat) : Prop := (x = s0 ∧ k = 30)
def wJ_mSide_tellDone_b44 (v0 : Nat) (s0 : Nat) (s1 : Int) (h : Hp) (x k : Nat) : Prop := False
def wI_mSide_tellDone_b39 (v0 : Nat) (s0 : Nat) (h : Hp) (x k : Nat) : Prop := (x = s0 ∧ k = 30)
def wJ_mSide_tellDone_b39 (v0 : Nat) (s0 : Nat) (h : Hp) (x k : Nat) : Prop := False
def wI_mSide_tellDone_b43 (v0 : Nat) (s0 : Nat) (h : Hp) (x k : Nat) : Prop := (x = s0 ∧ k = 30)
def wJ_mSide_tellDone_b43 (v0 : Nat) (s0 : Nat) (h : Hp) (x k : Nat) : Prop := False
def wI_mSide_tellDone_b17 (v0 : Nat) (v1 : Int) (s0 : Nat) (s1 : Int) (h : Hp) (x k : Nat) : Prop := (x = s0 ∧ k = 31) ∨ (x = v0 ∧ k = 30)
def wJ_mSide_tellDone_b17 (v0 : Nat) (v1 : Int) (s0 : Nat) (s1 : Int) (h : Hp) (x k : Nat) : Prop := False
def wI_mSide_tellDone_b12 (v0 : Nat) (v1 : Int) (s0 : Nat) (h : Hp) (x k : Nat) : Prop := (x = s0 ∧ k = 31) ∨ (x = v0 ∧ k = 30)
def wJ_mSide_tellDone_b12 (v0 : Nat) (v1 : Int) (s0 : Nat) (h : Hp) (x k : Nat) : Prop := False
def wI_mSide_tellDone (v0 : Nat) (v1 : Int) (h : Hp) (x k : Nat) : Prop := (x = v0 ∧ k = 30) ∨ (x = v0 ∧ k = 31)
def wJ_mSide_tellDone (v0 : Nat) (v1 : Int) (h : Hp) (x k : Nat) : Prop := False
theorem fe_mSide_tellDone_b44 (v0 : Nat) (s0 : Nat) (s1 : Int) (h : Hp) : Feo (wI_mSide_tellDone_b44 v0 s0 s1 h) (wJ_mSide_tellDone_b44 v0 s0 s1 h) h id (f_mSide_tellDone_b44 v0 s0 s1 h) := by
  unfold f_mSide_tellDone_b44
  refine fe_it fe_no ?_
  refine fe_it fe_no ?_
  refine fe_I Fe.rf (⟨rfl, rfl⟩) (fun h5 F1 => ?_)
  exact fe_so F1
theorem fe_mSide_tellDone_b39 (v0 : Nat) (s0 : Nat) (h : Hp) : Feo (wI_mSide_tellDone_b39 v0 s0 h) (wJ_mSide_tellDone_b39 v0 s0 h) h id (f_mSide_tellDone_b39 v0 s0 h) := by
  unfold f_mSide_tellDone_b39
  exact fe_j Fe.rf (fe_mSide_tellDone_b44 _ _ _ _) (fun x k hx => by simp only [wI_mSide_tellDone_b44] at hx; have e := hx; exact e) (fun x k hx => False.elim hx)
theorem fe_mSide_tellDone_b43 (v0 : Nat) (s0 : Nat) (h : Hp) : Feo (wI_mSide_tellDone_b43 v0 s0 h) (wJ_mSide_tellDone_b43 v0 s0 h) h id (f_mSide_tellDone_b43 v0 s0 h) := by
  unfold f_mSide_tellDone_b43
  exact fe_j Fe.rf (fe_mSide_tellDone_b44 _ _ _ _) (fun x k hx => by simp only [wI_mSide_tellDone_b44] at hx; have e := hx; exact e) (fun x k hx => False.elim hx)
theorem fe_mSide_tellDone_b17 (v0 : Nat) (v1 : Int) (s0 : Nat) (s1 : Int) (h : Hp) : Feo (wI_mSide_tellDone_b17 v0 v1 s0 s1 h) (wJ_mSide_tellDone_b17 v0 v1 s0 s1 h) h id (f_mSide_tellDone_b17 v0 v1 s0 s1 h) := by
  unfold f_mSide_tellDone_b17
  refine fe_it fe_no ?_
  refine fe_it fe_no ?_
  refine fe_I Fe.rf (Or.inl (⟨rfl, rfl⟩)) (fun h2 F1 => ?_)
  refine fe_it ?_ ?_
  · exact fe_j F1 (fe_mSide_tellDone_b43 _ _ _) (fun x k hx => by simp only [wI_mSide_tellDone_b43, F1.r] at hx; have e := hx; exact Or.inr (e)) (fun x k hx => False.elim hx)
  · refine fe_it ?_ ?_
    · exact fe_j F1 (fe_mSide_tellDone_b39 _ _ _) (fun x k hx => by simp only [wI_mSide_tellDone_b39, F1.r] at hx; have e := hx; exact Or.inr (e)) (fun x k hx => False.elim hx)
    · refine fe_it ?_ ?_
      · exact fe_j F1 (fe_mSide_tellDone_b43 _ _ _) (fun x k hx => by simp only [wI_mSide_tellDone_b43, F1.r] at hx; have e := hx; exact Or.inr (e)) (fun x k hx => False.elim hx)
      · exact fe_j F1 (fe_mSide_tellDone_b39 _ _ _) (fun x k hx => by simp only [wI_mSide_tellDone_b39, F1.r] at hx; have e := hx; exact Or.inr (e)) (fun x k hx => False.elim hx)
theorem fe_mSide_tellDone_b12 (v0 : Nat) (v1 : Int) (s0 : Nat) (h : Hp) : Feo (wI_mSide_tellDone_b12 v0 v1 s0 h) (wJ_mSide_tellDone_b12 v0 v1 s0 h) h id (f_mSide_tellDone_b12 v0 v1 s0 h) := by
  unfold f_mSide_tellDone_b12
  exact fe_j Fe.rf (fe_mSide_tellDone_b17 _ _ _ _ _) (fun x k hx => by simp only [wI_mSide_tellDone_b17] at hx; rcases hx with e | e <;> first | exact Or.inl (e) | exact Or.inr (e)) (fun x k hx => False.elim hx)
theorem fe_mSide_tellDone (v0 : Nat) (v1 : Int) (h : Hp) : Feo (wI_mSide_tellDone v0 v1 h) (wJ_mSide_tellDone v0 v1 h) h id (f_mSide_tellDone v0 v1 h) := by
  unfold f_mSide_tellDone
  refine fe_it ?_ ?_
  · exact fe_j Fe.rf (fe_mSide_tellDone_b12 _ _ _ _) (fun x k hx => by simp only [wI_mSide_tellDone_b12] at hx; rcases hx with e | e <;> first | exact Or.inl (e) | exact Or.inr (e)) (fun x k hx => False.elim hx)
  · refine fe_it ?_ ?_
    · exact fe_j Fe.rf (fe_mSide_tellDone_b17 _ _ _ _ _) (fun x k hx => by simp only [wI_mSide_tellDone_b17] at hx; rcases hx with e | e <;> first | exact Or.inl (e) | exact Or.inr (e)) (fun x k hx => False.elim hx)
    · exact fe_j Fe.rf (fe_mSide_tellDone_b12 _ _ _ _) (fun x k hx => by simp only [wI_mSide_tellDone_b12] at hx; rcases hx with e | e <;> first | exact Or.inl (e) | exact Or.inr (e)) (fun x k hx => False.elim hx)
def wI_mStreams_remark_b84 (v0 : Nat) (v2 : Int) (v3 : Int) (s0 : Nat) (s1 : Int) (s2 : Int) (s3 : Int) (h : Hp) (x k : Nat) : Prop := x = hR h v0 42 ∨ x = s0
def wJ_mStreams_remark_b84 (v0 : Nat) (v2 : Int) (v3 : Int) (s0 : Nat) (s1 : Int) (s2 : Int) (s3 : Int) (h : Hp) (x k : Nat) : Prop := False
def wI_mStreams_remark_b65 (v0 : Nat) (v1 : Int) (v2 : Int) (v3 : Int) (s0 : Nat) (s1 : Int) (s2 : Int) (s3 : Int) (h : Hp) (x k : Nat) : Prop := x = (hR h v0 25) ∨ x = hR h v0 42 ∨ x = s0
def wJ_mStreams_remark_b65 (v0 : Nat) (v1 : Int) (v2 : Int) (v3 : Int) (s0 : Nat) (s1 : Int) (s2 : Int) (s3 : Int) (h : Hp) (x k : Nat) : Prop := False
def wI_mStreams_remark_b46 (v0 : Nat) (v1 : Int) (v2 : Int) (v3 : Int) (s0 : Nat) (s1 : Int) (s2 : Int) (s3 : Int) (h : Hp) (x k : Nat) : Prop := x = (hR h v0 25) ∨ x = (hR h v0 26) ∨ x = hR h v0 42 ∨ x = s0
def wJ_mStreams_remark_b46 (v0 : Nat) (v1 : Int) (v2 : Int) (v3 : Int) (s0 : Nat) (s1 : Int) (s2 : Int) (s3 : Int) (h : Hp) (x k : Nat) : Prop := False
def wI_mStreams_remark_b26 (v0 : Nat) (v1 : Int) (v2 : Int) (v3 : Int) (v4 : Int) (s0 : Nat) (s1 : Int) (s2 : Int) (s3 : Int) (h : Hp) (x k : Nat) : Prop := x = (hR h v0 25) ∨ x = (hR h v0 26) ∨ x = hR h v0 42 ∨ x = s0
def wJ_mStreams_remark_b26 (v0 : Nat) (v1 : Int) (v2 : Int) (v3 : Int) (v4 : Int) (s0 : Nat) (s1 : Int) (s2 : Int) (s3 : Int) (h : Hp) (x k : Nat) : Prop := False
def wI_mStreams_remark (v0 : Nat) (v1 : Int) (v2 : Int) (v3 : Int) (h : Hp) (x k : Nat) : Prop := x = (hR h v0 25) ∨ x = (hR h v0 26) ∨ x = hR h v0 42
def wJ_mStreams_remark (v0 : Nat) (v1 : Int) (v2 : Int) (v3 : Int) (h : Hp) (x k : Nat) : Prop := False
theorem fe_mStreams_remark_b84 (v0 : Nat) (v2 : Int) (v3 : Int) (s0 : Nat) (s1 : Int) (s2 : Int) (s3 : Int) (h : Hp) : Feo (wI_mStreams_remark_b84 v0 v2 v3 s0 s1 s2 s3 h) (wJ_mStreams_remark_b84 v0 v2 v3 s0 s1 s2 s3 h) h id (f_mStreams_remark_b84 v0 v2 v3 s0 s1 s2 s3 h) := by
  unfold f_mStreams_remark_b84
  refine fe_it fe_no ?_
  refine fe_it ?_ fe_no
  refine fe_I Fe.rf (Or.inr (rfl)) (fun h23 F1 => ?_)
  refine fe_it fe_no ?_
  refine fe_it ?_ fe_no
  refine fe_I F1 (Or.inl ((by first | (simp only [F1.r]; exact rfl) | simp only [F1.r]))) (fun h26 F2 => ?_)
  exact fe_so F2
theorem fe_mStreams_remark_b65 (v0 : Nat) (v1 : Int) (v2 : Int) (v3 : Int) (s0 : Nat) (s1 : Int) (s2 : Int) (s3 : Int) (h : Hp) : Feo (wI_mStreams_remark_b65 v0 v1 v2 v3 s0 s1 s2 s3 h) (wJ_mStreams_remark_b65 v0 v1 v2 v3 s0 s1 s2 s3 h) h id (f_mStreams_remark_b65 v0 v1 v2 v3 s0 s1 s2 s3 h) := by
  unfold f_mStreams_remark_b65
  refine fe_it fe_no ?_
  refine fe_it ?_ fe_no
  refine fe_I Fe.rf (Or.inr (Or.inr (rfl))) (fun h18 F1 => ?_)
  refine fe_it fe_no ?_
  refine fe_it ?_ fe_no
  refine fe_it ?_ ?_
  · exact fe_j F1 (fe_mStreams_remark_b84 _ _ _ _ _ _ _ _) (fun x k hx => by simp only [wI_mStreams_remark_b84, F1.r] at hx; rcases hx with e | e <;> first | exact Or.inl (e) | exact Or.inr (Or.inl (e))) (fun x k hx => False.elim hx)
  · exact fe_j F1 (fe_mStreams_remark_b84 _ _ _ _ _ _ _ _) (fun x k hx => by simp only [wI_mStreams_remark_b84, F1.r] at hx; rcases hx with e | e <;> first | exact Or.inl (e) | exact Or.inr (Or.inl (e))) (fun x k hx => False.elim hx)
theorem fe_mStreams_remark_b46 (v0 : Nat) (v1 : Int) (v2 : Int) (v3 : Int) (s0 : Nat) (s1 : Int) (s2 : Int) (s3 : Int) (h : Hp) : Feo (wI_mStreams_remark_b46 v0 v1 v2 v3 s0 s1 s2 s3 h) (wJ_mStreams_remark_b46 v0 v1 v2 v3 s0 s1 s2 s3 h) h id (f_mStreams_remark_b46 v0 v1 v2 v3 s0 s1 s2 s3 h) := by
  unfold f_mStreams_remark_b46
  refine fe_it fe_no ?_
  refine fe_it ?_ fe_no
  refine fe_I Fe.rf (Or.inr (Or.inr (Or.inr (rfl)))) (fun h13 F1 => ?_)
  refine fe_it fe_no ?_
  refine fe_it ?_ fe_no
  refine fe_it ?_ ?_
  · exact fe_j F1 (fe_mStreams_remark_b65 _ _ _ _ _ _ _ _ _) (fun x k hx => by simp only [wI_mStreams_remark_b65, F1.r] at hx; rcases hx with e | e | e <;> first | exact Or.inl (e) | exact Or.inr (Or.inl (e)) | exact Or.inr (Or.inr (Or.inl (e)))) (fun x k hx => False.elim hx)
  · exact fe_j F1 (fe_mStreams_remark_b65 _ _ _ _ _ _ _ _ _) (fun x k hx => by simp only [wI_mStreams_remark_b65, F1.r] at hx; rcases hx with e | e | e <;> first | exact Or.inl (e) | exact Or.inr (Or.inl (e)) | exact Or.inr (Or.inr (Or.inl (e)))) (fun x k hx => False.elim hx)
theorem fe_mStreams_remark_b26 (v0 : Nat) (v1 : Int) (v2 : Int) (v3 : Int) (v4 : Int) (s0 : Nat) (s1 : Int) (s2 : Int) (s3 : Int) (h : Hp) : Feo (wI_mStreams_remark_b26 v0 v1 v2 v3 v4 s0 s1 s2 s3 h) (wJ_mStreams_remark_b26 v0 v1 v2 v3 v4 s0 s1 s2 s3 h) h id (f_mStreams_remark_b26 v0 v1 v2 v3 v4 s0 s1 s2 s3 h) := by
  unfold f_mStreams_remark_b26
  refine fe_it fe_no ?_
  refine fe_it ?_ fe_no
  refine fe_I Fe.rf (Or.inr (Or.inr (Or.inr (rfl)))) (fun h8 F1 => ?_)
  refine fe_it fe_no ?_
  refine fe_it ?_ fe_no
  refine fe_it ?_ ?_
  · exact fe_j F1 (fe_mStreams_remark_b46 _ _ _ _ _ _ _ _ _) (fun x k hx => by simp only [wI_mStreams_remark_b46, F1.r] at hx; rcases hx with e | e | e | e <;> first | exact Or.inl (e) | exact Or.inr (Or.inl (e)) | exact Or.inr (Or.inr (Or.inl (e)))) (fun x k hx => False.elim hx)
  · exact fe_j F1 (fe_mStreams_remark_b46 _ _ _ _ _ _ _ _ _) (fun x k hx => by simp only [wI_mStreams_remark_b46, F1.r] at hx; rcases hx with e | e | e | e <;> first | exact Or.inl (e) | exact Or.inr (Or.inl (e)) | exact Or.inr (Or.inr (Or.inl (e)))) (fun x k hx => False.elim hx)
theorem fe_mStreams_remark (v0 : Nat) (v1 : Int) (v2 : Int) (v3 : Int) (h : Hp) : Feo (wI_mStreams_remark v0 v1 v2 v3 h) (wJ_mStreams_remark v0 v1 v2 v3 h) h id (f_mStreams_remark v0 v1 v2 v3 h) := by
  unfold f_mStreams_remark
  refine fe_it fe_no ?_
  refine fe_it ?_ fe_no
  refine fe_v (fun y3 => ?_)
  refine fe_it fe_no ?_
  refine fe_it ?_ fe_no
  refine fe_it ?_ ?_
  · exact fe_j Fe.rf (fe_mStreams_remark_b26 _ _ _ _ _ _ _ _ _ _) (fun x k hx => by simp only [wI_mStreams_remark_b26] at hx; rcases hx with e | e | e | e <;> first | exact Or.inl (e) | exact Or.inr (Or.inl (e)) | exact Or.inr (Or.inr (e))) (fun x k hx => False.elim hx)
  · exact fe_j Fe.rf (fe_mStreams_remark_b26 _ _ _ _ _ _ _ _ _ _) (fun x k hx => by simp only [wI_mStreams_remark_b26] at hx; rcases hx with e | e | e | e <;> first | exact Or.inl (e) | exact Or.inr (Or.inl (e)) | exact Or.inr (Or.inr (e))) (fun x k hx => False.elim hx)
def wI_mStreams_goneStream_b84 (v0 : Nat) (v1 : Int) (v2 : Int) (v4 : Int) (v5 : Int) (v7 : Int) (v8 : Int) (v9 : Int) (v10 : Int) (h : Hp) (x k : Nat) : Prop := x = (hR h v0 15) ∨ x = (hR h v0 25) ∨ x = (hR h v0 26) ∨ x = hR h v0 38 ∨ x = hR h v0 42 ∨ x = hR h v0 6 ∨ x = hR h v0 7
def wJ_mStreams_goneStream_b84 (v0 : Nat) (v1 : Int) (v2 : Int) (v4 : Int) (v5 : Int) (v7 : Int) (v8 : Int) (v9 : Int) (v10 : Int) (h : Hp) (x k : Nat) : Prop := False
def wI_mStreams_goneStream_b81 (v0 : Nat) (v1 : Int) (v2 : Int) (v4 : Int) (v5 : Int) (v7 : Int) (v8 : Int) (v9 : Int) (v10 : Int) (s0 : Nat) (s1 : Int) (s2 : Int) (s3 : Int) (h : Hp) (x k : Nat) : Prop := x = (hR h s0 25) ∨ x = (hR h s0 26) ∨ x = (hR h v0 15) ∨ x = (hR h v0 25) ∨ x = (hR h v0 26) ∨ x = hR h s0 42 ∨ x = hR h v0 38 ∨ x = hR h v0 42 ∨ x = hR h v0 6 ∨ x = hR h v0 7
def wJ_mStreams_goneStream_b81 (v0 : Nat) (v1 : Int) (v2 : Int) (v4 : Int) (v5 : Int) (v7 : Int) (v8 : Int) (v9 : Int) (v10 : Int) (s0 : Nat) (s1 : Int) (s2 : Int) (s3 : Int) (h : Hp) (x k : Nat) : Prop := False
def wI_mStreams_goneStream_b134 (v0 : Nat) (v1 : Int) (v2 : Int) (h : Hp) (x k : Nat) : Prop := x = hR h v0 38 ∨ x = hR h v0 6 ∨ x = hR h v0 7
def wJ_mStreams_goneStream_b134 (v0 : Nat) (v1 : Int) (v2 : Int) (h : Hp) (x k : Nat) : Prop := False
def wI_mStreams_goneStream_b133 (v0 : Nat) (v1 : Int) (v2 : Int) (s0 : Nat) (s1 : Int) (s2 : Int) (h : Hp) (x k : Nat) : Prop := x = hR h v0 38 ∨ x = hR h v0 6 ∨ x = hR h v0 7 ∨ x = s0
def wJ_mStreams_goneStream_b133 (v0 : Nat) (v1 : Int) (v2 : Int) (s0 : Nat) (s1 : Int) (s2 : Int) (h : Hp) (x k : Nat) : Prop := False
def wI_mStreams_goneStream_b48 (v0 : Nat) (v1 : Int) (v2 : Int) (v4 : Int) (v5 : Int) (v7 : Int) (v8 : Int) (v9 : Int) (v10 : Int) (h : Hp) (x k : Nat) : Prop := x = (hR h v0 15) ∨ x = (hR h v0 25) ∨ x = (hR h v0 26) ∨ x = hR h v0 38 ∨ x = hR h v0 42 ∨ x = hR h v0 6 ∨ x = hR h v0 7
def wJ_mStreams_goneStream_b48 (v0 : Nat) (v1 : Int) (v2 : Int) (v4 : Int) (v5 : Int) (v7 : Int) (v8 : Int) (v9 : Int) (v10 : Int) (h : Hp) (x k : Nat) : Prop := False
def wI_mStreams_goneStream_b45 (v0 : Nat) (v1 : Int) (v2 : Int) (v4 : Int) (v5 : Int) (v7 : Int) (v8 : Int) (v9 : Int) (h : Hp) (x k : Nat) : Prop := x = (hR h v0 15) ∨ x = (hR h v0 25) ∨ x = (hR h v0 26) ∨ x = hR h v0 38 ∨ x = hR h v0 42 ∨ x = hR h v0 6 ∨ x = hR h v0 7
def wJ_mStreams_goneStream_b45 (v0 : Nat) (v1 : Int) (v2 : Int) (v4 : Int) (v5 : Int) (v7 : Int) (v8 : Int) (v9 : Int) (h : Hp) (x k : Nat) : Prop := False
def wI_mStreams_goneStream_b19 (v0 : Nat) (v1 : Int) (v2 : Int) (v3 : Int) (v4 : Int) (v5 : Int) (v7 : Int) (v8 : Int) (v9 : Int) (v10 : Int) (h : Hp) (x k : Nat) : Prop := x = (hR h v0 15) ∨ x = (hR h v0 25) ∨ x = (hR h v0 26) ∨ x = hR h v0 38 ∨ x = hR h v0 42 ∨ x = hR h v0 6 ∨ x = hR h v0 7
def wJ_mStreams_goneStream_b19 (v0 : Nat) (v1 : Int) (v2 : Int) (v3 : Int) (v4 : Int) (v5 : Int) (v7 : Int) (v8 : Int) (v9 : Int) (v10 : Int) (h : Hp) (x k : Nat) : Prop := False
def wI_mStreams_goneStream (v0 : Nat) (v1 : Int) (v2 : Int) (v3 : Int) (v4 : Int) (v5 : Int) (v7 : Int) (h : Hp) (x k : Nat) : Prop := x = (hR h v0 15) ∨ x = (hR h v0 25) ∨ x = (hR h v0 26) ∨ x = hR h v0 38 ∨ x = hR h v0 42 ∨ x = hR h v0 6 ∨ x = hR h v0 7
def wJ_mStreams_goneStream (v0 : Nat) (v1 : Int) (v2 : Int) (v3 : Int) (v4 : Int) (v5 : Int) (v7 : Int) (h : Hp) (x k : Nat) : Prop := False
theorem fe_mStreams_goneStream_b84 {k48 : Nat → Int → Int → Int → Int → Int → Int → Int → Int → Hp → Option (Hp)} (hk48 : ∀ (v0 : Nat) (v1 : Int) (v2 : Int) (v4 : Int) (v5 : Int) (v7 : Int) (v8 : Int) (v9 : Int) (v10 : Int) (h : Hp), Feo (wI_mStreams_goneStream_b48 v0 v1 v2 v4 v5 v7 v8 v9 v10 h) (wJ_mStreams_goneStream_b48 v0 v1 v2 v4 v5 v7 v8 v9 v10 h) h id (k48 v0 v1 v2 v4 v5 v7 v8 v9 v10 h)) (v0 : Nat) (v1 : Int) (v2 : Int) (v4 : Int) (v5 : Int) (v7 : Int) (v8 : Int) (v9 : Int) (v10 : Int) (h : Hp) : Feo (wI_mStreams_goneStream_b84 v0 v1 v2 v4 v5 v7 v8 v9 v10 h) (wJ_mStreams_goneStream_b84 v0 v1 v2 v4 v5 v7 v8 v9 v10 h) h id (f_mStreams_goneStream_b84 k48 v0 v1 v2 v4 v5 v7 v8 v9 v10 h) := by
  unfold f_mStreams_goneStream_b84
  refine fe_it fe_no ?_
  refine fe_it ?_ fe_no
  refine fe_v (fun y21 => ?_)
  exact fe_j Fe.rf (hk48 _ _ _ _ _ _ _ _ _ _) (fun x k hx => by simp only [wI_mStreams_goneStream_b48] at hx; rcases hx with e | e | e | e | e | e | e <;> first | exact Or.inl (e) | exact Or.inr (Or.inl (e)) | exact Or.inr (Or.inr (Or.inl (e))) | exact Or.inr (Or.inr (Or.inr (Or.inl (e)))) | exact Or.inr (Or.inr (Or.inr (Or.inr (Or.inl (e))))) | exact Or.inr (Or.inr (Or.inr (Or.inr (Or.inr (Or.inl (e)))))) | exact Or.inr (Or.inr (Or.inr (Or.inr (Or.inr (Or.inr (e))))))) (fun x k hx => False.elim hx)
theorem fe_mStreams_goneStream_b81 {k48 : Nat → Int → Int → Int → Int → Int → Int → Int → Int → Hp → Option (Hp)} (hk48 : ∀ (v0 : Nat) (v1 : Int) (v2 : Int) (v4 : Int) (v5 : Int) (v7 : Int) (v8 : Int) (v9 : Int) (v10 : Int) (h : Hp), Feo (wI_mStreams_goneStream_b48 v0 v1 v2 v4 v5 v7 v8 v9 v10 h) (wJ_mStreams_goneStream_b48 v0 v1 v2 v4 v5 v7 v8 v9 v10 h) h id (k48 v0 v1 v2 v4 v5 v7 v8 v9 v10 h)) (v0 : Nat) (v1 : Int) (v2 : Int) (v4 : Int) (v5 : Int) (v7 : Int) (v8 : Int) (v9 : Int) (v10 : Int) (s0 : Nat) (s1 : Int) (s2 : Int) (s3 : Int) (h : Hp) : Feo (wI_mStreams_goneStream_b81 v0 v1 v2 v4 v5 v7 v8 v9 v10 s0 s1 s2 s3 h) (wJ_mStreams_goneStream_b81 v0 v1 v2 v4 v5 v7 v8 v9 v10 s0 s1 s2 s3 h) h id (f_mStreams_goneStream_b81 k48 v0 v1 v2 v4 v5 v7 v8 v9 v10 s0 s1 s2 s3 h) := by
  unfold f_mStreams_goneStream_b81
  refine fe_it fe_no ?_
  refine fe_b1 Fe.rf (fe_mStreams_remark _ _ _ _ _) (fun x k hx => by simp only [wI_mStreams_remark] at hx; rcases hx with e | e | e <;> first | exact Or.inl (e) | exact Or.inr (Or.inl (e)) | exact Or.inr (Or.inr (Or.inr (Or.inr (Or.inr (Or.inl (e))))))) (fun x k hx => False.elim hx) (fun h23 F1 => ?_)
  exact fe_j F1 (fe_mStreams_goneStream_b84 hk48 _ _ _ _ _ _ _ _ _ _) (fun x k hx => by simp only [wI_mStreams_goneStream_b84, F1.r] at hx; rcases hx with e | e | e | e | e | e | e <;> first | exact Or.inr (Or.inr (Or.inl (e))) | exact Or.inr (Or.inr (Or.inr (Or.inl (e)))) | exact Or.inr (Or.inr (Or.inr (Or.inr (Or.inl (e))))) | exact Or.inr (Or.inr (Or.inr (Or.inr (Or.inr (Or.inr (Or.inl (e))))))) | exact Or.inr (Or.inr (Or.inr (Or.inr (Or.inr (Or.inr (Or.inr (Or.inl (e)))))))) | exact Or.inr (Or.inr (Or.inr (Or.inr (Or.inr (Or.inr (Or.inr (Or.inr (Or.inl (e))))))))) | exact Or.inr (Or.inr (Or.inr (Or.inr (Or.inr (Or.inr (Or.inr (Or.inr (Or.inr (e)))))))))) (fun x k hx => False.elim hx)
theorem fe_mStreams_goneStream_b134 (v0 : Nat) (v1 : Int) (v2 : Int) (h : Hp) : Feo (wI_mStreams_goneStream_b134 v0 v1 v2 h) (wJ_mStreams_goneStream_b134 v0 v1 v2 h) h id (f_mStreams_goneStream_b134 v0 v1 v2 h) := by
  unfold f_mStreams_goneStream_b134
  refine fe_b1 Fe.rf (fe_mStreams_looksOver _ _ _ _) (fun x k hx => by simp only [wI_mStreams_looksOver] at hx; rcases hx with e | e | e <;> first | exact Or.inl (e) | exact Or.inr (Or.inl (e)) | exact Or.inr (Or.inr (e))) (fun x k hx => False.elim hx) (fun h14 F1 => ?_)
  exact fe_so F1
theorem fe_mStreams_goneStream_b133 (v0 : Nat) (v1 : Int) (v2 : Int) (s0 : Nat) (s1 : Int) (s2 : Int) (h : Hp) : Feo (wI_mStreams_goneStream_b133 v0 v1 v2 s0 s1 s2 h) (wJ_mStreams_goneStream_b133 v0 v1 v2 s0 s1 s2 h) h id (f_mStreams_goneStream_b133 v0 v1 v2 s0 s1 s2 h) := by
  unfold f_mStreams_goneStream_b133
  refine fe_it fe_no ?_
  refine fe_it ?_ fe_no
  refine fe_I Fe.rf (Or.inr (Or.inr (Or.inr (rfl)))) (fun h18 F1 => ?_)
  exact fe_j F1 (fe_mStreams_goneStream_b134 _ _ _ _) (fun x k hx => by simp only [wI_mStreams_goneStream_b134, F1.r] at hx; rcases hx with e | e | e <;> first | exact Or.inl (e) | exact Or.inr (Or.inl (e)) | exact Or.inr (Or.inr (Or.inl (e)))) (fun x k hx => False.elim hx)
theorem fe_mStreams_goneStream_b48 {k48 : Nat → Int → Int → Int → Int → Int → Int → Int → Int → Hp → Option (Hp)} (hk48 : ∀ (v0 : Nat) (v1 : Int) (v2 : Int) (v4 : Int) (v5 : Int) (v7 : Int) (v8 : Int) (v9 : Int) (v10 : Int) (h : Hp), Feo (wI_mStreams_goneStream_b48 v0 v1 v2 v4 v5 v7 v8 v9 v10 h) (wJ_mStreams_goneStream_b48 v0 v1 v2 v4 v5 v7 v8 v9 v10 h) h id (k48 v0 v1 v2 v4 v5 v7 v8 v9 v10 h)) (v0 : Nat) (v1 : Int) (v2 : Int) (v4 : Int) (v5 : Int) (v7 : Int) (v8 : Int) (v9 : Int) (v10 : Int) (h : Hp) : Feo (wI_mStreams_goneStream_b48 v0 v1 v2 v4 v5 v7 v8 v9 v10 h) (wJ_mStreams_goneStream_b48 v0 v1 v2 v4 v5 v7 v8 v9 v10 h) h id (f_mStreams_goneStream_b48 k48 v0 v1 v2 v4 v5 v7 v8 v9 v10 h) := by
  unfold f_mStreams_goneStream_b48
  refine fe_it ?_ ?_
  · refine fe_it ?_ ?_
    · exact fe_j Fe.rf (fe_mStreams_goneStream_b134 _ _ _ _) (fun x k hx => by simp only [wI_mStreams_goneStream_b134] at hx; rcases hx with e | e | e <;> first | exact Or.inr (Or.inr (Or.inr (Or.inl (e)))) | exact Or.inr (Or.inr (Or.inr (Or.inr (Or.inr (Or.inl (e)))))) | exact Or.inr (Or.inr (Or.inr (Or.inr (Or.inr (Or.inr (e))))))) (fun x k hx => False.elim hx)
    · refine fe_it fe_no ?_
      refine fe_it ?_ fe_no
      refine fe_it ?_ ?_
      · exact fe_j Fe.rf (fe_mStreams_goneStream_b134 _ _ _ _) (fun x k hx => by simp only [wI_mStreams_goneStream_b134] at hx; rcases hx with e | e | e <;> first | exact Or.inr (Or.inr (Or.inr (Or.inl (e)))) | exact Or.inr (Or.inr (Or.inr (Or.inr (Or.inr (Or.inl (e)))))) | exact Or.inr (Or.inr (Or.inr (Or.inr (Or.inr (Or.inr (e))))))) (fun x k hx => False.elim hx)
      · refine fe_it ?_ ?_
        · exact fe_j Fe.rf (fe_mStreams_goneStream_b133 _ _ _ _ _ _ _) (fun x k hx => by simp only [wI_mStreams_goneStream_b133] at hx; rcases hx with e | e | e | e <;> first | exact Or.inl (e) | exact Or.inr (Or.inr (Or.inr (Or.inl (e)))) | exact Or.inr (Or.inr (Or.inr (Or.inr (Or.inr (Or.inl (e)))))) | exact Or.inr (Or.inr (Or.inr (Or.inr (Or.inr (Or.inr (e))))))) (fun x k hx => False.elim hx)
        · exact fe_j Fe.rf (fe_mStreams_goneStream_b133 _ _ _ _ _ _ _) (fun x k hx => by simp only [wI_mStreams_goneStream_b133] at hx; rcases hx with e | e | e | e <;> first | exact Or.inl (e) | exact Or.inr (Or.inr (Or.inr (Or.inl (e)))) | exact Or.inr (Or.inr (Or.inr (Or.inr (Or.inr (Or.inl (e)))))) | exact Or.inr (Or.inr (Or.inr (Or.inr (Or.inr (Or.inr (e))))))) (fun x k hx => False.elim hx)
  · refine fe_it fe_no ?_
    refine fe_it ?_ fe_no
    refine fe_it ?_ ?_
    · exact fe_j Fe.rf (fe_mStreams_goneStream_b84 hk48 _ _ _ _ _ _ _ _ _ _) (fun x k hx => by simp only [wI_mStreams_goneStream_b84] at hx; rcases hx with e | e | e | e | e | e | e <;> first | exact Or.inl (e) | exact Or.inr (Or.inl (e)) | exact Or.inr (Or.inr (Or.inl (e))) | exact Or.inr (Or.inr (Or.inr (Or.inl (e)))) | exact Or.inr (Or.inr (Or.inr (Or.inr (Or.inl (e))))) | exact Or.inr (Or.inr (Or.inr (Or.inr (Or.inr (Or.inl (e)))))) | exact Or.inr (Or.inr (Or.inr (Or.inr (Or.inr (Or.inr (e))))))) (fun x k hx => False.elim hx)
    · refine fe_it ?_ ?_
      · exact fe_j Fe.rf (fe_mStreams_goneStream_b81 hk48 _ _ _ _ _ _ _ _ _ _ _ _ _ _) (fun x k hx => by simp only [wI_mStreams_goneStream_b81] at hx; rcases hx with e | e | e | e | e | e | e | e | e | e <;> first | exact Or.inl (e) | exact Or.inr (Or.inl (e)) | exact Or.inr (Or.inr (Or.inl (e))) | exact Or.inr (Or.inr (Or.inr (Or.inl (e)))) | exact Or.inr (Or.inr (Or.inr (Or.inr (Or.inl (e))))) | exact Or.inr (Or.inr (Or.inr (Or.inr (Or.inr (Or.inl (e)))))) | exact Or.inr (Or.inr (Or.inr (Or.inr (Or.inr (Or.inr (e))))))) (fun x k hx => False.elim hx)
      · exact fe_j Fe.rf (fe_mStreams_goneStream_b81 hk48 _ _ _ _ _ _ _ _ _ _ _ _ _ _) (fun x k hx => by simp only [wI_mStreams_goneStream_b81] at hx; rcases hx with e | e | e | e | e | e | e | e | e | e <;> first | exact Or.inl (e) | exact Or.inr (Or.inl (e)) | exact Or.inr (Or.inr (Or.inl (e))) | exact Or.inr (Or.inr (Or.inr (Or.inl (e)))) | exact Or.inr (Or.inr (Or.inr (Or.inr (Or.inl (e))))) | exact Or.inr (Or.inr (Or.inr (Or.inr (Or.inr (Or.inl (e)))))) | exact Or.inr (Or.inr (Or.inr (Or.inr (Or.inr (Or.inr (e))))))) (fun x k hx => False.elim hx)
theorem fe_mStreams_goneStream_b48_lp (n : Nat) : ∀ (v0 : Nat) (v1 : Int) (v2 : Int) (v4 : Int) (v5 : Int) (v7 : Int) (v8 : Int) (v9 : Int) (v10 : Int) (h : Hp), Feo (wI_mStreams_goneStream_b48 v0 v1 v2 v4 v5 v7 v8 v9 v10 h) (wJ_mStreams_goneStream_b48 v0 v1 v2 v4 v5 v7 v8 v9 v10 h) h id (f_mStreams_goneStream_b48_lp n v0 v1 v2 v4 v5 v7 v8 v9 v10 h) := by
  induction n with
  | zero => intro v0 v1 v2 v4 v5 v7 v8 v9 v10 h; exact fe_no
  | succ n ih => intro v0 v1 v2 v4 v5 v7 v8 v9 v10 h; exact fe_mStreams_goneStream_b48 ih v0 v1 v2 v4 v5 v7 v8 v9 v10 h
theorem fe_mStreams_goneStream_b45 (v0 : Nat) (v1 : Int) (v2 : Int) (v4 : Int) (v5 : Int) (v7 : Int) (v8 : Int) (v9 : Int) (h : Hp) : Feo (wI_mStreams_goneStream_b45 v0 v1 v2 v4 v5 v7 v8 v9 h) (wJ_mStreams_goneStream_b45 v0 v1 v2 v4 v5 v7 v8 v9 h) h id (f_mStreams_goneStream_b45 v0 v1 v2 v4 v5 v7 v8 v9 h) := by
  unfold f_mStreams_goneStream_b45
  exact fe_j Fe.rf (fe_mStreams_goneStream_b48_lp FU _ _ _ _ _ _ _ _ _ _) (fun x k hx => by simp only [wI_mStreams_goneStream_b48] at hx; rcases hx with e | e | e | e | e | e | e <;> first | exact Or.inl (e) | exact Or.inr (Or.inl (e)) | exact Or.inr (Or.inr (Or.inl (e))) | exact Or.inr (Or.inr (Or.inr (Or.inl (e)))) | exact Or.inr (Or.inr (Or.inr (Or.inr (Or.inl (e))))) | exact Or.inr (Or.inr (Or.inr (Or.inr (Or.inr (Or.inl (e)))))) | exact Or.inr (Or.inr (Or.inr (Or.inr (Or.inr (Or.inr (e))))))) (fun x k hx => False.elim hx)
theorem fe_mStreams_goneStream_b19 {k19 : Nat → Int → Int → Int → Int → Int → Int → Int → Int → Int → Hp → Option (Hp)} (hk19 : ∀ (v0 : Nat) (v1 : Int) (v2 : Int) (v3 : Int) (v4 : Int) (v5 : Int) (v7 : Int) (v8 : Int) (v9 : Int) (v10 : Int) (h : Hp), Feo (wI_mStreams_goneStream_b19 v0 v1 v2 v3 v4 v5 v7 v8 v9 v10 h) (wJ_mStreams_goneStream_b19 v0 v1 v2 v3 v4 v5 v7 v8 v9 v10 h) h id (k19 v0 v1 v2 v3 v4 v5 v7 v8 v9 v10 h)) (v0 : Nat) (v1 : Int) (v2 : Int) (v3 : Int) (v4 : Int) (v5 : Int) (v7 : Int) (v8 : Int) (v9 : Int) (v10 : Int) (h : Hp) : Feo (wI_mStreams_goneStream_b19 v0 v1 v2 v3 v4 v5 v7 v8 v9 v10 h) (wJ_mStreams_goneStream_b19 v0 v1 v2 v3 v4 v5 v7 v8 v9 v10 h) h id (f_mStreams_goneStream_b19 k19 v0 v1 v2 v3 v4 v5 v7 v8 v9 v10 h) := by
  unfold f_mStreams_goneStream_b19
  refine fe_it ?_ ?_
  · exact fe_j Fe.rf (fe_mStreams_goneStream_b45 _ _ _ _ _ _ _ _ _) (fun x k hx => by simp only [wI_mStreams_goneStream_b45] at hx; rcases hx with e | e | e | e | e | e | e <;> first | exact Or.inl (e) | exact Or.inr (Or.inl (e)) | exact Or.inr (Or.inr (Or.inl (e))) | exact Or.inr (Or.inr (Or.inr (Or.inl (e)))) | exact Or.inr (Or.inr (Or.inr (Or.inr (Or.inl (e))))) | exact Or.inr (Or.inr (Or.inr (Or.inr (Or.inr (Or.inl (e)))))) | exact Or.inr (Or.inr (Or.inr (Or.inr (Or.inr (Or.inr (e))))))) (fun x k hx => False.elim hx)
  · refine fe_it ?_ ?_
    · exact fe_j Fe.rf (fe_mStreams_goneStream_b45 _ _ _ _ _ _ _ _ _) (fun x k hx => by simp only [wI_mStreams_goneStream_b45] at hx; rcases hx with e | e | e | e | e | e | e <;> first | exact Or.inl (e) | exact Or.inr (Or.inl (e)) | exact Or.inr (Or.inr (Or.inl (e))) | exact Or.inr (Or.inr (Or.inr (Or.inl (e)))) | exact Or.inr (Or.inr (Or.inr (Or.inr (Or.inl (e))))) | exact Or.inr (Or.inr (Or.inr (Or.inr (Or.inr (Or.inl (e)))))) | exact Or.inr (Or.inr (Or.inr (Or.inr (Or.inr (Or.inr (e))))))) (fun x k hx => False.elim hx)
    · refine fe_it fe_no ?_
      refine fe_it ?_ fe_no
      refine fe_v (fun y9 => ?_)
      exact fe_j Fe.rf (hk19 _ _ _ _ _ _ _ _ _ _ _) (fun x k hx => by simp only [wI_mStreams_goneStream_b19] at hx; rcases hx with e | e | e | e | e | e | e <;> first | exact Or.inl (e) | exact Or.inr (Or.inl (e)) | exact Or.inr (Or.inr (Or.inl (e))) | exact Or.inr (Or.inr (Or.inr (Or.inl (e)))) | exact Or.inr (Or.inr (Or.inr (Or.inr (Or.inl (e))))) | exact Or.inr (Or.inr (Or.inr (Or.inr (Or.inr (Or.inl (e)))))) | exact Or.inr (Or.inr (Or.inr (Or.inr (Or.inr (Or.inr (e))))))) (fun x k hx => False.elim hx)
theorem fe_mStreams_goneStream_b19_lp (n : Nat) : ∀ (v0 : Nat) (v1 : Int) (v2 : Int) (v3 : Int) (v4 : Int) (v5 : Int) (v7 : Int) (v8 : Int) (v9 : Int) (v10 : Int) (h : Hp), Feo (wI_mStreams_goneStream_b19 v0 v1 v2 v3 v4 v5 v7 v8 v9 v10 h) (wJ_mStreams_goneStream_b19 v0 v1 v2 v3 v4 v5 v7 v8 v9 v10 h) h id (f_mStreams_goneStream_b19_lp n v0 v1 v2 v3 v4 v5 v7 v8 v9 v10 h) := by
  induction n with
  | zero => intro v0 v1 v2 v3 v4 v5 v7 v8 v9 v10 h; exact fe_no
  | succ n ih => intro v0 v1 v2 v3 v4 v5 v7 v8 v9 v10 h; exact fe_mStreams_goneStream_b19 ih v0 v1 v2 v3 v4 v5 v7 v8 v9 v10 h
theorem fe_mStreams_goneStream (v0 : Nat) (v1 : Int) (v2 : Int) (v3 : Int) (v4 : Int) (v5 : Int) (v7 : Int) (h : Hp) : Feo (wI_mStreams_goneStream v0 v1 v2 v3 v4 v5 v7 h) (wJ_mStreams_goneStream v0 v1 v2 v3 v4 v5 v7 h) h id (f_mStreams_goneStream v0 v1 v2 v3 v4 v5 v7 h) := by
  unfold f_mStreams_goneStream
  refine fe_b2 Fe.rf (fe_mStreams_at _ _ _) (fun x k hx => False.elim hx) (fun x k hx => False.elim hx) (fun r3 h1 F1 => ?_)
  refine fe_it fe_no ?_
  refine fe_it ?_ fe_no
  refine fe_v (fun y6 => ?_)
  exact fe_j F1 (fe_mStreams_goneStream_b19_lp FU _ _ _ _ _ _ _ _ _ _ _) (fun x k hx => by simp only [wI_mStreams_goneStream_b19, F1.r] at hx; rcases hx with e | e | e | e | e | e | e <;> first | exact Or.inl (e) | exact Or.inr (Or.inl (e)) | exact Or.inr (Or.inr (Or.inl (e))) | exact Or.inr (Or.inr (Or.inr (Or.inl (e)))) | exact Or.inr (Or.inr (Or.inr (Or.inr (Or.inl (e))))) | exact Or.inr (Or.inr (Or.inr (Or.inr (Or.inr (Or.inl (e)))))) | exact Or.inr (Or.inr (Or.inr (Or.inr (Or.inr (Or.inr (e))))))) (fun x k hx => False.elim hx)
def wI_mStreams_gone_b361 (v0 : Nat) (v1 : Int) (v2 : Int) (v3 : Int) (v10 : Int) (h : Hp) (x k : Nat) : Prop := False
def wJ_mStreams_gone_b361 (v0 : Nat) (v1 : Int) (v2 : Int) (v3 : Int) (v10 : Int) (h : Hp) (x k : Nat) : Prop := x = hR h v0 3
def wI_mStreams_gone_b178 (v0 : Nat) (v1 : Int) (v3 : Int) (h : Hp) (x k : Nat) : Prop := x = hR h v0 38 ∨ x = hR h v0 6 ∨ x = hR h v0 7
def wJ_mStreams_gone_b178 (v0 : Nat) (v1 : Int) (v3 : Int) (h : Hp) (x k : Nat) : Prop := False
def wI_mStreams_gone_b154 (v0 : Nat) (v1 : Int) (v3 : Int) (v10 : Int) (v11 : Int) (h : Hp) (x k : Nat) : Prop := x = hR h v0 17 ∨ x = hR h v0 38 ∨ x = hR h v0 6 ∨ x = hR h v0 7
def wJ_mStreams_gone_b154 (v0 : Nat) (v1 : Int) (v3 : Int) (v10 : Int) (v11 : Int) (h : Hp) (x k : Nat) : Prop := False
def wI_mStreams_gone_b259 (v0 : Nat) (v1 : Int) (v2 : Int) (v3 : Int) (v10 : Int) (h : Hp) (x k : Nat) : Prop := x = hR h v0 7
def wJ_mStreams_gone_b259 (v0 : Nat) (v1 : Int) (v2 : Int) (v3 : Int) (v10 : Int) (h : Hp) (x k : Nat) : Prop := False
def wI_mStreams_gone_b15 (v0 : Nat) (v1 : Int) (v2 : Int) (v3 : Int) (v5 : Int) (v7 : Int) (v8 : Int) (v10 : Int) (s0 : Int) (s1 : Int) (h : Hp) (x k : Nat) : Prop := x = (hR h v0 15) ∨ x = (hR h v0 25) ∨ x = (hR h v0 26) ∨ x = hR h v0 10 ∨ x = hR h v0 16 ∨ x = hR h v0 17 ∨ x = hR h v0 34 ∨ x = hR h v0 36 ∨ x = hR h v0 38 ∨ x = hR h v0 42 ∨ x = hR h v0 6 ∨ x = hR h v0 7
def wJ_mStreams_gone_b15 (v0 : Nat) (v1 : Int) (v2 : Int) (v3 : Int) (v5 : Int) (v7 : Int) (v8 : Int) (v10 : Int) (s0 : Int) (s1 : Int) (h : Hp) (x k : Nat) : Prop := x = hR h v0 19 ∨ x = hR h v0 3
def wI_mStreams_gone (v0 : Nat) (v1 : Int) (v2 : Int) (v3 : Int) (v5 : Int) (v7 : Int) (v8 : Int) (v10 : Int) (h : Hp) (x k : Nat) : Prop := x = (hR h v0 15) ∨ x = (hR h v0 25) ∨ x = (hR h v0 26) ∨ x = hR h v0 10 ∨ x = hR h v0 16 ∨ x = hR h v0 17 ∨ x = hR h v0 34 ∨ x = hR h v0 36 ∨ x = hR h v0 38 ∨ x = hR h v0 42 ∨ x = hR h v0 6 ∨ x = hR h v0 7
def wJ_mStreams_gone (v0 : Nat) (v1 : Int) (v2 : Int) (v3 : Int) (v5 : Int) (v7 : Int) (v8 : Int) (v10 : Int) (h : Hp) (x k : Nat) : Prop := x = hR h v0 19 ∨ x = hR h v0 3
theorem fe_mStreams_gone_b361 (v0 : Nat) (v1 : Int) (v2 : Int) (v3 : Int) (v10 : Int) (h : Hp) : Feo (wI_mStreams_gone_b361 v0 v1 v2 v3 v10 h) (wJ_mStreams_gone_b361 v0 v1 v2 v3 v10 h) h id (f_mStreams_gone_b361 v0 v1 v2 v3 v10 h) := by
  unfold f_mStreams_gone_b361
  refine fe_v (fun y80 => ?_)
  refine fe_it ?_ ?_
  · exact fe_so Fe.rf
  · refine fe_it fe_no ?_
    refine fe_it ?_ fe_no
    refine fe_it ?_ ?_
    · exact fe_so Fe.rf
    · refine fe_it ?_ fe_no
      refine fe_J Fe.rf (rfl) (fun h84 F1 => ?_)
      exact fe_so F1
theorem fe_mStreams_gone_b178 (v0 : Nat) (v1 : Int) (v3 : Int) (h : Hp) : Feo (wI_mStreams_gone_b178 v0 v1 v3 h) (wJ_mStreams_gone_b178 v0 v1 v3 h) h id (f_mStreams_gone_b178 v0 v1 v3 h) := by
  unfold f_mStreams_gone_b178
  refine fe_b1 Fe.rf (fe_mStreams_looksOver _ _ _ _) (fun x k hx => by simp only [wI_mStreams_looksOver] at hx; rcases hx with e | e | e <;> first | exact Or.inl (e) | exact Or.inr (Or.inl (e)) | exact Or.inr (Or.inr (e))) (fun x k hx => False.elim hx) (fun h78 F1 => ?_)
  exact fe_so F1
theorem fe_mStreams_gone_b154 (v0 : Nat) (v1 : Int) (v3 : Int) (v10 : Int) (v11 : Int) (h : Hp) : Feo (wI_mStreams_gone_b154 v0 v1 v3 v10 v11 h) (wJ_mStreams_gone_b154 v0 v1 v3 v10 v11 h) h id (f_mStreams_gone_b154 v0 v1 v3 v10 v11 h) := by
  unfold f_mStreams_gone_b154
  refine fe_it ?_ ?_
  · exact fe_j Fe.rf (fe_mStreams_gone_b178 _ _ _ _) (fun x k hx => by simp only [wI_mStreams_gone_b178] at hx; rcases hx with e | e | e <;> first | exact Or.inr (Or.inl (e)) | exact Or.inr (Or.inr (Or.inl (e))) | exact Or.inr (Or.inr (Or.inr (e)))) (fun x k hx => False.elim hx)
  · refine fe_it fe_no ?_
    refine fe_it ?_ fe_no
    refine fe_it ?_ ?_
    · exact fe_j Fe.rf (fe_mStreams_gone_b178 _ _ _ _) (fun x k hx => by simp only [wI_mStreams_gone_b178] at hx; rcases hx with e | e | e <;> first | exact Or.inr (Or.inl (e)) | exact Or.inr (Or.inr (Or.inl (e))) | exact Or.inr (Or.inr (Or.inr (e)))) (fun x k hx => False.elim hx)
    · refine fe_it fe_no ?_
      refine fe_it ?_ fe_no
      refine fe_I Fe.rf (Or.inl (rfl)) (fun h77 F1 => ?_)
      exact fe_j F1 (fe_mStreams_gone_b178 _ _ _ _) (fun x k hx => by simp only [wI_mStreams_gone_b178, F1.r] at hx; rcases hx with e | e | e <;> first | exact Or.inr (Or.inl (e)) | exact Or.inr (Or.inr (Or.inl (e))) | exact Or.inr (Or.inr (Or.inr (e)))) (fun x k hx => False.elim hx)
theorem fe_mStreams_gone_b259 (v0 : Nat) (v1 : Int) (v2 : Int) (v3 : Int) (v10 : Int) (h : Hp) : Feo (wI_mStreams_gone_b259 v0 v1 v2 v3 v10 h) (wJ_mStreams_gone_b259 v0 v1 v2 v3 v10 h) h id (f_mStreams_gone_b259 v0 v1 v2 v3 v10 h) := by
  unfold f_mStreams_gone_b259
  refine fe_v (fun y67 => ?_)
  refine fe_it ?_ ?_
  · exact fe_so Fe.rf
  · refine fe_it fe_no ?_
    refine fe_it ?_ fe_no
    refine fe_it ?_ ?_
    · exact fe_so Fe.rf
    · refine fe_it fe_no ?_
      refine fe_it ?_ fe_no
      refine fe_I Fe.rf (rfl) (fun h72 F1 => ?_)
      exact fe_so F1
theorem fe_mStreams_gone_b15 (v0 : Nat) (v1 : Int) (v2 : Int) (v3 : Int) (v5 : Int) (v7 : Int) (v8 : Int) (v10 : Int) (s0 : Int) (s1 : Int) (h : Hp) : Feo (wI_mStreams_gone_b15 v0 v1 v2 v3 v5 v7 v8 v10 s0 s1 h) (wJ_mStreams_gone_b15 v0 v1 v2 v3 v5 v7 v8 v10 s0 s1 h) h id (f_mStreams_gone_b15 v0 v1 v2 v3 v5 v7 v8 v10 s0 s1 h) := by
  unfold f_mStreams_gone_b15
  refine fe_b2 Fe.rf (fe_mStreams_at _ _ _) (fun x k hx => False.elim hx) (fun x k hx => False.elim hx) (fun r3 h1 F1 => ?_)
  refine fe_it ?_ ?_
  · refine fe_it ?_ ?_
    · exact fe_j F1 (fe_mStreams_gone_b154 _ _ _ _ _ _) (fun x k hx => by simp only [wI_mStreams_gone_b154, F1.r] at hx; rcases hx with e | e | e | e <;> first | exact Or.inr (Or.inr (Or.inr (Or.inr (Or.inr (Or.inl (e)))))) | exact Or.inr (Or.inr (Or.inr (Or.inr (Or.inr (Or.inr (Or.inr (Or.inr (Or.inl (e))))))))) | exact Or.inr (Or.inr (Or.inr (Or.inr (Or.inr (Or.inr (Or.inr (Or.inr (Or.inr (Or.inr (Or.inl (e))))))))))) | exact Or.inr (Or.inr (Or.inr (Or.inr (Or.inr (Or.inr (Or.inr (Or.inr (Or.inr (Or.inr (Or.inr (e)))))))))))) (fun x k hx => False.elim hx)
    · refine fe_it fe_no ?_
      refine fe_it ?_ fe_no
      refine fe_it ?_ ?_
      · exact fe_j F1 (fe_mStreams_gone_b154 _ _ _ _ _ _) (fun x k hx => by simp only [wI_mStreams_gone_b154, F1.r] at hx; rcases hx with e | e | e | e <;> first | exact Or.inr (Or.inr (Or.inr (Or.inr (Or.inr (Or.inl (e)))))) | exact Or.inr (Or.inr (Or.inr (Or.inr (Or.inr (Or.inr (Or.inr (Or.inr (Or.inl (e))))))))) | exact Or.inr (Or.inr (Or.inr (Or.inr (Or.inr (Or.inr (Or.inr (Or.inr (Or.inr (Or.inr (Or.inl (e))))))))))) | exact Or.inr (Or.inr (Or.inr (Or.inr (Or.inr (Or.inr (Or.inr (Or.inr (Or.inr (Or.inr (Or.inr (e)))))))))))) (fun x k hx => False.elim hx)
      · refine fe_it ?_ fe_no
        refine fe_I F1 (Or.inr (Or.inr (Or.inr (Or.inr (Or.inl ((by first | (simp only [F1.r]; exact rfl) | simp only [F1.r]))))))) (fun h9 F2 => ?_)
        exact fe_j F2 (fe_mStreams_gone_b178 _ _ _ _) (fun x k hx => by simp only [wI_mStreams_gone_b178, F1.r, F2.r] at hx; rcases hx with e | e | e <;> first | exact Or.inr (Or.inr (Or.inr (Or.inr (Or.inr (Or.inr (Or.inr (Or.inr (Or.inl (e))))))))) | exact Or.inr (Or.inr (Or.inr (Or.inr (Or.inr (Or.inr (Or.inr (Or.inr (Or.inr (Or.inr (Or.inl (e))))))))))) | exact Or.inr (Or.inr (Or.inr (Or.inr (Or.inr (Or.inr (Or.inr (Or.inr (Or.inr (Or.inr (Or.inr (e)))))))))))) (fun x k hx => False.elim hx)
  · refine fe_it ?_ ?_
    · refine fe_it ?_ ?_
      · exact fe_so F1
      · refine fe_it fe_no ?_
        refine fe_it ?_ fe_no
        refine fe_I F1 (Or.inr (Or.inr (Or.inr (Or.inr (Or.inr (Or.inr (Or.inr (Or.inl ((by first | (simp only [F1.r]; exact rfl) | simp only [F1.r])))))))))) (fun h14 F3 => ?_)
        exact fe_so F3
    · refine fe_it ?_ ?_
      · exact fe_j F1 (fe_mStreams_gone_b361 _ _ _ _ _ _) (fun x k hx => False.elim hx) (fun x k hx => by simp only [wJ_mStreams_gone_b361, F1.r] at hx; have e := hx; exact Or.inr (e))
      · refine fe_it ?_ ?_
        · exact fe_j F1 (fe_mStreams_gone_b361 _ _ _ _ _ _) (fun x k hx => False.elim hx) (fun x k hx => by simp only [wJ_mStreams_gone_b361, F1.r] at hx; have e := hx; exact Or.inr (e))
        · refine fe_it ?_ ?_
          · refine fe_b1 F1 (fe_mStreams_goneStream _ _ _ _ _ _ _ _) (fun x k hx => by simp only [wI_mStreams_goneStream, F1.r] at hx; rcases hx with e | e | e | e | e | e | e <;> first | exact Or.inl (e) | exact Or.inr (Or.inl (e)) | exact Or.inr (Or.inr (Or.inl (e))) | exact Or.inr (Or.inr (Or.inr (Or.inr (Or.inr (Or.inr (Or.inr (Or.inr (Or.inl (e))))))))) | exact Or.inr (Or.inr (Or.inr (Or.inr (Or.inr (Or.inr (Or.inr (Or.inr (Or.inr (Or.inl (e)))))))))) | exact Or.inr (Or.inr (Or.inr (Or.inr (Or.inr (Or.inr (Or.inr (Or.inr (Or.inr (Or.inr (Or.inl (e))))))))))) | exact Or.inr (Or.inr (Or.inr (Or.inr (Or.inr (Or.inr (Or.inr (Or.inr (Or.inr (Or.inr (Or.inr (e)))))))))))) (fun x k hx => False.elim hx) (fun h21 F4 => ?_)
            exact fe_so F4
          · refine fe_it ?_ ?_
            · exact fe_j F1 (fe_mStreams_gone_b361 _ _ _ _ _ _) (fun x k hx => False.elim hx) (fun x k hx => by simp only [wJ_mStreams_gone_b361, F1.r] at hx; have e := hx; exact Or.inr (e))
            · refine fe_it ?_ ?_
              · exact fe_j F1 (fe_mStreams_gone_b361 _ _ _ _ _ _) (fun x k hx => False.elim hx) (fun x k hx => by simp only [wJ_mStreams_gone_b361, F1.r] at hx; have e := hx; exact Or.inr (e))
              · refine fe_it ?_ ?_
                · exact fe_j F1 (fe_mStreams_gone_b361 _ _ _ _ _ _) (fun x k hx => False.elim hx) (fun x k hx => by simp only [wJ_mStreams_gone_b361, F1.r] at hx; have e := hx; exact Or.inr (e))
                · refine fe_it ?_ ?_
                  · exact fe_j F1 (fe_mStreams_gone_b361 _ _ _ _ _ _) (fun x k hx => False.elim hx) (fun x k hx => by simp only [wJ_mStreams_gone_b361, F1.r] at hx; have e := hx; exact Or.inr (e))
                  · refine fe_it ?_ ?_
                    · exact fe_j F1 (fe_mStreams_gone_b361 _ _ _ _ _ _) (fun x k hx => False.elim hx) (fun x k hx => by simp only [wJ_mStreams_gone_b361, F1.r] at hx; have e := hx; exact Or.inr (e))
                    · refine fe_it ?_ ?_
                      · exact fe_j F1 (fe_mStreams_gone_b361 _ _ _ _ _ _) (fun x k hx => False.elim hx) (fun x k hx => by simp only [wJ_mStreams_gone_b361, F1.r] at hx; have e := hx; exact Or.inr (e))
                      · refine fe_it ?_ ?_
                        · exact fe_j F1 (fe_mStreams_gone_b361 _ _ _ _ _ _) (fun x k hx => False.elim hx) (fun x k hx => by simp only [wJ_mStreams_gone_b361, F1.r] at hx; have e := hx; exact Or.inr (e))
                        · refine fe_it ?_ ?_
                          · refine fe_it ?_ ?_
                            · exact fe_so F1
                            · refine fe_it fe_no ?_
                              refine fe_it ?_ fe_no
                              refine fe_it ?_ ?_
                              · exact fe_so F1
                              · refine fe_it fe_no ?_
                                refine fe_it ?_ fe_no
                                refine fe_I F1 (Or.inr (Or.inr (Or.inr (Or.inl ((by first | (simp only [F1.r]; exact rfl) | simp only [F1.r])))))) (fun h43 F5 => ?_)
                                exact fe_so F5
                          · refine fe_it ?_ ?_
                            · refine fe_it ?_ ?_
                              · exact fe_so F1
                              · refine fe_it fe_no ?_
                                refine fe_it ?_ fe_no
                                refine fe_it ?_ ?_
                                · exact fe_so F1
                                · refine fe_it fe_no ?_
                                  refine fe_it ?_ fe_no
                                  refine fe_I F1 (Or.inr (Or.inr (Or.inr (Or.inr (Or.inr (Or.inr (Or.inl ((by first | (simp only [F1.r]; exact rfl) | simp only [F1.r]))))))))) (fun h50 F6 => ?_)
                                  exact fe_so F6
                            · refine fe_it ?_ ?_
                              · exact fe_j F1 (fe_mStreams_gone_b259 _ _ _ _ _ _) (fun x k hx => by simp only [wI_mStreams_gone_b259, F1.r] at hx; have e := hx; exact Or.inr (Or.inr (Or.inr (Or.inr (Or.inr (Or.inr (Or.inr (Or.inr (Or.inr (Or.inr (Or.inr (e)))))))))))) (fun x k hx => False.elim hx)
                              · refine fe_it ?_ ?_
                                · exact fe_j F1 (fe_mStreams_gone_b259 _ _ _ _ _ _) (fun x k hx => by simp only [wI_mStreams_gone_b259, F1.r] at hx; have e := hx; exact Or.inr (Or.inr (Or.inr (Or.inr (Or.inr (Or.inr (Or.inr (Or.inr (Or.inr (Or.inr (Or.inr (e)))))))))))) (fun x k hx => False.elim hx)
                                · refine fe_it ?_ ?_
                                  · refine fe_it ?_ ?_
                                    · exact fe_so F1
                                    · refine fe_it fe_no ?_
                                      refine fe_it ?_ fe_no
                                      refine fe_it ?_ ?_
                                      · exact fe_so F1
                                      · refine fe_it ?_ fe_no
                                        refine fe_J F1 (Or.inr ((by first | (simp only [F1.r]; exact rfl) | simp only [F1.r]))) (fun h60 F7 => ?_)
                                        exact fe_so F7
                                  · refine fe_it ?_ ?_
                                    · refine fe_it ?_ ?_
                                      · exact fe_so F1
                                      · refine fe_it fe_no ?_
                                        refine fe_it ?_ fe_no
                                        refine fe_it ?_ ?_
                                        · exact fe_so F1
                                        · refine fe_it ?_ fe_no
                                          refine fe_J F1 (Or.inl ((by first | (simp only [F1.r]; exact rfl) | simp only [F1.r]))) (fun h66 F8 => ?_)
                                          exact fe_so F8
                                    · exact fe_j F1 (fe_mStreams_gone_b361 _ _ _ _ _ _) (fun x k hx => False.elim hx) (fun x k hx => by simp only [wJ_mStreams_gone_b361, F1.r] at hx; have e := hx; exact Or.inr (e))
theorem fe_mStreams_gone (v0 : Nat) (v1 : Int) (v2 : Int) (v3 : Int) (v5 : Int) (v7 : Int) (v8 : Int) (v10 : Int) (h : Hp) : Feo (wI_mStreams_gone v0 v1 v2 v3 v5 v7 v8 v10 h) (wJ_mStreams_gone v0 v1 v2 v3 v5 v7 v8 v10 h) h id (f_mStreams_gone v0 v1 v2 v3 v5 v7 v8 v10 h) := by
  unfold f_mStreams_gone
  refine fe_it ?_ ?_
  · exact fe_j Fe.rf (fe_mStreams_gone_b15 _ _ _ _ _ _ _ _ _ _ _) (fun x k hx => by simp only [wI_mStreams_gone_b15] at hx; rcases hx with e | e | e | e | e | e | e | e | e | e | e | e <;> first | exact Or.inl (e) | exact Or.inr (Or.inl (e)) | exact Or.inr (Or.inr (Or.inl (e))) | exact Or.inr (Or.inr (Or.inr (Or.inl (e)))) | exact Or.inr (Or.inr (Or.inr (Or.inr (Or.inl (e))))) | exact Or.inr (Or.inr (Or.inr (Or.inr (Or.inr (Or.inl (e)))))) | exact Or.inr (Or.inr (Or.inr (Or.inr (Or.inr (Or.inr (Or.inl (e))))))) | exact Or.inr (Or.inr (Or.inr (Or.inr (Or.inr (Or.inr (Or.inr (Or.inl (e)))))))) | exact Or.inr (Or.inr (Or.inr (Or.inr (Or.inr (Or.inr (Or.inr (Or.inr (Or.inl (e))))))))) | exact Or.inr (Or.inr (Or.inr (Or.inr (Or.inr (Or.inr (Or.inr (Or.inr (Or.inr (Or.inl (e)))))))))) | exact Or.inr (Or.inr (Or.inr (Or.inr (Or.inr (Or.inr (Or.inr (Or.inr (Or.inr (Or.inr (Or.inl (e))))))))))) | exact Or.inr (Or.inr (Or.inr (Or.inr (Or.inr (Or.inr (Or.inr (Or.inr (Or.inr (Or.inr (Or.inr (e)))))))))))) (fun x k hx => by simp only [wJ_mStreams_gone_b15] at hx; rcases hx with e | e <;> first | exact Or.inl (e) | exact Or.inr (e))
  · exact fe_j Fe.rf (fe_mStreams_gone_b15 _ _ _ _ _ _ _ _ _ _ _) (fun x k hx => by simp only [wI_mStreams_gone_b15] at hx; rcases hx with e | e | e | e | e | e | e | e | e | e | e | e <;> first | exact Or.inl (e) | exact Or.inr (Or.inl (e)) | exact Or.inr (Or.inr (Or.inl (e))) | exact Or.inr (Or.inr (Or.inr (Or.inl (e)))) | exact Or.inr (Or.inr (Or.inr (Or.inr (Or.inl (e))))) | exact Or.inr (Or.inr (Or.inr (Or.inr (Or.inr (Or.inl (e)))))) | exact Or.inr (Or.inr (Or.inr (Or.inr (Or.inr (Or.inr (Or.inl (e))))))) | exact Or.inr (Or.inr (Or.inr (Or.inr (Or.inr (Or.inr (Or.inr (Or.inl (e)))))))) | exact Or.inr (Or.inr (Or.inr (Or.inr (Or.inr (Or.inr (Or.inr (Or.inr (Or.inl (e))))))))) | exact Or.inr (Or.inr (Or.inr (Or.inr (Or.inr (Or.inr (Or.inr (Or.inr (Or.inr (Or.inl (e)))))))))) | exact Or.inr (Or.inr (Or.inr (Or.inr (Or.inr (Or.inr (Or.inr (Or.inr (Or.inr (Or.inr (Or.inl (e))))))))))) | exact Or.inr (Or.inr (Or.inr (Or.inr (Or.inr (Or.inr (Or.inr (Or.inr (Or.inr (Or.inr (Or.inr (e)))))))))))) (fun x k hx => by simp only [wJ_mStreams_gone_b15] at hx; rcases hx with e | e <;> first | exact Or.inl (e) | exact Or.inr (e))
def wI_mSide_tellPacket_b194 (v0 : Nat) (v1 : Int) (v3 : Int) (v4 : Nat) (v5 : Int) (v6 : Int) (h : Hp) (x k : Nat) : Prop := x = (hR h (hR h v0 2) 15) ∨ x = (hR h (hR h v0 2) 25) ∨ x = (hR h (hR h v0 2) 26) ∨ x = hR h (hR h v0 2) 10 ∨ x = hR h (hR h v0 2) 16 ∨ x = hR h (hR h v0 2) 17 ∨ x = hR h (hR h v0 2) 34 ∨ x = hR h (hR h v0 2) 36 ∨ x = hR h (hR h v0 2) 38 ∨ x = hR h (hR h v0 2) 42 ∨ x = hR h (hR h v0 2) 6 ∨ x = hR h (hR h v0 2) 7 ∨ x = hR h v0 28 ∨ (x = v0 ∧ k = 30) ∨ (x = v0 ∧ k = 31)
def wJ_mSide_tellPacket_b194 (v0 : Nat) (v1 : Int) (v3 : Int) (v4 : Nat) (v5 : Int) (v6 : Int) (h : Hp) (x k : Nat) : Prop := x = hR h (hR h v0 2) 19 ∨ x = hR h (hR h v0 2) 3
def wI_mSide_tellPacket_b61 (v0 : Nat) (v1 : Int) (v3 : Int) (v4 : Nat) (v5 : Int) (v6 : Int) (h : Hp) (x k : Nat) : Prop := x = (hR h (hR h v0 2) 15) ∨ x = (hR h (hR h v0 2) 25) ∨ x = (hR h (hR h v0 2) 26) ∨ x = hR h (hR h v0 2) 10 ∨ x = hR h (hR h v0 2) 16 ∨ x = hR h (hR h v0 2) 17 ∨ x = hR h (hR h v0 2) 34 ∨ x = hR h (hR h v0 2) 36 ∨ x = hR h (hR h v0 2) 38 ∨ x = hR h (hR h v0 2) 42 ∨ x = hR h (hR h v0 2) 6 ∨ x = hR h (hR h v0 2) 7 ∨ x = hR h v0 28 ∨ (x = v0 ∧ k = 30) ∨ (x = v0 ∧ k = 31)
def wJ_mSide_tellPacket_b61 (v0 : Nat) (v1 : Int) (v3 : Int) (v4 : Nat) (v5 : Int) (v6 : Int) (h : Hp) (x k : Nat) : Prop := x = hR h (hR h v0 2) 19 ∨ x = hR h (hR h v0 2) 3
def wI_mSide_tellPacket_b45 (v0 : Nat) (v1 : Int) (v2 : Int) (v3 : Int) (v4 : Nat) (s0 : Int) (h : Hp) (x k : Nat) : Prop := x = (hR h (hR h v0 2) 15) ∨ x = (hR h (hR h v0 2) 25) ∨ x = (hR h (hR h v0 2) 26) ∨ x = hR h (hR h v0 2) 10 ∨ x = hR h (hR h v0 2) 16 ∨ x = hR h (hR h v0 2) 17 ∨ x = hR h (hR h v0 2) 34 ∨ x = hR h (hR h v0 2) 36 ∨ x = hR h (hR h v0 2) 38 ∨ x = hR h (hR h v0 2) 42 ∨ x = hR h (hR h v0 2) 6 ∨ x = hR h (hR h v0 2) 7 ∨ x = hR h v0 28 ∨ (x = v0 ∧ k = 30) ∨ (x = v0 ∧ k = 31)
def wJ_mSide_tellPacket_b45 (v0 : Nat) (v1 : Int) (v2 : Int) (v3 : Int) (v4 : Nat) (s0 : Int) (h : Hp) (x k : Nat) : Prop := x = hR h (hR h v0 2) 19 ∨ x = hR h (hR h v0 2) 3
def wI_mSide_tellPacket (v0 : Nat) (v1 : Int) (v2 : Int) (v3 : Int) (h : Hp) (x k : Nat) : Prop := x = (hR h (hR h v0 2) 15) ∨ x = (hR h (hR h v0 2) 25) ∨ x = (hR h (hR h v0 2) 26) ∨ x = hR h (hR h v0 2) 10 ∨ x = hR h (hR h v0 2) 16 ∨ x = hR h (hR h v0 2) 17 ∨ x = hR h (hR h v0 2) 34 ∨ x = hR h (hR h v0 2) 36 ∨ x = hR h (hR h v0 2) 38 ∨ x = hR h (hR h v0 2) 42 ∨ x = hR h (hR h v0 2) 6 ∨ x = hR h (hR h v0 2) 7 ∨ x = hR h v0 28 ∨ (x = v0 ∧ k = 30) ∨ (x = v0 ∧ k = 31)
def wJ_mSide_tellPacket (v0 : Nat) (v1 : Int) (v2 : Int) (v3 : Int) (h : Hp) (x k : Nat) : Prop := x = hR h (hR h v0 2) 19 ∨ x = hR h (hR h v0 2) 3
theorem fe_mSide_tellPacket_b194 {k61 : Nat → Int → Int → Nat → Int → Int → Hp → Option (Hp)} (hk61 : ∀ (v0 : Nat) (v1 : Int) (v3 : Int) (v4 : Nat) (v5 : Int) (v6 : Int) (h : Hp), Feo (wI_mSide_tellPacket_b61 v0 v1 v3 v4 v5 v6 h) (wJ_mSide_tellPacket_b61 v0 v1 v3 v4 v5 v6 h) h id (k61 v0 v1 v3 v4 v5 v6 h)) (v0 : Nat) (v1 : Int) (v3 : Int) (v4 : Nat) (v5 : Int) (v6 : Int) (h : Hp) : Feo (wI_mSide_tellPacket_b194 v0 v1 v3 v4 v5 v6 h) (wJ_mSide_tellPacket_b194 v0 v1 v3 v4 v5 v6 h) h id (f_mSide_tellPacket_b194 k61 v0 v1 v3 v4 v5 v6 h) := by
  unfold f_mSide_tellPacket_b194
  exact fe_j Fe.rf (hk61 _ _ _ _ _ _ _) (fun x k hx => by simp only [wI_mSide_tellPacket_b61] at hx; rcases hx with e | e | e | e | e | e | e | e | e | e | e | e | e | e | e <;> first | exact Or.inl (e) | exact Or.inr (Or.inl (e)) | exact Or.inr (Or.inr (Or.inl (e))) | exact Or.inr (Or.inr (Or.inr (Or.inl (e)))) | exact Or.inr (Or.inr (Or.inr (Or.inr (Or.inl (e))))) | exact Or.inr (Or.inr (Or.inr (Or.inr (Or.inr (Or.inl (e)))))) | exact Or.inr (Or.inr (Or.inr (Or.inr (Or.inr (Or.inr (Or.inl (e))))))) | exact Or.inr (Or.inr (Or.inr (Or.inr (Or.inr (Or.inr (Or.inr (Or.inl (e)))))))) | exact Or.inr (Or.inr (Or.inr (Or.inr (Or.inr (Or.inr (Or.inr (Or.inr (Or.inl (e))))))))) | exact Or.inr (Or.inr (Or.inr (Or.inr (Or.inr (Or.inr (Or.inr (Or.inr (Or.inr (Or.inl (e)))))))))) | exact Or.inr (Or.inr (Or.inr (Or.inr (Or.inr (Or.inr (Or.inr (Or.inr (Or.inr (Or.inr (Or.inl (e))))))))))) | exact Or.inr (Or.inr (Or.inr (Or.inr (Or.inr (Or.inr (Or.inr (Or.inr (Or.inr (Or.inr (Or.inr (Or.inl (e)))))))))))) | exact Or.inr (Or.inr (Or.inr (Or.inr (Or.inr (Or.inr (Or.inr (Or.inr (Or.inr (Or.inr (Or.inr (Or.inr (Or.inl (e))))))))))))) | exact Or.inr (Or.inr (Or.inr (Or.inr (Or.inr (Or.inr (Or.inr (Or.inr (Or.inr (Or.inr (Or.inr (Or.inr (Or.inr (Or.inl (e)))))))))))))) | exact Or.inr (Or.inr (Or.inr (Or.inr (Or.inr (Or.inr (Or.inr (Or.inr (Or.inr (Or.inr (Or.inr (Or.inr (Or.inr (Or.inr (e))))))))))))))) (fun x k hx => by simp only [wJ_mSide_tellPacket_b61] at hx; rcases hx with e | e <;> first | exact Or.inl (e) | exact Or.inr (e))
theorem fe_mSide_tellPacket_b61 {k61 : Nat → Int → Int → Nat → Int → Int → Hp → Option (Hp)} (hk61 : ∀ (v0 : Nat) (v1 : Int) (v3 : Int) (v4 : Nat) (v5 : Int) (v6 : Int) (h : Hp), Feo (wI_mSide_tellPacket_b61 v0 v1 v3 v4 v5 v6 h) (wJ_mSide_tellPacket_b61 v0 v1 v3 v4 v5 v6 h) h id (k61 v0 v1 v3 v4 v5 v6 h)) (v0 : Nat) (v1 : Int) (v3 : Int) (v4 : Nat) (v5 : Int) (v6 : Int) (h : Hp) : Feo (wI_mSide_tellPacket_b61 v0 v1 v3 v4 v5 v6 h) (wJ_mSide_tellPacket_b61 v0 v1 v3 v4 v5 v6 h) h id (f_mSide_tellPacket_b61 k61 v0 v1 v3 v4 v5 v6 h) := by
  unfold f_mSide_tellPacket_b61
  refine fe_it ?_ ?_
  · exact fe_so Fe.rf
  · refine fe_it fe_no ?_
    refine fe_it fe_no ?_
    refine fe_it ?_ fe_no
    refine fe_it ?_ ?_
    · refine fe_it ?_ fe_no
      refine fe_it ?_ ?_
      · refine fe_it ?_ fe_no
        refine fe_it ?_ ?_
        · exact fe_j Fe.rf (fe_mSide_tellPacket_b194 hk61 _ _ _ _ _ _ _) (fun x k hx => by simp only [wI_mSide_tellPacket_b194] at hx; rcases hx with e | e | e | e | e | e | e | e | e | e | e | e | e | e | e <;> first | exact Or.inl (e) | exact Or.inr (Or.inl (e)) | exact Or.inr (Or.inr (Or.inl (e))) | exact Or.inr (Or.inr (Or.inr (Or.inl (e)))) | exact Or.inr (Or.inr (Or.inr (Or.inr (Or.inl (e))))) | exact Or.inr (Or.inr (Or.inr (Or.inr (Or.inr (Or.inl (e)))))) | exact Or.inr (Or.inr (Or.inr (Or.inr (Or.inr (Or.inr (Or.inl (e))))))) | exact Or.inr (Or.inr (Or.inr (Or.inr (Or.inr (Or.inr (Or.inr (Or.inl (e)))))))) | exact Or.inr (Or.inr (Or.inr (Or.inr (Or.inr (Or.inr (Or.inr (Or.inr (Or.inl (e))))))))) | exact Or.inr (Or.inr (Or.inr (Or.inr (Or.inr (Or.inr (Or.inr (Or.inr (Or.inr (Or.inl (e)))))))))) | exact Or.inr (Or.inr (Or.inr (Or.inr (Or.inr (Or.inr (Or.inr (Or.inr (Or.inr (Or.inr (Or.inl (e))))))))))) | exact Or.inr (Or.inr (Or.inr (Or.inr (Or.inr (Or.inr (Or.inr (Or.inr (Or.inr (Or.inr (Or.inr (Or.inl (e)))))))))))) | exact Or.inr (Or.inr (Or.inr (Or.inr (Or.inr (Or.inr (Or.inr (Or.inr (Or.inr (Or.inr (Or.inr (Or.inr (Or.inl (e))))))))))))) | exact Or.inr (Or.inr (Or.inr (Or.inr (Or.inr (Or.inr (Or.inr (Or.inr (Or.inr (Or.inr (Or.inr (Or.inr (Or.inr (Or.inl (e)))))))))))))) | exact Or.inr (Or.inr (Or.inr (Or.inr (Or.inr (Or.inr (Or.inr (Or.inr (Or.inr (Or.inr (Or.inr (Or.inr (Or.inr (Or.inr (e))))))))))))))) (fun x k hx => by simp only [wJ_mSide_tellPacket_b194] at hx; rcases hx with e | e <;> first | exact Or.inl (e) | exact Or.inr (e))
        · refine fe_it ?_ fe_no
          refine fe_it fe_no ?_
          refine fe_it ?_ fe_no
          refine fe_it fe_no ?_
          refine fe_it ?_ fe_no
          refine fe_it fe_no ?_
          refine fe_it ?_ fe_no
          refine fe_it fe_no ?_
          refine fe_it ?_ fe_no
          refine fe_it fe_no ?_
          refine fe_b1 Fe.rf (fe_mStreams_gone _ _ _ _ _ _ _ _ _) (fun x k hx => by simp only [wI_mStreams_gone] at hx; rcases hx with e | e | e | e | e | e | e | e | e | e | e | e <;> first | exact Or.inl (e) | exact Or.inr (Or.inl (e)) | exact Or.inr (Or.inr (Or.inl (e))) | exact Or.inr (Or.inr (Or.inr (Or.inl (e)))) | exact Or.inr (Or.inr (Or.inr (Or.inr (Or.inl (e))))) | exact Or.inr (Or.inr (Or.inr (Or.inr (Or.inr (Or.inl (e)))))) | exact Or.inr (Or.inr (Or.inr (Or.inr (Or.inr (Or.inr (Or.inl (e))))))) | exact Or.inr (Or.inr (Or.inr (Or.inr (Or.inr (Or.inr (Or.inr (Or.inl (e)))))))) | exact Or.inr (Or.inr (Or.inr (Or.inr (Or.inr (Or.inr (Or.inr (Or.inr (Or.inl (e))))))))) | exact Or.inr (Or.inr (Or.inr (Or.inr (Or.inr (Or.inr (Or.inr (Or.inr (Or.inr (Or.inl (e)))))))))) | exact Or.inr (Or.inr (Or.inr (Or.inr (Or.inr (Or.inr (Or.inr (Or.inr (Or.inr (Or.inr (Or.inl (e))))))))))) | exact Or.inr (Or.inr (Or.inr (Or.inr (Or.inr (Or.inr (Or.inr (Or.inr (Or.inr (Or.inr (Or.inr (Or.inl (e))))))))))))) (fun x k hx => by simp only [wJ_mStreams_gone] at hx; rcases hx with e | e <;> first | exact Or.inl (e) | exact Or.inr (e)) (fun h28 F1 => ?_)
          exact fe_j F1 (fe_mSide_tellPacket_b194 hk61 _ _ _ _ _ _ _) (fun x k hx => by simp only [wI_mSide_tellPacket_b194, F1.r] at hx; rcases hx with e | e | e | e | e | e | e | e | e | e | e | e | e | e | e <;> first | exact Or.inl (e) | exact Or.inr (Or.inl (e)) | exact Or.inr (Or.inr (Or.inl (e))) | exact Or.inr (Or.inr (Or.inr (Or.inl (e)))) | exact Or.inr (Or.inr (Or.inr (Or.inr (Or.inl (e))))) | exact Or.inr (Or.inr (Or.inr (Or.inr (Or.inr (Or.inl (e)))))) | exact Or.inr (Or.inr (Or.inr (Or.inr (Or.inr (Or.inr (Or.inl (e))))))) | exact Or.inr (Or.inr (Or.inr (Or.inr (Or.inr (Or.inr (Or.inr (Or.inl (e)))))))) | exact Or.inr (Or.inr (Or.inr (Or.inr (Or.inr (Or.inr (Or.inr (Or.inr (Or.inl (e))))))))) | exact Or.inr (Or.inr (Or.inr (Or.inr (Or.inr (Or.inr (Or.inr (Or.inr (Or.inr (Or.inl (e)))))))))) | exact Or.inr (Or.inr (Or.inr (Or.inr (Or.inr (Or.inr (Or.inr (Or.inr (Or.inr (Or.inr (Or.inl (e))))))))))) | exact Or.inr (Or.inr (Or.inr (Or.inr (Or.inr (Or.inr (Or.inr (Or.inr (Or.inr (Or.inr (Or.inr (Or.inl (e)))))))))))) | exact Or.inr (Or.inr (Or.inr (Or.inr (Or.inr (Or.inr (Or.inr (Or.inr (Or.inr (Or.inr (Or.inr (Or.inr (Or.inl (e))))))))))))) | exact Or.inr (Or.inr (Or.inr (Or.inr (Or.inr (Or.inr (Or.inr (Or.inr (Or.inr (Or.inr (Or.inr (Or.inr (Or.inr (Or.inl (e)))))))))))))) | exact Or.inr (Or.inr (Or.inr (Or.inr (Or.inr (Or.inr (Or.inr (Or.inr (Or.inr (Or.inr (Or.inr (Or.inr (Or.inr (Or.inr (e))))))))))))))) (fun x k hx => by simp only [wJ_mSide_tellPacket_b194, F1.r] at hx; rcases hx with e | e <;> first | exact Or.inl (e) | exact Or.inr (e))
      · refine fe_b1 Fe.rf (fe_mSide_tellDone _ _ _) (fun x k hx => by simp only [wI_mSide_tellDone] at hx; rcases hx with e | e <;> first | exact Or.inr (Or.inr (Or.inr (Or.inr (Or.inr (Or.inr (Or.inr (Or.inr (Or.inr (Or.inr (Or.inr (Or.inr (Or.inr (Or.inl (e)))))))))))))) | exact Or.inr (Or.inr (Or.inr (Or.inr (Or.inr (Or.inr (Or.inr (Or.inr (Or.inr (Or.inr (Or.inr (Or.inr (Or.inr (Or.inr (e))))))))))))))) (fun x k hx => False.elim hx) (fun h30 F2 => ?_)
        exact fe_j F2 (fe_mSide_tellPacket_b194 hk61 _ _ _ _ _ _ _) (fun x k hx => by simp only [wI_mSide_tellPacket_b194, F2.r] at hx; rcases hx with e | e | e | e | e | e | e | e | e | e | e | e | e | e | e <;> first | exact Or.inl (e) | exact Or.inr (Or.inl (e)) | exact Or.inr (Or.inr (Or.inl (e))) | exact Or.inr (Or.inr (Or.inr (Or.inl (e)))) | exact Or.inr (Or.inr (Or.inr (Or.inr (Or.inl (e))))) | exact Or.inr (Or.inr (Or.inr (Or.inr (Or.inr (Or.inl (e)))))) | exact Or.inr (Or.inr (Or.inr (Or.inr (Or.inr (Or.inr (Or.inl (e))))))) | exact Or.inr (Or.inr (Or.inr (Or.inr (Or.inr (Or.inr (Or.inr (Or.inl (e)))))))) | exact Or.inr (Or.inr (Or.inr (Or.inr (Or.inr (Or.inr (Or.inr (Or.inr (Or.inl (e))))))))) | exact Or.inr (Or.inr (Or.inr (Or.inr (Or.inr (Or.inr (Or.inr (Or.inr (Or.inr (Or.inl (e)))))))))) | exact Or.inr (Or.inr (Or.inr (Or.inr (Or.inr (Or.inr (Or.inr (Or.inr (Or.inr (Or.inr (Or.inl (e))))))))))) | exact Or.inr (Or.inr (Or.inr (Or.inr (Or.inr (Or.inr (Or.inr (Or.inr (Or.inr (Or.inr (Or.inr (Or.inl (e)))))))))))) | exact Or.inr (Or.inr (Or.inr (Or.inr (Or.inr (Or.inr (Or.inr (Or.inr (Or.inr (Or.inr (Or.inr (Or.inr (Or.inl (e))))))))))))) | exact Or.inr (Or.inr (Or.inr (Or.inr (Or.inr (Or.inr (Or.inr (Or.inr (Or.inr (Or.inr (Or.inr (Or.inr (Or.inr (Or.inl (e)))))))))))))) | exact Or.inr (Or.inr (Or.inr (Or.inr (Or.inr (Or.inr (Or.inr (Or.inr (Or.inr (Or.inr (Or.inr (Or.inr (Or.inr (Or.inr (e))))))))))))))) (fun x k hx => by simp only [wJ_mSide_tellPacket_b194, F2.r] at hx; rcases hx with e | e <;> first | exact Or.inl (e) | exact Or.inr (e))
    · refine fe_it fe_no ?_
      refine fe_it ?_ fe_no
      refine fe_it fe_no ?_
      refine fe_it ?_ fe_no
      refine fe_b1 Fe.rf (fe_mSide_tellCrypto _ _ _ _ _ _) (fun x k hx => by simp only [wI_mSide_tellCrypto] at hx; have e := hx; exact Or.inr (Or.inr (Or.inr (Or.inr (Or.inr (Or.inr (Or.inr (Or.inr (Or.inr (Or.inr (Or.inr (Or.inr (Or.inl (e)))))))))))))) (fun x k hx => False.elim hx) (fun h36 F3 => ?_)
      exact fe_j F3 (fe_mSide_tellPacket_b194 hk61 _ _ _ _ _ _ _) (fun x k hx => by simp only [wI_mSide_tellPacket_b194, F3.r] at hx; rcases hx with e | e | e | e | e | e | e | e | e | e | e | e | e | e | e <;> first | exact Or.inl (e) | exact Or.inr (Or.inl (e)) | exact Or.inr (Or.inr (Or.inl (e))) | exact Or.inr (Or.inr (Or.inr (Or.inl (e)))) | exact Or.inr (Or.inr (Or.inr (Or.inr (Or.inl (e))))) | exact Or.inr (Or.inr (Or.inr (Or.inr (Or.inr (Or.inl (e)))))) | exact Or.inr (Or.inr (Or.inr (Or.inr (Or.inr (Or.inr (Or.inl (e))))))) | exact Or.inr (Or.inr (Or.inr (Or.inr (Or.inr (Or.inr (Or.inr (Or.inl (e)))))))) | exact Or.inr (Or.inr (Or.inr (Or.inr (Or.inr (Or.inr (Or.inr (Or.inr (Or.inl (e))))))))) | exact Or.inr (Or.inr (Or.inr (Or.inr (Or.inr (Or.inr (Or.inr (Or.inr (Or.inr (Or.inl (e)))))))))) | exact Or.inr (Or.inr (Or.inr (Or.inr (Or.inr (Or.inr (Or.inr (Or.inr (Or.inr (Or.inr (Or.inl (e))))))))))) | exact Or.inr (Or.inr (Or.inr (Or.inr (Or.inr (Or.inr (Or.inr (Or.inr (Or.inr (Or.inr (Or.inr (Or.inl (e)))))))))))) | exact Or.inr (Or.inr (Or.inr (Or.inr (Or.inr (Or.inr (Or.inr (Or.inr (Or.inr (Or.inr (Or.inr (Or.inr (Or.inl (e))))))))))))) | exact Or.inr (Or.inr (Or.inr (Or.inr (Or.inr (Or.inr (Or.inr (Or.inr (Or.inr (Or.inr (Or.inr (Or.inr (Or.inr (Or.inl (e)))))))))))))) | exact Or.inr (Or.inr (Or.inr (Or.inr (Or.inr (Or.inr (Or.inr (Or.inr (Or.inr (Or.inr (Or.inr (Or.inr (Or.inr (Or.inr (e))))))))))))))) (fun x k hx => by simp only [wJ_mSide_tellPacket_b194, F3.r] at hx; rcases hx with e | e <;> first | exact Or.inl (e) | exact Or.inr (e))
theorem fe_mSide_tellPacket_b61_lp (n : Nat) : ∀ (v0 : Nat) (v1 : Int) (v3 : Int) (v4 : Nat) (v5 : Int) (v6 : Int) (h : Hp), Feo (wI_mSide_tellPacket_b61 v0 v1 v3 v4 v5 v6 h) (wJ_mSide_tellPacket_b61 v0 v1 v3 v4 v5 v6 h) h id (f_mSide_tellPacket_b61_lp n v0 v1 v3 v4 v5 v6 h) := by
  induction n with
  | zero => intro v0 v1 v3 v4 v5 v6 h; exact fe_no
  | succ n ih => intro v0 v1 v3 v4 v5 v6 h; exact fe_mSide_tellPacket_b61 ih v0 v1 v3 v4 v5 v6 h
theorem fe_mSide_tellPacket_b45 (v0 : Nat) (v1 : Int) (v2 : Int) (v3 : Int) (v4 : Nat) (s0 : Int) (h : Hp) : Feo (wI_mSide_tellPacket_b45 v0 v1 v2 v3 v4 s0 h) (wJ_mSide_tellPacket_b45 v0 v1 v2 v3 v4 s0 h) h id (f_mSide_tellPacket_b45 v0 v1 v2 v3 v4 s0 h) := by
  unfold f_mSide_tellPacket_b45
  refine fe_it fe_no ?_
  refine fe_it ?_ fe_no
  refine fe_v (fun y12 => ?_)
  exact fe_j Fe.rf (fe_mSide_tellPacket_b61_lp FU _ _ _ _ _ _ _) (fun x k hx => by simp only [wI_mSide_tellPacket_b61] at hx; rcases hx with e | e | e | e | e | e | e | e | e | e | e | e | e | e | e <;> first | exact Or.inl (e) | exact Or.inr (Or.inl (e)) | exact Or.inr (Or.inr (Or.inl (e))) | exact Or.inr (Or.inr (Or.inr (Or.inl (e)))) | exact Or.inr (Or.inr (Or.inr (Or.inr (Or.inl (e))))) | exact Or.inr (Or.inr (Or.inr (Or.inr (Or.inr (Or.inl (e)))))) | exact Or.inr (Or.inr (Or.inr (Or.inr (Or.inr (Or.inr (Or.inl (e))))))) | exact Or.inr (Or.inr (Or.inr (Or.inr (Or.inr (Or.inr (Or.inr (Or.inl (e)))))))) | exact Or.inr (Or.inr (Or.inr (Or.inr (Or.inr (Or.inr (Or.inr (Or.inr (Or.inl (e))))))))) | exact Or.inr (Or.inr (Or.inr (Or.inr (Or.inr (Or.inr (Or.inr (Or.inr (Or.inr (Or.inl (e)))))))))) | exact Or.inr (Or.inr (Or.inr (Or.inr (Or.inr (Or.inr (Or.inr (Or.inr (Or.inr (Or.inr (Or.inl (e))))))))))) | exact Or.inr (Or.inr (Or.inr (Or.inr (Or.inr (Or.inr (Or.inr (Or.inr (Or.inr (Or.inr (Or.inr (Or.inl (e)))))))))))) | exact Or.inr (Or.inr (Or.inr (Or.inr (Or.inr (Or.inr (Or.inr (Or.inr (Or.inr (Or.inr (Or.inr (Or.inr (Or.inl (e))))))))))))) | exact Or.inr (Or.inr (Or.inr (Or.inr (Or.inr (Or.inr (Or.inr (Or.inr (Or.inr (Or.inr (Or.inr (Or.inr (Or.inr (Or.inl (e)))))))))))))) | exact Or.inr (Or.inr (Or.inr (Or.inr (Or.inr (Or.inr (Or.inr (Or.inr (Or.inr (Or.inr (Or.inr (Or.inr (Or.inr (Or.inr (e))))))))))))))) (fun x k hx => by simp only [wJ_mSide_tellPacket_b61] at hx; rcases hx with e | e <;> first | exact Or.inl (e) | exact Or.inr (e))
theorem fe_mSide_tellPacket (v0 : Nat) (v1 : Int) (v2 : Int) (v3 : Int) (h : Hp) : Feo (wI_mSide_tellPacket v0 v1 v2 v3 h) (wJ_mSide_tellPacket v0 v1 v2 v3 h) h id (f_mSide_tellPacket v0 v1 v2 v3 h) := by
  unfold f_mSide_tellPacket
  refine fe_it fe_no ?_
  refine fe_it ?_ fe_no
  refine fe_l ?_
  refine fe_it fe_no ?_
  refine fe_it fe_no ?_
  refine fe_it ?_ fe_no
  refine fe_it ?_ ?_
  · refine fe_it fe_no ?_
    exact fe_j Fe.rf (fe_mSide_tellPacket_b45 _ _ _ _ _ _ _) (fun x k hx => by simp only [wI_mSide_tellPacket_b45] at hx; rcases hx with e | e | e | e | e | e | e | e | e | e | e | e | e | e | e <;> first | exact Or.inl (e) | exact Or.inr (Or.inl (e)) | exact Or.inr (Or.inr (Or.inl (e))) | exact Or.inr (Or.inr (Or.inr (Or.inl (e)))) | exact Or.inr (Or.inr (Or.inr (Or.inr (Or.inl (e))))) | exact Or.inr (Or.inr (Or.inr (Or.inr (Or.inr (Or.inl (e)))))) | exact Or.inr (Or.inr (Or.inr (Or.inr (Or.inr (Or.inr (Or.inl (e))))))) | exact Or.inr (Or.inr (Or.inr (Or.inr (Or.inr (Or.inr (Or.inr (Or.inl (e)))))))) | exact Or.inr (Or.inr (Or.inr (Or.inr (Or.inr (Or.inr (Or.inr (Or.inr (Or.inl (e))))))))) | exact Or.inr (Or.inr (Or.inr (Or.inr (Or.inr (Or.inr (Or.inr (Or.inr (Or.inr (Or.inl (e)))))))))) | exact Or.inr (Or.inr (Or.inr (Or.inr (Or.inr (Or.inr (Or.inr (Or.inr (Or.inr (Or.inr (Or.inl (e))))))))))) | exact Or.inr (Or.inr (Or.inr (Or.inr (Or.inr (Or.inr (Or.inr (Or.inr (Or.inr (Or.inr (Or.inr (Or.inl (e)))))))))))) | exact Or.inr (Or.inr (Or.inr (Or.inr (Or.inr (Or.inr (Or.inr (Or.inr (Or.inr (Or.inr (Or.inr (Or.inr (Or.inl (e))))))))))))) | exact Or.inr (Or.inr (Or.inr (Or.inr (Or.inr (Or.inr (Or.inr (Or.inr (Or.inr (Or.inr (Or.inr (Or.inr (Or.inr (Or.inl (e)))))))))))))) | exact Or.inr (Or.inr (Or.inr (Or.inr (Or.inr (Or.inr (Or.inr (Or.inr (Or.inr (Or.inr (Or.inr (Or.inr (Or.inr (Or.inr (e))))))))))))))) (fun x k hx => by simp only [wJ_mSide_tellPacket_b45] at hx; rcases hx with e | e <;> first | exact Or.inl (e) | exact Or.inr (e))
  · refine fe_it fe_no ?_
    refine fe_it ?_ fe_no
    exact fe_j Fe.rf (fe_mSide_tellPacket_b45 _ _ _ _ _ _ _) (fun x k hx => by simp only [wI_mSide_tellPacket_b45] at hx; rcases hx with e | e | e | e | e | e | e | e | e | e | e | e | e | e | e <;> first | exact Or.inl (e) | exact Or.inr (Or.inl (e)) | exact Or.inr (Or.inr (Or.inl (e))) | exact Or.inr (Or.inr (Or.inr (Or.inl (e)))) | exact Or.inr (Or.inr (Or.inr (Or.inr (Or.inl (e))))) | exact Or.inr (Or.inr (Or.inr (Or.inr (Or.inr (Or.inl (e)))))) | exact Or.inr (Or.inr (Or.inr (Or.inr (Or.inr (Or.inr (Or.inl (e))))))) | exact Or.inr (Or.inr (Or.inr (Or.inr (Or.inr (Or.inr (Or.inr (Or.inl (e)))))))) | exact Or.inr (Or.inr (Or.inr (Or.inr (Or.inr (Or.inr (Or.inr (Or.inr (Or.inl (e))))))))) | exact Or.inr (Or.inr (Or.inr (Or.inr (Or.inr (Or.inr (Or.inr (Or.inr (Or.inr (Or.inl (e)))))))))) | exact Or.inr (Or.inr (Or.inr (Or.inr (Or.inr (Or.inr (Or.inr (Or.inr (Or.inr (Or.inr (Or.inl (e))))))))))) | exact Or.inr (Or.inr (Or.inr (Or.inr (Or.inr (Or.inr (Or.inr (Or.inr (Or.inr (Or.inr (Or.inr (Or.inl (e)))))))))))) | exact Or.inr (Or.inr (Or.inr (Or.inr (Or.inr (Or.inr (Or.inr (Or.inr (Or.inr (Or.inr (Or.inr (Or.inr (Or.inl (e))))))))))))) | exact Or.inr (Or.inr (Or.inr (Or.inr (Or.inr (Or.inr (Or.inr (Or.inr (Or.inr (Or.inr (Or.inr (Or.inr (Or.inr (Or.inl (e)))))))))))))) | exact Or.inr (Or.inr (Or.inr (Or.inr (Or.inr (Or.inr (Or.inr (Or.inr (Or.inr (Or.inr (Or.inr (Or.inr (Or.inr (Or.inr (e))))))))))))))) (fun x k hx => by simp only [wJ_mSide_tellPacket_b45] at hx; rcases hx with e | e <;> first | exact Or.inl (e) | exact Or.inr (e))
def wI_mSide_tellFound_b44 (v0 : Nat) (v1 : Int) (v2 : Int) (h : Hp) (x k : Nat) : Prop := x = (hR h (hR h v0 2) 15) ∨ x = (hR h (hR h v0 2) 25) ∨ x = (hR h (hR h v0 2) 26) ∨ x = hR h (hR h v0 2) 10 ∨ x = hR h (hR h v0 2) 16 ∨ x = hR h (hR h v0 2) 17 ∨ x = hR h (hR h v0 2) 34 ∨ x = hR h (hR h v0 2) 36 ∨ x = hR h (hR h v0 2) 38 ∨ x = hR h (hR h v0 2) 42 ∨ x = hR h (hR h v0 2) 6 ∨ x = hR h (hR h v0 2) 7 ∨ x = hR h (hR h v0 4) 17 ∨ x = hR h v0 28 ∨ (x = v0 ∧ k = 30) ∨ (x = v0 ∧ k = 31)
def wJ_mSide_tellFound_b44 (v0 : Nat) (v1 : Int) (v2 : Int) (h : Hp) (x k : Nat) : Prop := x = hR h (hR h v0 2) 19 ∨ x = hR h (hR h v0 2) 3
def wI_mSide_tellFound_b10 (v0 : Nat) (v1 : Int) (v2 : Int) (h : Hp) (x k : Nat) : Prop := x = (hR h (hR h v0 2) 15) ∨ x = (hR h (hR h v0 2) 25) ∨ x = (hR h (hR h v0 2) 26) ∨ x = hR h (hR h v0 2) 10 ∨ x = hR h (hR h v0 2) 16 ∨ x = hR h (hR h v0 2) 17 ∨ x = hR h (hR h v0 2) 34 ∨ x = hR h (hR h v0 2) 36 ∨ x = hR h (hR h v0 2) 38 ∨ x = hR h (hR h v0 2) 42 ∨ x = hR h (hR h v0 2) 6 ∨ x = hR h (hR h v0 2) 7 ∨ x = hR h (hR h v0 4) 17 ∨ x = hR h v0 28 ∨ (x = v0 ∧ k = 30) ∨ (x = v0 ∧ k = 31)
def wJ_mSide_tellFound_b10 (v0 : Nat) (v1 : Int) (v2 : Int) (h : Hp) (x k : Nat) : Prop := x = hR h (hR h v0 2) 19 ∨ x = hR h (hR h v0 2) 3
def wI_mSide_tellFound (v0 : Nat) (v1 : Int) (h : Hp) (x k : Nat) : Prop := x = (hR h (hR h v0 2) 15) ∨ x = (hR h (hR h v0 2) 25) ∨ x = (hR h (hR h v0 2) 26) ∨ x = hR h (hR h v0 2) 10 ∨ x = hR h (hR h v0 2) 16 ∨ x = hR h (hR h v0 2) 17 ∨ x = hR h (hR h v0 2) 34 ∨ x = hR h (hR h v0 2) 36 ∨ x = hR h (hR h v0 2) 38 ∨ x = hR h (hR h v0 2) 42 ∨ x = hR h (hR h v0 2) 6 ∨ x = hR h (hR h v0 2) 7 ∨ x = hR h (hR h v0 4) 17 ∨ x = hR h v0 28 ∨ (x = v0 ∧ k = 30) ∨ (x = v0 ∧ k = 31)
def wJ_mSide_tellFound (v0 : Nat) (v1 : Int) (h : Hp) (x k : Nat) : Prop := x = hR h (hR h v0 2) 19 ∨ x = hR h (hR h v0 2) 3
theorem fe_mSide_tellFound_b44 {k44 : Nat → Int → Int → Hp → Option (Hp)} (hk44 : ∀ (v0 : Nat) (v1 : Int) (v2 : Int) (h : Hp), Feo (wI_mSide_tellFound_b44 v0 v1 v2 h) (wJ_mSide_tellFound_b44 v0 v1 v2 h) h id (k44 v0 v1 v2 h)) (v0 : Nat) (v1 : Int) (v2 : Int) (h : Hp) : Feo (wI_mSide_tellFound_b44 v0 v1 v2 h) (wJ_mSide_tellFound_b44 v0 v1 v2 h) h id (f_mSide_tellFound_b44 k44 v0 v1 v2 h) := by
  unfold f_mSide_tellFound_b44
  refine fe_it ?_ ?_
  · exact fe_so Fe.rf
  · refine fe_b1 Fe.rf (fe_mSide_tellPacket _ _ _ _ _) (fun x k hx => by simp only [wI_mSide_tellPacket] at hx; rcases hx with e | e | e | e | e | e | e | e | e | e | e | e | e | e | e <;> first | exact Or.inl (e) | exact Or.inr (Or.inl (e)) | exact Or.inr (Or.inr (Or.inl (e))) | exact Or.inr (Or.inr (Or.inr (Or.inl (e)))) | exact Or.inr (Or.inr (Or.inr (Or.inr (Or.inl (e))))) | exact Or.inr (Or.inr (Or.inr (Or.inr (Or.inr (Or.inl (e)))))) | exact Or.inr (Or.inr (Or.inr (Or.inr (Or.inr (Or.inr (Or.inl (e))))))) | exact Or.inr (Or.inr (Or.inr (Or.inr (Or.inr (Or.inr (Or.inr (Or.inl (e)))))))) | exact Or.inr (Or.inr (Or.inr (Or.inr (Or.inr (Or.inr (Or.inr (Or.inr (Or.inl (e))))))))) | exact Or.inr (Or.inr (Or.inr (Or.inr (Or.inr (Or.inr (Or.inr (Or.inr (Or.inr (Or.inl (e)))))))))) | exact Or.inr (Or.inr (Or.inr (Or.inr (Or.inr (Or.inr (Or.inr (Or.inr (Or.inr (Or.inr (Or.inl (e))))))))))) | exact Or.inr (Or.inr (Or.inr (Or.inr (Or.inr (Or.inr (Or.inr (Or.inr (Or.inr (Or.inr (Or.inr (Or.inl (e)))))))))))) | exact Or.inr (Or.inr (Or.inr (Or.inr (Or.inr (Or.inr (Or.inr (Or.inr (Or.inr (Or.inr (Or.inr (Or.inr (Or.inr (Or.inl (e)))))))))))))) | exact Or.inr (Or.inr (Or.inr (Or.inr (Or.inr (Or.inr (Or.inr (Or.inr (Or.inr (Or.inr (Or.inr (Or.inr (Or.inr (Or.inr (Or.inl (e))))))))))))))) | exact Or.inr (Or.inr (Or.inr (Or.inr (Or.inr (Or.inr (Or.inr (Or.inr (Or.inr (Or.inr (Or.inr (Or.inr (Or.inr (Or.inr (Or.inr (e)))))))))))))))) (fun x k hx => by simp only [wJ_mSide_tellPacket] at hx; rcases hx with e | e <;> first | exact Or.inl (e) | exact Or.inr (e)) (fun h15 F1 => ?_)
    refine fe_it fe_no ?_
    refine fe_b2 F1 (fe_mBook_next _ _ _ _) (fun x k hx => by simp only [wI_mBook_next, F1.r] at hx; have e := hx; exact Or.inr (Or.inr (Or.inr (Or.inr (Or.inr (Or.inr (Or.inr (Or.inr (Or.inr (Or.inr (Or.inr (Or.inr (Or.inl (e)))))))))))))) (fun x k hx => False.elim hx) (fun r20 h18 F2 => ?_)
    exact fe_j F2 (hk44 _ _ _ _) (fun x k hx => by simp only [wI_mSide_tellFound_b44, F1.r, F2.r] at hx; rcases hx with e | e | e | e | e | e | e | e | e | e | e | e | e | e | e | e <;> first | exact Or.inl (e) | exact Or.inr (Or.inl (e)) | exact Or.inr (Or.inr (Or.inl (e))) | exact Or.inr (Or.inr (Or.inr (Or.inl (e)))) | exact Or.inr (Or.inr (Or.inr (Or.inr (Or.inl (e))))) | exact Or.inr (Or.inr (Or.inr (Or.inr (Or.inr (Or.inl (e)))))) | exact Or.inr (Or.inr (Or.inr (Or.inr (Or.inr (Or.inr (Or.inl (e))))))) | exact Or.inr (Or.inr (Or.inr (Or.inr (Or.inr (Or.inr (Or.inr (Or.inl (e)))))))) | exact Or.inr (Or.inr (Or.inr (Or.inr (Or.inr (Or.inr (Or.inr (Or.inr (Or.inl (e))))))))) | exact Or.inr (Or.inr (Or.inr (Or.inr (Or.inr (Or.inr (Or.inr (Or.inr (Or.inr (Or.inl (e)))))))))) | exact Or.inr (Or.inr (Or.inr (Or.inr (Or.inr (Or.inr (Or.inr (Or.inr (Or.inr (Or.inr (Or.inl (e))))))))))) | exact Or.inr (Or.inr (Or.inr (Or.inr (Or.inr (Or.inr (Or.inr (Or.inr (Or.inr (Or.inr (Or.inr (Or.inl (e)))))))))))) | exact Or.inr (Or.inr (Or.inr (Or.inr (Or.inr (Or.inr (Or.inr (Or.inr (Or.inr (Or.inr (Or.inr (Or.inr (Or.inl (e))))))))))))) | exact Or.inr (Or.inr (Or.inr (Or.inr (Or.inr (Or.inr (Or.inr (Or.inr (Or.inr (Or.inr (Or.inr (Or.inr (Or.inr (Or.inl (e)))))))))))))) | exact Or.inr (Or.inr (Or.inr (Or.inr (Or.inr (Or.inr (Or.inr (Or.inr (Or.inr (Or.inr (Or.inr (Or.inr (Or.inr (Or.inr (Or.inl (e))))))))))))))) | exact Or.inr (Or.inr (Or.inr (Or.inr (Or.inr (Or.inr (Or.inr (Or.inr (Or.inr (Or.inr (Or.inr (Or.inr (Or.inr (Or.inr (Or.inr (e)))))))))))))))) (fun x k hx => by simp only [wJ_mSide_tellFound_b44, F1.r, F2.r] at hx; rcases hx with e | e <;> first | exact Or.inl (e) | exact Or.inr (e))
theorem fe_mSide_tellFound_b44_lp (n : Nat) : ∀ (v0 : Nat) (v1 : Int) (v2 : Int) (h : Hp), Feo (wI_mSide_tellFound_b44 v0 v1 v2 h) (wJ_mSide_tellFound_b44 v0 v1 v2 h) h id (f_mSide_tellFound_b44_lp n v0 v1 v2 h) := by
  induction n with
  | zero => intro v0 v1 v2 h; exact fe_no
  | succ n ih => intro v0 v1 v2 h; exact fe_mSide_tellFound_b44 ih v0 v1 v2 h
theorem fe_mSide_tellFound_b10 {k10 : Nat → Int → Int → Hp → Option (Hp)} (hk10 : ∀ (v0 : Nat) (v1 : Int) (v2 : Int) (h : Hp), Feo (wI_mSide_tellFound_b10 v0 v1 v2 h) (wJ_mSide_tellFound_b10 v0 v1 v2 h) h id (k10 v0 v1 v2 h)) (v0 : Nat) (v1 : Int) (v2 : Int) (h : Hp) : Feo (wI_mSide_tellFound_b10 v0 v1 v2 h) (wJ_mSide_tellFound_b10 v0 v1 v2 h) h id (f_mSide_tellFound_b10 k10 v0 v1 v2 h) := by
  unfold f_mSide_tellFound_b10
  refine fe_it ?_ ?_
  · refine fe_it fe_no ?_
    refine fe_b2 Fe.rf (fe_mBook_next _ _ _ _) (fun x k hx => by simp only [wI_mBook_next] at hx; have e := hx; exact Or.inr (Or.inr (Or.inr (Or.inr (Or.inr (Or.inr (Or.inr (Or.inr (Or.inr (Or.inr (Or.inr (Or.inr (Or.inl (e)))))))))))))) (fun x k hx => False.elim hx) (fun r8 h6 F1 => ?_)
    exact fe_j F1 (fe_mSide_tellFound_b44_lp FU _ _ _ _) (fun x k hx => by simp only [wI_mSide_tellFound_b44, F1.r] at hx; rcases hx with e | e | e | e | e | e | e | e | e | e | e | e | e | e | e | e <;> first | exact Or.inl (e) | exact Or.inr (Or.inl (e)) | exact Or.inr (Or.inr (Or.inl (e))) | exact Or.inr (Or.inr (Or.inr (Or.inl (e)))) | exact Or.inr (Or.inr (Or.inr (Or.inr (Or.inl (e))))) | exact Or.inr (Or.inr (Or.inr (Or.inr (Or.inr (Or.inl (e)))))) | exact Or.inr (Or.inr (Or.inr (Or.inr (Or.inr (Or.inr (Or.inl (e))))))) | exact Or.inr (Or.inr (Or.inr (Or.inr (Or.inr (Or.inr (Or.inr (Or.inl (e)))))))) | exact Or.inr (Or.inr (Or.inr (Or.inr (Or.inr (Or.inr (Or.inr (Or.inr (Or.inl (e))))))))) | exact Or.inr (Or.inr (Or.inr (Or.inr (Or.inr (Or.inr (Or.inr (Or.inr (Or.inr (Or.inl (e)))))))))) | exact Or.inr (Or.inr (Or.inr (Or.inr (Or.inr (Or.inr (Or.inr (Or.inr (Or.inr (Or.inr (Or.inl (e))))))))))) | exact Or.inr (Or.inr (Or.inr (Or.inr (Or.inr (Or.inr (Or.inr (Or.inr (Or.inr (Or.inr (Or.inr (Or.inl (e)))))))))))) | exact Or.inr (Or.inr (Or.inr (Or.inr (Or.inr (Or.inr (Or.inr (Or.inr (Or.inr (Or.inr (Or.inr (Or.inr (Or.inl (e))))))))))))) | exact Or.inr (Or.inr (Or.inr (Or.inr (Or.inr (Or.inr (Or.inr (Or.inr (Or.inr (Or.inr (Or.inr (Or.inr (Or.inr (Or.inl (e)))))))))))))) | exact Or.inr (Or.inr (Or.inr (Or.inr (Or.inr (Or.inr (Or.inr (Or.inr (Or.inr (Or.inr (Or.inr (Or.inr (Or.inr (Or.inr (Or.inl (e))))))))))))))) | exact Or.inr (Or.inr (Or.inr (Or.inr (Or.inr (Or.inr (Or.inr (Or.inr (Or.inr (Or.inr (Or.inr (Or.inr (Or.inr (Or.inr (Or.inr (e)))))))))))))))) (fun x k hx => by simp only [wJ_mSide_tellFound_b44, F1.r] at hx; rcases hx with e | e <;> first | exact Or.inl (e) | exact Or.inr (e))
  · refine fe_b1 Fe.rf (fe_mSide_tellPacket _ _ _ _ _) (fun x k hx => by simp only [wI_mSide_tellPacket] at hx; rcases hx with e | e | e | e | e | e | e | e | e | e | e | e | e | e | e <;> first | exact Or.inl (e) | exact Or.inr (Or.inl (e)) | exact Or.inr (Or.inr (Or.inl (e))) | exact Or.inr (Or.inr (Or.inr (Or.inl (e)))) | exact Or.inr (Or.inr (Or.inr (Or.inr (Or.inl (e))))) | exact Or.inr (Or.inr (Or.inr (Or.inr (Or.inr (Or.inl (e)))))) | exact Or.inr (Or.inr (Or.inr (Or.inr (Or.inr (Or.inr (Or.inl (e))))))) | exact Or.inr (Or.inr (Or.inr (Or.inr (Or.inr (Or.inr (Or.inr (Or.inl (e)))))))) | exact Or.inr (Or.inr (Or.inr (Or.inr (Or.inr (Or.inr (Or.inr (Or.inr (Or.inl (e))))))))) | exact Or.inr (Or.inr (Or.inr (Or.inr (Or.inr (Or.inr (Or.inr (Or.inr (Or.inr (Or.inl (e)))))))))) | exact Or.inr (Or.inr (Or.inr (Or.inr (Or.inr (Or.inr (Or.inr (Or.inr (Or.inr (Or.inr (Or.inl (e))))))))))) | exact Or.inr (Or.inr (Or.inr (Or.inr (Or.inr (Or.inr (Or.inr (Or.inr (Or.inr (Or.inr (Or.inr (Or.inl (e)))))))))))) | exact Or.inr (Or.inr (Or.inr (Or.inr (Or.inr (Or.inr (Or.inr (Or.inr (Or.inr (Or.inr (Or.inr (Or.inr (Or.inr (Or.inl (e)))))))))))))) | exact Or.inr (Or.inr (Or.inr (Or.inr (Or.inr (Or.inr (Or.inr (Or.inr (Or.inr (Or.inr (Or.inr (Or.inr (Or.inr (Or.inr (Or.inl (e))))))))))))))) | exact Or.inr (Or.inr (Or.inr (Or.inr (Or.inr (Or.inr (Or.inr (Or.inr (Or.inr (Or.inr (Or.inr (Or.inr (Or.inr (Or.inr (Or.inr (e)))))))))))))))) (fun x k hx => by simp only [wJ_mSide_tellPacket] at hx; rcases hx with e | e <;> first | exact Or.inl (e) | exact Or.inr (e)) (fun h9 F2 => ?_)
    refine fe_it fe_no ?_
    refine fe_b2 F2 (fe_mBook_next _ _ _ _) (fun x k hx => by simp only [wI_mBook_next, F2.r] at hx; have e := hx; exact Or.inr (Or.inr (Or.inr (Or.inr (Or.inr (Or.inr (Or.inr (Or.inr (Or.inr (Or.inr (Or.inr (Or.inr (Or.inl (e)))))))))))))) (fun x k hx => False.elim hx) (fun r14 h12 F3 => ?_)
    exact fe_j F3 (hk10 _ _ _ _) (fun x k hx => by simp only [wI_mSide_tellFound_b10, F2.r, F3.r] at hx; rcases hx with e | e | e | e | e | e | e | e | e | e | e | e | e | e | e | e <;> first | exact Or.inl (e) | exact Or.inr (Or.inl (e)) | exact Or.inr (Or.inr (Or.inl (e))) | exact Or.inr (Or.inr (Or.inr (Or.inl (e)))) | exact Or.inr (Or.inr (Or.inr (Or.inr (Or.inl (e))))) | exact Or.inr (Or.inr (Or.inr (Or.inr (Or.inr (Or.inl (e)))))) | exact Or.inr (Or.inr (Or.inr (Or.inr (Or.inr (Or.inr (Or.inl (e))))))) | exact Or.inr (Or.inr (Or.inr (Or.inr (Or.inr (Or.inr (Or.inr (Or.inl (e)))))))) | exact Or.inr (Or.inr (Or.inr (Or.inr (Or.inr (Or.inr (Or.inr (Or.inr (Or.inl (e))))))))) | exact Or.inr (Or.inr (Or.inr (Or.inr (Or.inr (Or.inr (Or.inr (Or.inr (Or.inr (Or.inl (e)))))))))) | exact Or.inr (Or.inr (Or.inr (Or.inr (Or.inr (Or.inr (Or.inr (Or.inr (Or.inr (Or.inr (Or.inl (e))))))))))) | exact Or.inr (Or.inr (Or.inr (Or.inr (Or.inr (Or.inr (Or.inr (Or.inr (Or.inr (Or.inr (Or.inr (Or.inl (e)))))))))))) | exact Or.inr (Or.inr (Or.inr (Or.inr (Or.inr (Or.inr (Or.inr (Or.inr (Or.inr (Or.inr (Or.inr (Or.inr (Or.inl (e))))))))))))) | exact Or.inr (Or.inr (Or.inr (Or.inr (Or.inr (Or.inr (Or.inr (Or.inr (Or.inr (Or.inr (Or.inr (Or.inr (Or.inr (Or.inl (e)))))))))))))) | exact Or.inr (Or.inr (Or.inr (Or.inr (Or.inr (Or.inr (Or.inr (Or.inr (Or.inr (Or.inr (Or.inr (Or.inr (Or.inr (Or.inr (Or.inl (e))))))))))))))) | exact Or.inr (Or.inr (Or.inr (Or.inr (Or.inr (Or.inr (Or.inr (Or.inr (Or.inr (Or.inr (Or.inr (Or.inr (Or.inr (Or.inr (Or.inr (e)))))))))))))))) (fun x k hx => by simp only [wJ_mSide_tellFound_b10, F2.r, F3.r] at hx; rcases hx with e | e <;> first | exact Or.inl (e) | exact Or.inr (e))
theorem fe_mSide_tellFound_b10_lp (n : Nat) : ∀ (v0 : Nat) (v1 : Int) (v2 : Int) (h : Hp), Feo (wI_mSide_tellFound_b10 v0 v1 v2 h) (wJ_mSide_tellFound_b10 v0 v1 v2 h) h id (f_mSide_tellFound_b10_lp n v0 v1 v2 h) := by
  induction n with
  | zero => intro v0 v1 v2 h; exact fe_no
  | succ n ih => intro v0 v1 v2 h; exact fe_mSide_tellFound_b10 ih v0 v1 v2 h
theorem fe_mSide_tellFound (v0 : Nat) (v1 : Int) (h : Hp) : Feo (wI_mSide_tellFound v0 v1 h) (wJ_mSide_tellFound v0 v1 h) h id (f_mSide_tellFound v0 v1 h) := by
  unfold f_mSide_tellFound
  refine fe_it fe_no ?_
  refine fe_b2 Fe.rf (fe_mBook_next _ _ _ _) (fun x k hx => by simp only [wI_mBook_next] at hx; have e := hx; exact Or.inr (Or.inr (Or.inr (Or.inr (Or.inr (Or.inr (Or.inr (Or.inr (Or.inr (Or.inr (Or.inr (Or.inr (Or.inl (e)))))))))))))) (fun x k hx => False.elim hx) (fun r4 h2 F1 => ?_)
  exact fe_j F1 (fe_mSide_tellFound_b10_lp FU _ _ _ _) (fun x k hx => by simp only [wI_mSide_tellFound_b10, F1.r] at hx; rcases hx with e | e | e | e | e | e | e | e | e | e | e | e | e | e | e | e <;> first | exact Or.inl (e) | exact Or.inr (Or.inl (e)) | exact Or.inr (Or.inr (Or.inl (e))) | exact Or.inr (Or.inr (Or.inr (Or.inl (e)))) | exact Or.inr (Or.inr (Or.inr (Or.inr (Or.inl (e))))) | exact Or.inr (Or.inr (Or.inr (Or.inr (Or.inr (Or.inl (e)))))) | exact Or.inr (Or.inr (Or.inr (Or.inr (Or.inr (Or.inr (Or.inl (e))))))) | exact Or.inr (Or.inr (Or.inr (Or.inr (Or.inr (Or.inr (Or.inr (Or.inl (e)))))))) | exact Or.inr (Or.inr (Or.inr (Or.inr (Or.inr (Or.inr (Or.inr (Or.inr (Or.inl (e))))))))) | exact Or.inr (Or.inr (Or.inr (Or.inr (Or.inr (Or.inr (Or.inr (Or.inr (Or.inr (Or.inl (e)))))))))) | exact Or.inr (Or.inr (Or.inr (Or.inr (Or.inr (Or.inr (Or.inr (Or.inr (Or.inr (Or.inr (Or.inl (e))))))))))) | exact Or.inr (Or.inr (Or.inr (Or.inr (Or.inr (Or.inr (Or.inr (Or.inr (Or.inr (Or.inr (Or.inr (Or.inl (e)))))))))))) | exact Or.inr (Or.inr (Or.inr (Or.inr (Or.inr (Or.inr (Or.inr (Or.inr (Or.inr (Or.inr (Or.inr (Or.inr (Or.inl (e))))))))))))) | exact Or.inr (Or.inr (Or.inr (Or.inr (Or.inr (Or.inr (Or.inr (Or.inr (Or.inr (Or.inr (Or.inr (Or.inr (Or.inr (Or.inl (e)))))))))))))) | exact Or.inr (Or.inr (Or.inr (Or.inr (Or.inr (Or.inr (Or.inr (Or.inr (Or.inr (Or.inr (Or.inr (Or.inr (Or.inr (Or.inr (Or.inl (e))))))))))))))) | exact Or.inr (Or.inr (Or.inr (Or.inr (Or.inr (Or.inr (Or.inr (Or.inr (Or.inr (Or.inr (Or.inr (Or.inr (Or.inr (Or.inr (Or.inr (e)))))))))))))))) (fun x k hx => by simp only [wJ_mSide_tellFound_b10, F1.r] at hx; rcases hx with e | e <;> first | exact Or.inl (e) | exact Or.inr (e))
def wI_mSide_acknowledged_b132 (v0 : Nat) (v1 : Int) (s0 : Nat) (s1 : Int) (s2 : Int) (h : Hp) (x k : Nat) : Prop := x = (hR h (hR h v0 2) 15) ∨ x = (hR h (hR h v0 2) 25) ∨ x = (hR h (hR h v0 2) 26) ∨ x = (hR h s0 13) ∨ x = hR h (hR h v0 2) 10 ∨ x = hR h (hR h v0 2) 16 ∨ x = hR h (hR h v0 2) 17 ∨ x = hR h (hR h v0 2) 34 ∨ x = hR h (hR h v0 2) 36 ∨ x = hR h (hR h v0 2) 38 ∨ x = hR h (hR h v0 2) 42 ∨ x = hR h (hR h v0 2) 6 ∨ x = hR h (hR h v0 2) 7 ∨ x = hR h (hR h v0 4) 17 ∨ x = hR h s0 10 ∨ x = hR h s0 12 ∨ x = hR h s0 13 ∨ x = hR h s0 15 ∨ x = hR h s0 16 ∨ x = hR h s0 6 ∨ x = hR h v0 28 ∨ (x = s0 ∧ k = 18) ∨ (x = s0 ∧ k = 19) ∨ (x = s0 ∧ k = 20) ∨ (x = s0 ∧ k = 21) ∨ (x = s0 ∧ k = 22) ∨ (x = s0 ∧ k = 23) ∨ (x = s0 ∧ k = 24) ∨ (x = s0 ∧ k = 25) ∨ (x = s0 ∧ k = 26) ∨ (x = v0 ∧ k = 30) ∨ (x = v0 ∧ k = 31)
def wJ_mSide_acknowledged_b132 (v0 : Nat) (v1 : Int) (s0 : Nat) (s1 : Int) (s2 : Int) (h : Hp) (x k : Nat) : Prop := x = hR h (hR h v0 2) 19 ∨ x = hR h (hR h v0 2) 3
def wI_mSide_acknowledged_b41 (v0 : Nat) (v1 : Int) (v2 : Int) (v3 : Int) (h : Hp) (x k : Nat) : Prop := x = (hR h (hR h v0 2) 15) ∨ x = (hR h (hR h v0 2) 25) ∨ x = (hR h (hR h v0 2) 26) ∨ x = (hR h (hR h v0 4) 13) ∨ (x = (hR h v0 21) ∧ k = 1) ∨ (x = (hR h v0 21) ∧ k = 3) ∨ (x = (hR h v0 4) ∧ k = 18) ∨ (x = (hR h v0 4) ∧ k = 19) ∨ (x = (hR h v0 4) ∧ k = 20) ∨ (x = (hR h v0 4) ∧ k = 21) ∨ (x = (hR h v0 4) ∧ k = 22) ∨ (x = (hR h v0 4) ∧ k = 23) ∨ (x = (hR h v0 4) ∧ k = 24) ∨ (x = (hR h v0 4) ∧ k = 25) ∨ (x = (hR h v0 4) ∧ k = 26) ∨ x = hR h (hR h v0 2) 10 ∨ x = hR h (hR h v0 2) 16 ∨ x = hR h (hR h v0 2) 17 ∨ x = hR h (hR h v0 2) 34 ∨ x = hR h (hR h v0 2) 36 ∨ x = hR h (hR h v0 2) 38 ∨ x = hR h (hR h v0 2) 42 ∨ x = hR h (hR h v0 2) 6 ∨ x = hR h (hR h v0 2) 7 ∨ x = hR h (hR h v0 4) 10 ∨ x = hR h (hR h v0 4) 12 ∨ x = hR h (hR h v0 4) 13 ∨ x = hR h (hR h v0 4) 15 ∨ x = hR h (hR h v0 4) 16 ∨ x = hR h (hR h v0 4) 17 ∨ x = hR h (hR h v0 4) 6 ∨ x = hR h v0 28 ∨ (x = hR h v0 4 ∧ k = 27) ∨ (x = v0 ∧ k = 30) ∨ (x = v0 ∧ k = 31)
def wJ_mSide_acknowledged_b41 (v0 : Nat) (v1 : Int) (v2 : Int) (v3 : Int) (h : Hp) (x k : Nat) : Prop := x = hR h (hR h v0 2) 19 ∨ x = hR h (hR h v0 2) 3 ∨ x = hR h (hR h v0 4) 28 ∨ x = hR h (hR h v0 4) 29
def wI_mSide_acknowledged_b38 (v0 : Nat) (v1 : Int) (s0 : Int) (h : Hp) (x k : Nat) : Prop := x = (hR h (hR h v0 2) 15) ∨ x = (hR h (hR h v0 2) 25) ∨ x = (hR h (hR h v0 2) 26) ∨ x = (hR h (hR h v0 4) 13) ∨ (x = (hR h v0 21) ∧ k = 1) ∨ (x = (hR h v0 21) ∧ k = 3) ∨ (x = (hR h v0 4) ∧ k = 18) ∨ (x = (hR h v0 4) ∧ k = 19) ∨ (x = (hR h v0 4) ∧ k = 20) ∨ (x = (hR h v0 4) ∧ k = 21) ∨ (x = (hR h v0 4) ∧ k = 22) ∨ (x = (hR h v0 4) ∧ k = 23) ∨ (x = (hR h v0 4) ∧ k = 24) ∨ (x = (hR h v0 4) ∧ k = 25) ∨ (x = (hR h v0 4) ∧ k = 26) ∨ x = hR h (hR h v0 2) 10 ∨ x = hR h (hR h v0 2) 16 ∨ x = hR h (hR h v0 2) 17 ∨ x = hR h (hR h v0 2) 34 ∨ x = hR h (hR h v0 2) 36 ∨ x = hR h (hR h v0 2) 38 ∨ x = hR h (hR h v0 2) 42 ∨ x = hR h (hR h v0 2) 6 ∨ x = hR h (hR h v0 2) 7 ∨ x = hR h (hR h v0 4) 10 ∨ x = hR h (hR h v0 4) 12 ∨ x = hR h (hR h v0 4) 13 ∨ x = hR h (hR h v0 4) 15 ∨ x = hR h (hR h v0 4) 16 ∨ x = hR h (hR h v0 4) 17 ∨ x = hR h (hR h v0 4) 6 ∨ x = hR h v0 28 ∨ (x = hR h v0 4 ∧ k = 27) ∨ (x = v0 ∧ k = 30) ∨ (x = v0 ∧ k = 31)
def wJ_mSide_acknowledged_b38 (v0 : Nat) (v1 : Int) (s0 : Int) (h : Hp) (x k : Nat) : Prop := x = hR h (hR h v0 2) 19 ∨ x = hR h (hR h v0 2) 3 ∨ x = hR h (hR h v0 4) 28 ∨ x = hR h (hR h v0 4) 29
def wI_mSide_acknowledged (v0 : Nat) (v1 : Int) (h : Hp) (x k : Nat) : Prop := x = (hR h (hR h v0 2) 15) ∨ x = (hR h (hR h v0 2) 25) ∨ x = (hR h (hR h v0 2) 26) ∨ x = (hR h (hR h v0 4) 13) ∨ (x = (hR h v0 21) ∧ k = 1) ∨ (x = (hR h v0 21) ∧ k = 3) ∨ (x = (hR h v0 4) ∧ k = 18) ∨ (x = (hR h v0 4) ∧ k = 19) ∨ (x = (hR h v0 4) ∧ k = 20) ∨ (x = (hR h v0 4) ∧ k = 21) ∨ (x = (hR h v0 4) ∧ k = 22) ∨ (x = (hR h v0 4) ∧ k = 23) ∨ (x = (hR h v0 4) ∧ k = 24) ∨ (x = (hR h v0 4) ∧ k = 25) ∨ (x = (hR h v0 4) ∧ k = 26) ∨ x = hR h (hR h v0 2) 10 ∨ x = hR h (hR h v0 2) 16 ∨ x = hR h (hR h v0 2) 17 ∨ x = hR h (hR h v0 2) 34 ∨ x = hR h (hR h v0 2) 36 ∨ x = hR h (hR h v0 2) 38 ∨ x = hR h (hR h v0 2) 42 ∨ x = hR h (hR h v0 2) 6 ∨ x = hR h (hR h v0 2) 7 ∨ x = hR h (hR h v0 4) 10 ∨ x = hR h (hR h v0 4) 12 ∨ x = hR h (hR h v0 4) 13 ∨ x = hR h (hR h v0 4) 15 ∨ x = hR h (hR h v0 4) 16 ∨ x = hR h (hR h v0 4) 17 ∨ x = hR h (hR h v0 4) 6 ∨ x = hR h v0 28 ∨ (x = hR h v0 4 ∧ k = 27) ∨ (x = v0 ∧ k = 30) ∨ (x = v0 ∧ k = 31)
def wJ_mSide_acknowledged (v0 : Nat) (v1 : Int) (h : Hp) (x k : Nat) : Prop := x = hR h (hR h v0 2) 19 ∨ x = hR h (hR h v0 2) 3 ∨ x = hR h (hR h v0 4) 28 ∨ x = hR h (hR h v0 4) 29
theorem fe_mSide_acknowledged_b132 (v0 : Nat) (v1 : Int) (s0 : Nat) (s1 : Int) (s2 : Int) (h : Hp) : Feo (wI_mSide_acknowledged_b132 v0 v1 s0 s1 s2 h) (wJ_mSide_acknowledged_b132 v0 v1 s0 s1 s2 h) h Prod.snd (f_mSide_acknowledged_b132 v0 v1 s0 s1 s2 h) := by
  unfold f_mSide_acknowledged_b132
  refine fe_it fe_no ?_
  refine fe_b2 Fe.rf (fe_mBook_acknowledge _ _ _ _) (fun x k hx => by simp only [wI_mBook_acknowledge] at hx; rcases hx with e | e | e | e | e | e | e | e | e | e | e | e | e | e | e | e <;> first | exact Or.inr (Or.inr (Or.inr (Or.inl (e)))) | exact Or.inr (Or.inr (Or.inr (Or.inr (Or.inr (Or.inr (Or.inr (Or.inr (Or.inr (Or.inr (Or.inr (Or.inr (Or.inr (Or.inr (Or.inl (e))))))))))))))) | exact Or.inr (Or.inr (Or.inr (Or.inr (Or.inr (Or.inr (Or.inr (Or.inr (Or.inr (Or.inr (Or.inr (Or.inr (Or.inr (Or.inr (Or.inr (Or.inl (e)))))))))))))))) | exact Or.inr (Or.inr (Or.inr (Or.inr (Or.inr (Or.inr (Or.inr (Or.inr (Or.inr (Or.inr (Or.inr (Or.inr (Or.inr (Or.inr (Or.inr (Or.inr (Or.inl (e))))))))))))))))) | exact Or.inr (Or.inr (Or.inr (Or.inr (Or.inr (Or.inr (Or.inr (Or.inr (Or.inr (Or.inr (Or.inr (Or.inr (Or.inr (Or.inr (Or.inr (Or.inr (Or.inr (Or.inl (e)))))))))))))))))) | exact Or.inr (Or.inr (Or.inr (Or.inr (Or.inr (Or.inr (Or.inr (Or.inr (Or.inr (Or.inr (Or.inr (Or.inr (Or.inr (Or.inr (Or.inr (Or.inr (Or.inr (Or.inr (Or.inl (e))))))))))))))))))) | exact Or.inr (Or.inr (Or.inr (Or.inr (Or.inr (Or.inr (Or.inr (Or.inr (Or.inr (Or.inr (Or.inr (Or.inr (Or.inr (Or.inr (Or.inr (Or.inr (Or.inr (Or.inr (Or.inr (Or.inl (e)))))))))))))))))))) | exact Or.inr (Or.inr (Or.inr (Or.inr (Or.inr (Or.inr (Or.inr (Or.inr (Or.inr (Or.inr (Or.inr (Or.inr (Or.inr (Or.inr (Or.inr (Or.inr (Or.inr (Or.inr (Or.inr (Or.inr (Or.inr (Or.inl (e)))))))))))))))))))))) | exact Or.inr (Or.inr (Or.inr (Or.inr (Or.inr (Or.inr (Or.inr (Or.inr (Or.inr (Or.inr (Or.inr (Or.inr (Or.inr (Or.inr (Or.inr (Or.inr (Or.inr (Or.inr (Or.inr (Or.inr (Or.inr (Or.inr (Or.inl (e))))))))))))))))))))))) | exact Or.inr (Or.inr (Or.inr (Or.inr (Or.inr (Or.inr (Or.inr (Or.inr (Or.inr (Or.inr (Or.inr (Or.inr (Or.inr (Or.inr (Or.inr (Or.inr (Or.inr (Or.inr (Or.inr (Or.inr (Or.inr (Or.inr (Or.inr (Or.inl (e)))))))))))))))))))))))) | exact Or.inr (Or.inr (Or.inr (Or.inr (Or.inr (Or.inr (Or.inr (Or.inr (Or.inr (Or.inr (Or.inr (Or.inr (Or.inr (Or.inr (Or.inr (Or.inr (Or.inr (Or.inr (Or.inr (Or.inr (Or.inr (Or.inr (Or.inr (Or.inr (Or.inl (e))))))))))))))))))))))))) | exact Or.inr (Or.inr (Or.inr (Or.inr (Or.inr (Or.inr (Or.inr (Or.inr (Or.inr (Or.inr (Or.inr (Or.inr (Or.inr (Or.inr (Or.inr (Or.inr (Or.inr (Or.inr (Or.inr (Or.inr (Or.inr (Or.inr (Or.inr (Or.inr (Or.inr (Or.inl (e)))))))))))))))))))))))))) | exact Or.inr (Or.inr (Or.inr (Or.inr (Or.inr (Or.inr (Or.inr (Or.inr (Or.inr (Or.inr (Or.inr (Or.inr (Or.inr (Or.inr (Or.inr (Or.inr (Or.inr (Or.inr (Or.inr (Or.inr (Or.inr (Or.inr (Or.inr (Or.inr (Or.inr (Or.inr (Or.inl (e))))))))))))))))))))))))))) | exact Or.inr (Or.inr (Or.inr (Or.inr (Or.inr (Or.inr (Or.inr (Or.inr (Or.inr (Or.inr (Or.inr (Or.inr (Or.inr (Or.inr (Or.inr (Or.inr (Or.inr (Or.inr (Or.inr (Or.inr (Or.inr (Or.inr (Or.inr (Or.inr (Or.inr (Or.inr (Or.inr (Or.inl (e)))))))))))))))))))))))))))) | exact Or.inr (Or.inr (Or.inr (Or.inr (Or.inr (Or.inr (Or.inr (Or.inr (Or.inr (Or.inr (Or.inr (Or.inr (Or.inr (Or.inr (Or.inr (Or.inr (Or.inr (Or.inr (Or.inr (Or.inr (Or.inr (Or.inr (Or.inr (Or.inr (Or.inr (Or.inr (Or.inr (Or.inr (Or.inl (e))))))))))))))))))))))))))))) | exact Or.inr (Or.inr (Or.inr (Or.inr (Or.inr (Or.inr (Or.inr (Or.inr (Or.inr (Or.inr (Or.inr (Or.inr (Or.inr (Or.inr (Or.inr (Or.inr (Or.inr (Or.inr (Or.inr (Or.inr (Or.inr (Or.inr (Or.inr (Or.inr (Or.inr (Or.inr (Or.inr (Or.inr (Or.inr (Or.inl (e))))))))))))))))))))))))))))))) (fun x k hx => False.elim hx) (fun r30 h28 F1 => ?_)
  refine fe_it ?_ ?_
  · refine fe_b1 F1 (fe_mSide_tellFound _ _ _) (fun x k hx => by simp only [wI_mSide_tellFound, F1.r] at hx; rcases hx with e | e | e | e | e | e | e | e | e | e | e | e | e | e | e | e <;> first | exact Or.inl (e) | exact Or.inr (Or.inl (e)) | exact Or.inr (Or.inr (Or.inl (e))) | exact Or.inr (Or.inr (Or.inr (Or.inr (Or.inl (e))))) | exact Or.inr (Or.inr (Or.inr (Or.inr (Or.inr (Or.inl (e)))))) | exact Or.inr (Or.inr (Or.inr (Or.inr (Or.inr (Or.inr (Or.inl (e))))))) | exact Or.inr (Or.inr (Or.inr (Or.inr (Or.inr (Or.inr (Or.inr (Or.inl (e)))))))) | exact Or.inr (Or.inr (Or.inr (Or.inr (Or.inr (Or.inr (Or.inr (Or.inr (Or.inl (e))))))))) | exact Or.inr (Or.inr (Or.inr (Or.inr (Or.inr (Or.inr (Or.inr (Or.inr (Or.inr (Or.inl (e)))))))))) | exact Or.inr (Or.inr (Or.inr (Or.inr (Or.inr (Or.inr (Or.inr (Or.inr (Or.inr (Or.inr (Or.inl (e))))))))))) | exact Or.inr (Or.inr (Or.inr (Or.inr (Or.inr (Or.inr (Or.inr (Or.inr (Or.inr (Or.inr (Or.inr (Or.inl (e)))))))))))) | exact Or.inr (Or.inr (Or.inr (Or.inr (Or.inr (Or.inr (Or.inr (Or.inr (Or.inr (Or.inr (Or.inr (Or.inr (Or.inl (e))))))))))))) | exact Or.inr (Or.inr (Or.inr (Or.inr (Or.inr (Or.inr (Or.inr (Or.inr (Or.inr (Or.inr (Or.inr (Or.inr (Or.inr (Or.inl (e)))))))))))))) | exact Or.inr (Or.inr (Or.inr (Or.inr (Or.inr (Or.inr (Or.inr (Or.inr (Or.inr (Or.inr (Or.inr (Or.inr (Or.inr (Or.inr (Or.inr (Or.inr (Or.inr (Or.inr (Or.inr (Or.inr (Or.inl (e))))))))))))))))))))) | exact Or.inr (Or.inr (Or.inr (Or.inr (Or.inr (Or.inr (Or.inr (Or.inr (Or.inr (Or.inr (Or.inr (Or.inr (Or.inr (Or.inr (Or.inr (Or.inr (Or.inr (Or.inr (Or.inr (Or.inr (Or.inr (Or.inr (Or.inr (Or.inr (Or.inr (Or.inr (Or.inr (Or.inr (Or.inr (Or.inr (Or.inl (e))))))))))))))))))))))))))))))) | exact Or.inr (Or.inr (Or.inr (Or.inr (Or.inr (Or.inr (Or.inr (Or.inr (Or.inr (Or.inr (Or.inr (Or.inr (Or.inr (Or.inr (Or.inr (Or.inr (Or.inr (Or.inr (Or.inr (Or.inr (Or.inr (Or.inr (Or.inr (Or.inr (Or.inr (Or.inr (Or.inr (Or.inr (Or.inr (Or.inr (Or.inr (e)))))))))))))))))))))))))))))))) (fun x k hx => by simp only [wJ_mSide_tellFound, F1.r] at hx; rcases hx with e | e <;> first | exact Or.inl (e) | exact Or.inr (e)) (fun h31 F2 => ?_)
    exact fe_so F2
  · exact fe_so F1
theorem fe_mSide_acknowledged_b41 {k41 : Nat → Int → Int → Int → Hp → Option (Int × Hp)} (hk41 : ∀ (v0 : Nat) (v1 : Int) (v2 : Int) (v3 : Int) (h : Hp), Feo (wI_mSide_acknowledged_b41 v0 v1 v2 v3 h) (wJ_mSide_acknowledged_b41 v0 v1 v2 v3 h) h Prod.snd (k41 v0 v1 v2 v3 h)) (v0 : Nat) (v1 : Int) (v2 : Int) (v3 : Int) (h : Hp) : Feo (wI_mSide_acknowledged_b41 v0 v1 v2 v3 h) (wJ_mSide_acknowledged_b41 v0 v1 v2 v3 h) h Prod.snd (f_mSide_acknowledged_b41 k41 v0 v1 v2 v3 h) := by
  unfold f_mSide_acknowledged_b41
  refine fe_it ?_ ?_
  · refine fe_it fe_no ?_
    refine fe_I Fe.rf (Or.inr (Or.inr (Or.inr (Or.inr (Or.inr (Or.inr (Or.inr (Or.inr (Or.inr (Or.inr (Or.inr (Or.inr (Or.inr (Or.inr (Or.inr (Or.inr (Or.inr (Or.inr (Or.inr (Or.inr (Or.inr (Or.inr (Or.inr (Or.inr (Or.inr (Or.inr (Or.inr (Or.inr (Or.inr (Or.inr (Or.inr (Or.inr (Or.inl (⟨rfl, rfl⟩)))))))))))))))))))))))))))))))))) (fun h6 F1 => ?_)
    refine fe_it fe_no ?_
    refine fe_it fe_no ?_
    refine fe_it ?_ fe_no
    refine fe_it ?_ ?_
    · refine fe_it ?_ fe_no
      exact fe_j F1 (fe_mSide_acknowledged_b132 _ _ _ _ _ _) (fun x k hx => by simp only [wI_mSide_acknowledged_b132, F1.r] at hx; rcases hx with e | e | e | e | e | e | e | e | e | e | e | e | e | e | e | e | e | e | e | e | e | e | e | e | e | e | e | e | e | e | e | e <;> first | exact Or.inl (e) | exact Or.inr (Or.inl (e)) | exact Or.inr (Or.inr (Or.inl (e))) | exact Or.inr (Or.inr (Or.inr (Or.inl (e)))) | exact Or.inr (Or.inr (Or.inr (Or.inr (Or.inr (Or.inr (Or.inl (e))))))) | exact Or.inr (Or.inr (Or.inr (Or.inr (Or.inr (Or.inr (Or.inr (Or.inl (e)))))))) | exact Or.inr (Or.inr (Or.inr (Or.inr (Or.inr (Or.inr (Or.inr (Or.inr (Or.inl (e))))))))) | exact Or.inr (Or.inr (Or.inr (Or.inr (Or.inr (Or.inr (Or.inr (Or.inr (Or.inr (Or.inl (e)))))))))) | exact Or.inr (Or.inr (Or.inr (Or.inr (Or.inr (Or.inr (Or.inr (Or.inr (Or.inr (Or.inr (Or.inl (e))))))))))) | exact Or.inr (Or.inr (Or.inr (Or.inr (Or.inr (Or.inr (Or.inr (Or.inr (Or.inr (Or.inr (Or.inr (Or.inl (e)))))))))))) | exact Or.inr (Or.inr (Or.inr (Or.inr (Or.inr (Or.inr (Or.inr (Or.inr (Or.inr (Or.inr (Or.inr (Or.inr (Or.inl (e))))))))))))) | exact Or.inr (Or.inr (Or.inr (Or.inr (Or.inr (Or.inr (Or.inr (Or.inr (Or.inr (Or.inr (Or.inr (Or.inr (Or.inr (Or.inl (e)))))))))))))) | exact Or.inr (Or.inr (Or.inr (Or.inr (Or.inr (Or.inr (Or.inr (Or.inr (Or.inr (Or.inr (Or.inr (Or.inr (Or.inr (Or.inr (Or.inl (e))))))))))))))) | exact Or.inr (Or.inr (Or.inr (Or.inr (Or.inr (Or.inr (Or.inr (Or.inr (Or.inr (Or.inr (Or.inr (Or.inr (Or.inr (Or.inr (Or.inr (Or.inl (e)))))))))))))))) | exact Or.inr (Or.inr (Or.inr (Or.inr (Or.inr (Or.inr (Or.inr (Or.inr (Or.inr (Or.inr (Or.inr (Or.inr (Or.inr (Or.inr (Or.inr (Or.inr (Or.inl (e))))))))))))))))) | exact Or.inr (Or.inr (Or.inr (Or.inr (Or.inr (Or.inr (Or.inr (Or.inr (Or.inr (Or.inr (Or.inr (Or.inr (Or.inr (Or.inr (Or.inr (Or.inr (Or.inr (Or.inl (e)))))))))))))))))) | exact Or.inr (Or.inr (Or.inr (Or.inr (Or.inr (Or.inr (Or.inr (Or.inr (Or.inr (Or.inr (Or.inr (Or.inr (Or.inr (Or.inr (Or.inr (Or.inr (Or.inr (Or.inr (Or.inl (e))))))))))))))))))) | exact Or.inr (Or.inr (Or.inr (Or.inr (Or.inr (Or.inr (Or.inr (Or.inr (Or.inr (Or.inr (Or.inr (Or.inr (Or.inr (Or.inr (Or.inr (Or.inr (Or.inr (Or.inr (Or.inr (Or.inl (e)))))))))))))))))))) | exact Or.inr (Or.inr (Or.inr (Or.inr (Or.inr (Or.inr (Or.inr (Or.inr (Or.inr (Or.inr (Or.inr (Or.inr (Or.inr (Or.inr (Or.inr (Or.inr (Or.inr (Or.inr (Or.inr (Or.inr (Or.inl (e))))))))))))))))))))) | exact Or.inr (Or.inr (Or.inr (Or.inr (Or.inr (Or.inr (Or.inr (Or.inr (Or.inr (Or.inr (Or.inr (Or.inr (Or.inr (Or.inr (Or.inr (Or.inr (Or.inr (Or.inr (Or.inr (Or.inr (Or.inr (Or.inl (e)))))))))))))))))))))) | exact Or.inr (Or.inr (Or.inr (Or.inr (Or.inr (Or.inr (Or.inr (Or.inr (Or.inr (Or.inr (Or.inr (Or.inr (Or.inr (Or.inr (Or.inr (Or.inr (Or.inr (Or.inr (Or.inr (Or.inr (Or.inr (Or.inr (Or.inl (e))))))))))))))))))))))) | exact Or.inr (Or.inr (Or.inr (Or.inr (Or.inr (Or.inr (Or.inr (Or.inr (Or.inr (Or.inr (Or.inr (Or.inr (Or.inr (Or.inr (Or.inr (Or.inr (Or.inr (Or.inr (Or.inr (Or.inr (Or.inr (Or.inr (Or.inr (Or.inl (e)))))))))))))))))))))))) | exact Or.inr (Or.inr (Or.inr (Or.inr (Or.inr (Or.inr (Or.inr (Or.inr (Or.inr (Or.inr (Or.inr (Or.inr (Or.inr (Or.inr (Or.inr (Or.inr (Or.inr (Or.inr (Or.inr (Or.inr (Or.inr (Or.inr (Or.inr (Or.inr (Or.inl (e))))))))))))))))))))))))) | exact Or.inr (Or.inr (Or.inr (Or.inr (Or.inr (Or.inr (Or.inr (Or.inr (Or.inr (Or.inr (Or.inr (Or.inr (Or.inr (Or.inr (Or.inr (Or.inr (Or.inr (Or.inr (Or.inr (Or.inr (Or.inr (Or.inr (Or.inr (Or.inr (Or.inr (Or.inl (e)))))))))))))))))))))))))) | exact Or.inr (Or.inr (Or.inr (Or.inr (Or.inr (Or.inr (Or.inr (Or.inr (Or.inr (Or.inr (Or.inr (Or.inr (Or.inr (Or.inr (Or.inr (Or.inr (Or.inr (Or.inr (Or.inr (Or.inr (Or.inr (Or.inr (Or.inr (Or.inr (Or.inr (Or.inr (Or.inl (e))))))))))))))))))))))))))) | exact Or.inr (Or.inr (Or.inr (Or.inr (Or.inr (Or.inr (Or.inr (Or.inr (Or.inr (Or.inr (Or.inr (Or.inr (Or.inr (Or.inr (Or.inr (Or.inr (Or.inr (Or.inr (Or.inr (Or.inr (Or.inr (Or.inr (Or.inr (Or.inr (Or.inr (Or.inr (Or.inr (Or.inl (e)))))))))))))))))))))))))))) | exact Or.inr (Or.inr (Or.inr (Or.inr (Or.inr (Or.inr (Or.inr (Or.inr (Or.inr (Or.inr (Or.inr (Or.inr (Or.inr (Or.inr (Or.inr (Or.inr (Or.inr (Or.inr (Or.inr (Or.inr (Or.inr (Or.inr (Or.inr (Or.inr (Or.inr (Or.inr (Or.inr (Or.inr (Or.inl (e))))))))))))))))))))))))))))) | exact Or.inr (Or.inr (Or.inr (Or.inr (Or.inr (Or.inr (Or.inr (Or.inr (Or.inr (Or.inr (Or.inr (Or.inr (Or.inr (Or.inr (Or.inr (Or.inr (Or.inr (Or.inr (Or.inr (Or.inr (Or.inr (Or.inr (Or.inr (Or.inr (Or.inr (Or.inr (Or.inr (Or.inr (Or.inr (Or.inl (e)))))))))))))))))))))))))))))) | exact Or.inr (Or.inr (Or.inr (Or.inr (Or.inr (Or.inr (Or.inr (Or.inr (Or.inr (Or.inr (Or.inr (Or.inr (Or.inr (Or.inr (Or.inr (Or.inr (Or.inr (Or.inr (Or.inr (Or.inr (Or.inr (Or.inr (Or.inr (Or.inr (Or.inr (Or.inr (Or.inr (Or.inr (Or.inr (Or.inr (Or.inl (e))))))))))))))))))))))))))))))) | exact Or.inr (Or.inr (Or.inr (Or.inr (Or.inr (Or.inr (Or.inr (Or.inr (Or.inr (Or.inr (Or.inr (Or.inr (Or.inr (Or.inr (Or.inr (Or.inr (Or.inr (Or.inr (Or.inr (Or.inr (Or.inr (Or.inr (Or.inr (Or.inr (Or.inr (Or.inr (Or.inr (Or.inr (Or.inr (Or.inr (Or.inr (Or.inl (e)))))))))))))))))))))))))))))))) | exact Or.inr (Or.inr (Or.inr (Or.inr (Or.inr (Or.inr (Or.inr (Or.inr (Or.inr (Or.inr (Or.inr (Or.inr (Or.inr (Or.inr (Or.inr (Or.inr (Or.inr (Or.inr (Or.inr (Or.inr (Or.inr (Or.inr (Or.inr (Or.inr (Or.inr (Or.inr (Or.inr (Or.inr (Or.inr (Or.inr (Or.inr (Or.inr (Or.inr (Or.inl (e)))))))))))))))))))))))))))))))))) | exact Or.inr (Or.inr (Or.inr (Or.inr (Or.inr (Or.inr (Or.inr (Or.inr (Or.inr (Or.inr (Or.inr (Or.inr (Or.inr (Or.inr (Or.inr (Or.inr (Or.inr (Or.inr (Or.inr (Or.inr (Or.inr (Or.inr (Or.inr (Or.inr (Or.inr (Or.inr (Or.inr (Or.inr (Or.inr (Or.inr (Or.inr (Or.inr (Or.inr (Or.inr (e))))))))))))))))))))))))))))))))))) (fun x k hx => by simp only [wJ_mSide_acknowledged_b132, F1.r] at hx; rcases hx with e | e <;> first | exact Or.inl (e) | exact Or.inr (Or.inl (e)))
    · exact fe_j F1 (fe_mSide_acknowledged_b132 _ _ _ _ _ _) (fun x k hx => by simp only [wI_mSide_acknowledged_b132, F1.r] at hx; rcases hx with e | e | e | e | e | e | e | e | e | e | e | e | e | e | e | e | e | e | e | e | e | e | e | e | e | e | e | e | e | e | e | e <;> first | exact Or.inl (e) | exact Or.inr (Or.inl (e)) | exact Or.inr (Or.inr (Or.inl (e))) | exact Or.inr (Or.inr (Or.inr (Or.inl (e)))) | exact Or.inr (Or.inr (Or.inr (Or.inr (Or.inr (Or.inr (Or.inl (e))))))) | exact Or.inr (Or.inr (Or.inr (Or.inr (Or.inr (Or.inr (Or.inr (Or.inl (e)))))))) | exact Or.inr (Or.inr (Or.inr (Or.inr (Or.inr (Or.inr (Or.inr (Or.inr (Or.inl (e))))))))) | exact Or.inr (Or.inr (Or.inr (Or.inr (Or.inr (Or.inr (Or.inr (Or.inr (Or.inr (Or.inl (e)))))))))) | exact Or.inr (Or.inr (Or.inr (Or.inr (Or.inr (Or.inr (Or.inr (Or.inr (Or.inr (Or.inr (Or.inl (e))))))))))) | exact Or.inr (Or.inr (Or.inr (Or.inr (Or.inr (Or.inr (Or.inr (Or.inr (Or.inr (Or.inr (Or.inr (Or.inl (e)))))))))))) | exact Or.inr (Or.inr (Or.inr (Or.inr (Or.inr (Or.inr (Or.inr (Or.inr (Or.inr (Or.inr (Or.inr (Or.inr (Or.inl (e))))))))))))) | exact Or.inr (Or.inr (Or.inr (Or.inr (Or.inr (Or.inr (Or.inr (Or.inr (Or.inr (Or.inr (Or.inr (Or.inr (Or.inr (Or.inl (e)))))))))))))) | exact Or.inr (Or.inr (Or.inr (Or.inr (Or.inr (Or.inr (Or.inr (Or.inr (Or.inr (Or.inr (Or.inr (Or.inr (Or.inr (Or.inr (Or.inl (e))))))))))))))) | exact Or.inr (Or.inr (Or.inr (Or.inr (Or.inr (Or.inr (Or.inr (Or.inr (Or.inr (Or.inr (Or.inr (Or.inr (Or.inr (Or.inr (Or.inr (Or.inl (e)))))))))))))))) | exact Or.inr (Or.inr (Or.inr (Or.inr (Or.inr (Or.inr (Or.inr (Or.inr (Or.inr (Or.inr (Or.inr (Or.inr (Or.inr (Or.inr (Or.inr (Or.inr (Or.inl (e))))))))))))))))) | exact Or.inr (Or.inr (Or.inr (Or.inr (Or.inr (Or.inr (Or.inr (Or.inr (Or.inr (Or.inr (Or.inr (Or.inr (Or.inr (Or.inr (Or.inr (Or.inr (Or.inr (Or.inl (e)))))))))))))))))) | exact Or.inr (Or.inr (Or.inr (Or.inr (Or.inr (Or.inr (Or.inr (Or.inr (Or.inr (Or.inr (Or.inr (Or.inr (Or.inr (Or.inr (Or.inr (Or.inr (Or.inr (Or.inr (Or.inl (e))))))))))))))))))) | exact Or.inr (Or.inr (Or.inr (Or.inr (Or.inr (Or.inr (Or.inr (Or.inr (Or.inr (Or.inr (Or.inr (Or.inr (Or.inr (Or.inr (Or.inr (Or.inr (Or.inr (Or.inr (Or.inr (Or.inl (e)))))))))))))))))))) | exact Or.inr (Or.inr (Or.inr (Or.inr (Or.inr (Or.inr (Or.inr (Or.inr (Or.inr (Or.inr (Or.inr (Or.inr (Or.inr (Or.inr (Or.inr (Or.inr (Or.inr (Or.inr (Or.inr (Or.inr (Or.inl (e))))))))))))))))))))) | exact Or.inr (Or.inr (Or.inr (Or.inr (Or.inr (Or.inr (Or.inr (Or.inr (Or.inr (Or.inr (Or.inr (Or.inr (Or.inr (Or.inr (Or.inr (Or.inr (Or.inr (Or.inr (Or.inr (Or.inr (Or.inr (Or.inl (e)))))))))))))))))))))) | exact Or.inr (Or.inr (Or.inr (Or.inr (Or.inr (Or.inr (Or.inr (Or.inr (Or.inr (Or.inr (Or.inr (Or.inr (Or.inr (Or.inr (Or.inr (Or.inr (Or.inr (Or.inr (Or.inr (Or.inr (Or.inr (Or.inr (Or.inl (e))))))))))))))))))))))) | exact Or.inr (Or.inr (Or.inr (Or.inr (Or.inr (Or.inr (Or.inr (Or.inr (Or.inr (Or.inr (Or.inr (Or.inr (Or.inr (Or.inr (Or.inr (Or.inr (Or.inr (Or.inr (Or.inr (Or.inr (Or.inr (Or.inr (Or.inr (Or.inl (e)))))))))))))))))))))))) | exact Or.inr (Or.inr (Or.inr (Or.inr (Or.inr (Or.inr (Or.inr (Or.inr (Or.inr (Or.inr (Or.inr (Or.inr (Or.inr (Or.inr (Or.inr (Or.inr (Or.inr (Or.inr (Or.inr (Or.inr (Or.inr (Or.inr (Or.inr (Or.inr (Or.inl (e))))))))))))))))))))))))) | exact Or.inr (Or.inr (Or.inr (Or.inr (Or.inr (Or.inr (Or.inr (Or.inr (Or.inr (Or.inr (Or.inr (Or.inr (Or.inr (Or.inr (Or.inr (Or.inr (Or.inr (Or.inr (Or.inr (Or.inr (Or.inr (Or.inr (Or.inr (Or.inr (Or.inr (Or.inl (e)))))))))))))))))))))))))) | exact Or.inr (Or.inr (Or.inr (Or.inr (Or.inr (Or.inr (Or.inr (Or.inr (Or.inr (Or.inr (Or.inr (Or.inr (Or.inr (Or.inr (Or.inr (Or.inr (Or.inr (Or.inr (Or.inr (Or.inr (Or.inr (Or.inr (Or.inr (Or.inr (Or.inr (Or.inr (Or.inl (e))))))))))))))))))))))))))) | exact Or.inr (Or.inr (Or.inr (Or.inr (Or.inr (Or.inr (Or.inr (Or.inr (Or.inr (Or.inr (Or.inr (Or.inr (Or.inr (Or.inr (Or.inr (Or.inr (Or.inr (Or.inr (Or.inr (Or.inr (Or.inr (Or.inr (Or.inr (Or.inr (Or.inr (Or.inr (Or.inr (Or.inl (e)))))))))))))))))))))))))))) | exact Or.inr (Or.inr (Or.inr (Or.inr (Or.inr (Or.inr (Or.inr (Or.inr (Or.inr (Or.inr (Or.inr (Or.inr (Or.inr (Or.inr (Or.inr (Or.inr (Or.inr (Or.inr (Or.inr (Or.inr (Or.inr (Or.inr (Or.inr (Or.inr (Or.inr (Or.inr (Or.inr (Or.inr (Or.inl (e))))))))))))))))))))))))))))) | exact Or.inr (Or.inr (Or.inr (Or.inr (Or.inr (Or.inr (Or.inr (Or.inr (Or.inr (Or.inr (Or.inr (Or.inr (Or.inr (Or.inr (Or.inr (Or.inr (Or.inr (Or.inr (Or.inr (Or.inr (Or.inr (Or.inr (Or.inr (Or.inr (Or.inr (Or.inr (Or.inr (Or.inr (Or.inr (Or.inl (e)))))))))))))))))))))))))))))) | exact Or.inr (Or.inr (Or.inr (Or.inr (Or.inr (Or.inr (Or.inr (Or.inr (Or.inr (Or.inr (Or.inr (Or.inr (Or.inr (Or.inr (Or.inr (Or.inr (Or.inr (Or.inr (Or.inr (Or.inr (Or.inr (Or.inr (Or.inr (Or.inr (Or.inr (Or.inr (Or.inr (Or.inr (Or.inr (Or.inr (Or.inl (e))))))))))))))))))))))))))))))) | exact Or.inr (Or.inr (Or.inr (Or.inr (Or.inr (Or.inr (Or.inr (Or.inr (Or.inr (Or.inr (Or.inr (Or.inr (Or.inr (Or.inr (Or.inr (Or.inr (Or.inr (Or.inr (Or.inr (Or.inr (Or.inr (Or.inr (Or.inr (Or.inr (Or.inr (Or.inr (Or.inr (Or.inr (Or.inr (Or.inr (Or.inr (Or.inl (e)))))))))))))))))))))))))))))))) | exact Or.inr (Or.inr (Or.inr (Or.inr (Or.inr (Or.inr (Or.inr (Or.inr (Or.inr (Or.inr (Or.inr (Or.inr (Or.inr (Or.inr (Or.inr (Or.inr (Or.inr (Or.inr (Or.inr (Or.inr (Or.inr (Or.inr (Or.inr (Or.inr (Or.inr (Or.inr (Or.inr (Or.inr (Or.inr (Or.inr (Or.inr (Or.inr (Or.inr (Or.inl (e)))))))))))))))))))))))))))))))))) | exact Or.inr (Or.inr (Or.inr (Or.inr (Or.inr (Or.inr (Or.inr (Or.inr (Or.inr (Or.inr (Or.inr (Or.inr (Or.inr (Or.inr (Or.inr (Or.inr (Or.inr (Or.inr (Or.inr (Or.inr (Or.inr (Or.inr (Or.inr (Or.inr (Or.inr (Or.inr (Or.inr (Or.inr (Or.inr (Or.inr (Or.inr (Or.inr (Or.inr (Or.inr (e))))))))))))))))))))))))))))))))))) (fun x k hx => by simp only [wJ_mSide_acknowledged_b132, F1.r] at hx; rcases hx with e | e <;> first | exact Or.inl (e) | exact Or.inr (Or.inl (e)))
  · refine fe_it fe_no ?_
    refine fe_it fe_no ?_
    refine fe_b2 Fe.rf (fe_mWire_edge _ _ _ _) (fun x k hx => by simp only [wI_mWire_edge] at hx; rcases hx with e | e <;> first | exact Or.inr (Or.inr (Or.inr (Or.inr (Or.inl (e))))) | exact Or.inr (Or.inr (Or.inr (Or.inr (Or.inr (Or.inl (e))))))) (fun x k hx => False.elim hx) (fun r15 h13 F2 => ?_)
    refine fe_it fe_no ?_
    refine fe_it ?_ fe_no
    refine fe_J F2 (Or.inr (Or.inr (Or.inl (rfl)))) (fun h18 F3 => ?_)
    refine fe_it fe_no ?_
    refine fe_it fe_no ?_
    refine fe_b2 F3 (fe_mWire_edge _ _ _ _) (fun x k hx => by simp only [wI_mWire_edge, F2.r, F3.r] at hx; rcases hx with e | e <;> first | exact Or.inr (Or.inr (Or.inr (Or.inr (Or.inl (e))))) | exact Or.inr (Or.inr (Or.inr (Or.inr (Or.inr (Or.inl (e))))))) (fun x k hx => False.elim hx) (fun r23 h21 F4 => ?_)
    refine fe_it fe_no ?_
    refine fe_it ?_ fe_no
    refine fe_J F4 (Or.inr (Or.inr (Or.inr ((by first | (simp only [F2.r, F3.r, F4.r]; exact rfl) | simp only [F2.r, F3.r, F4.r]))))) (fun h26 F5 => ?_)
    exact fe_j F5 (hk41 _ _ _ _ _) (fun x k hx => by simp only [wI_mSide_acknowledged_b41, F2.r, F3.r, F4.r, F5.r] at hx; rcases hx with e | e | e | e | e | e | e | e | e | e | e | e | e | e | e | e | e | e | e | e | e | e | e | e | e | e | e | e | e | e | e | e | e | e | e <;> first | exact Or.inl (e) | exact Or.inr (Or.inl (e)) | exact Or.inr (Or.inr (Or.inl (e))) | exact Or.inr (Or.inr (Or.inr (Or.inl (e)))) | exact Or.inr (Or.inr (Or.inr (Or.inr (Or.inl (e))))) | exact Or.inr (Or.inr (Or.inr (Or.inr (Or.inr (Or.inl (e)))))) | exact Or.inr (Or.inr (Or.inr (Or.inr (Or.inr (Or.inr (Or.inl (e))))))) | exact Or.inr (Or.inr (Or.inr (Or.inr (Or.inr (Or.inr (Or.inr (Or.inl (e)))))))) | exact Or.inr (Or.inr (Or.inr (Or.inr (Or.inr (Or.inr (Or.inr (Or.inr (Or.inl (e))))))))) | exact Or.inr (Or.inr (Or.inr (Or.inr (Or.inr (Or.inr (Or.inr (Or.inr (Or.inr (Or.inl (e)))))))))) | exact Or.inr (Or.inr (Or.inr (Or.inr (Or.inr (Or.inr (Or.inr (Or.inr (Or.inr (Or.inr (Or.inl (e))))))))))) | exact Or.inr (Or.inr (Or.inr (Or.inr (Or.inr (Or.inr (Or.inr (Or.inr (Or.inr (Or.inr (Or.inr (Or.inl (e)))))))))))) | exact Or.inr (Or.inr (Or.inr (Or.inr (Or.inr (Or.inr (Or.inr (Or.inr (Or.inr (Or.inr (Or.inr (Or.inr (Or.inl (e))))))))))))) | exact Or.inr (Or.inr (Or.inr (Or.inr (Or.inr (Or.inr (Or.inr (Or.inr (Or.inr (Or.inr (Or.inr (Or.inr (Or.inr (Or.inl (e)))))))))))))) | exact Or.inr (Or.inr (Or.inr (Or.inr (Or.inr (Or.inr (Or.inr (Or.inr (Or.inr (Or.inr (Or.inr (Or.inr (Or.inr (Or.inr (Or.inl (e))))))))))))))) | exact Or.inr (Or.inr (Or.inr (Or.inr (Or.inr (Or.inr (Or.inr (Or.inr (Or.inr (Or.inr (Or.inr (Or.inr (Or.inr (Or.inr (Or.inr (Or.inl (e)))))))))))))))) | exact Or.inr (Or.inr (Or.inr (Or.inr (Or.inr (Or.inr (Or.inr (Or.inr (Or.inr (Or.inr (Or.inr (Or.inr (Or.inr (Or.inr (Or.inr (Or.inr (Or.inl (e))))))))))))))))) | exact Or.inr (Or.inr (Or.inr (Or.inr (Or.inr (Or.inr (Or.inr (Or.inr (Or.inr (Or.inr (Or.inr (Or.inr (Or.inr (Or.inr (Or.inr (Or.inr (Or.inr (Or.inl (e)))))))))))))))))) | exact Or.inr (Or.inr (Or.inr (Or.inr (Or.inr (Or.inr (Or.inr (Or.inr (Or.inr (Or.inr (Or.inr (Or.inr (Or.inr (Or.inr (Or.inr (Or.inr (Or.inr (Or.inr (Or.inl (e))))))))))))))))))) | exact Or.inr (Or.inr (Or.inr (Or.inr (Or.inr (Or.inr (Or.inr (Or.inr (Or.inr (Or.inr (Or.inr (Or.inr (Or.inr (Or.inr (Or.inr (Or.inr (Or.inr (Or.inr (Or.inr (Or.inl (e)))))))))))))))))))) | exact Or.inr (Or.inr (Or.inr (Or.inr (Or.inr (Or.inr (Or.inr (Or.inr (Or.inr (Or.inr (Or.inr (Or.inr (Or.inr (Or.inr (Or.inr (Or.inr (Or.inr (Or.inr (Or.inr (Or.inr (Or.inl (e))))))))))))))))))))) | exact Or.inr (Or.inr (Or.inr (Or.inr (Or.inr (Or.inr (Or.inr (Or.inr (Or.inr (Or.inr (Or.inr (Or.inr (Or.inr (Or.inr (Or.inr (Or.inr (Or.inr (Or.inr (Or.inr (Or.inr (Or.inr (Or.inl (e)))))))))))))))))))))) | exact Or.inr (Or.inr (Or.inr (Or.inr (Or.inr (Or.inr (Or.inr (Or.inr (Or.inr (Or.inr (Or.inr (Or.inr (Or.inr (Or.inr (Or.inr (Or.inr (Or.inr (Or.inr (Or.inr (Or.inr (Or.inr (Or.inr (Or.inl (e))))))))))))))))))))))) | exact Or.inr (Or.inr (Or.inr (Or.inr (Or.inr (Or.inr (Or.inr (Or.inr (Or.inr (Or.inr (Or.inr (Or.inr (Or.inr (Or.inr (Or.inr (Or.inr (Or.inr (Or.inr (Or.inr (Or.inr (Or.inr (Or.inr (Or.inr (Or.inl (e)))))))))))))))))))))))) | exact Or.inr (Or.inr (Or.inr (Or.inr (Or.inr (Or.inr (Or.inr (Or.inr (Or.inr (Or.inr (Or.inr (Or.inr (Or.inr (Or.inr (Or.inr (Or.inr (Or.inr (Or.inr (Or.inr (Or.inr (Or.inr (Or.inr (Or.inr (Or.inr (Or.inl (e))))))))))))))))))))))))) | exact Or.inr (Or.inr (Or.inr (Or.inr (Or.inr (Or.inr (Or.inr (Or.inr (Or.inr (Or.inr (Or.inr (Or.inr (Or.inr (Or.inr (Or.inr (Or.inr (Or.inr (Or.inr (Or.inr (Or.inr (Or.inr (Or.inr (Or.inr (Or.inr (Or.inr (Or.inl (e)))))))))))))))))))))))))) | exact Or.inr (Or.inr (Or.inr (Or.inr (Or.inr (Or.inr (Or.inr (Or.inr (Or.inr (Or.inr (Or.inr (Or.inr (Or.inr (Or.inr (Or.inr (Or.inr (Or.inr (Or.inr (Or.inr (Or.inr (Or.inr (Or.inr (Or.inr (Or.inr (Or.inr (Or.inr (Or.inl (e))))))))))))))))))))))))))) | exact Or.inr (Or.inr (Or.inr (Or.inr (Or.inr (Or.inr (Or.inr (Or.inr (Or.inr (Or.inr (Or.inr (Or.inr (Or.inr (Or.inr (Or.inr (Or.inr (Or.inr (Or.inr (Or.inr (Or.inr (Or.inr (Or.inr (Or.inr (Or.inr (Or.inr (Or.inr (Or.inr (Or.inl (e)))))))))))))))))))))))))))) | exact Or.inr (Or.inr (Or.inr (Or.inr (Or.inr (Or.inr (Or.inr (Or.inr (Or.inr (Or.inr (Or.inr (Or.inr (Or.inr (Or.inr (Or.inr (Or.inr (Or.inr (Or.inr (Or.inr (Or.inr (Or.inr (Or.inr (Or.inr (Or.inr (Or.inr (Or.inr (Or.inr (Or.inr (Or.inl (e))))))))))))))))))))))))))))) | exact Or.inr (Or.inr (Or.inr (Or.inr (Or.inr (Or.inr (Or.inr (Or.inr (Or.inr (Or.inr (Or.inr (Or.inr (Or.inr (Or.inr (Or.inr (Or.inr (Or.inr (Or.inr (Or.inr (Or.inr (Or.inr (Or.inr (Or.inr (Or.inr (Or.inr (Or.inr (Or.inr (Or.inr (Or.inr (Or.inl (e)))))))))))))))))))))))))))))) | exact Or.inr (Or.inr (Or.inr (Or.inr (Or.inr (Or.inr (Or.inr (Or.inr (Or.inr (Or.inr (Or.inr (Or.inr (Or.inr (Or.inr (Or.inr (Or.inr (Or.inr (Or.inr (Or.inr (Or.inr (Or.inr (Or.inr (Or.inr (Or.inr (Or.inr (Or.inr (Or.inr (Or.inr (Or.inr (Or.inr (Or.inl (e))))))))))))))))))))))))))))))) | exact Or.inr (Or.inr (Or.inr (Or.inr (Or.inr (Or.inr (Or.inr (Or.inr (Or.inr (Or.inr (Or.inr (Or.inr (Or.inr (Or.inr (Or.inr (Or.inr (Or.inr (Or.inr (Or.inr (Or.inr (Or.inr (Or.inr (Or.inr (Or.inr (Or.inr (Or.inr (Or.inr (Or.inr (Or.inr (Or.inr (Or.inr (Or.inl (e)))))))))))))))))))))))))))))))) | exact Or.inr (Or.inr (Or.inr (Or.inr (Or.inr (Or.inr (Or.inr (Or.inr (Or.inr (Or.inr (Or.inr (Or.inr (Or.inr (Or.inr (Or.inr (Or.inr (Or.inr (Or.inr (Or.inr (Or.inr (Or.inr (Or.inr (Or.inr (Or.inr (Or.inr (Or.inr (Or.inr (Or.inr (Or.inr (Or.inr (Or.inr (Or.inr (Or.inl (e))))))))))))))))))))))))))))))))) | exact Or.inr (Or.inr (Or.inr (Or.inr (Or.inr (Or.inr (Or.inr (Or.inr (Or.inr (Or.inr (Or.inr (Or.inr (Or.inr (Or.inr (Or.inr (Or.inr (Or.inr (Or.inr (Or.inr (Or.inr (Or.inr (Or.inr (Or.inr (Or.inr (Or.inr (Or.inr (Or.inr (Or.inr (Or.inr (Or.inr (Or.inr (Or.inr (Or.inr (Or.inl (e)))))))))))))))))))))))))))))))))) | exact Or.inr (Or.inr (Or.inr (Or.inr (Or.inr (Or.inr (Or.inr (Or.inr (Or.inr (Or.inr (Or.inr (Or.inr (Or.inr (Or.inr (Or.inr (Or.inr (Or.inr (Or.inr (Or.inr (Or.inr (Or.inr (Or.inr (Or.inr (Or.inr (Or.inr (Or.inr (Or.inr (Or.inr (Or.inr (Or.inr (Or.inr (Or.inr (Or.inr (Or.inr (e))))))))))))))))))))))))))))))))))) (fun x k hx => by simp only [wJ_mSide_acknowledged_b41, F2.r, F3.r, F4.r, F5.r] at hx; rcases hx with e | e | e | e <;> first | exact Or.inl (e) | exact Or.inr (Or.inl (e)) | exact Or.inr (Or.inr (Or.inl (e))) | exact Or.inr (Or.inr (Or.inr (e))))
theorem fe_mSide_acknowledged_b41_lp (n : Nat) : ∀ (v0 : Nat) (v1 : Int) (v2 : Int) (v3 : Int) (h : Hp), Feo (wI_mSide_acknowledged_b41 v0 v1 v2 v3 h) (wJ_mSide_acknowledged_b41 v0 v1 v2 v3 h) h Prod.snd (f_mSide_acknowledged_b41_lp n v0 v1 v2 v3 h) := by
  induction n with
  | zero => intro v0 v1 v2 v3 h; exact fe_no
  | succ n ih => intro v0 v1 v2 v3 h; exact fe_mSide_acknowledged_b41 ih v0 v1 v2 v3 h
theorem fe_mSide_acknowledged_b38 (v0 : Nat) (v1 : Int) (s0 : Int) (h : Hp) : Feo (wI_mSide_acknowledged_b38 v0 v1 s0 h) (wJ_mSide_acknowledged_b38 v0 v1 s0 h) h Prod.snd (f_mSide_acknowledged_b38 v0 v1 s0 h) := by
  unfold f_mSide_acknowledged_b38
  exact fe_j Fe.rf (fe_mSide_acknowledged_b41_lp FU _ _ _ _ _) (fun x k hx => by simp only [wI_mSide_acknowledged_b41] at hx; rcases hx with e | e | e | e | e | e | e | e | e | e | e | e | e | e | e | e | e | e | e | e | e | e | e | e | e | e | e | e | e | e | e | e | e | e | e <;> first | exact Or.inl (e) | exact Or.inr (Or.inl (e)) | exact Or.inr (Or.inr (Or.inl (e))) | exact Or.inr (Or.inr (Or.inr (Or.inl (e)))) | exact Or.inr (Or.inr (Or.inr (Or.inr (Or.inl (e))))) | exact Or.inr (Or.inr (Or.inr (Or.inr (Or.inr (Or.inl (e)))))) | exact Or.inr (Or.inr (Or.inr (Or.inr (Or.inr (Or.inr (Or.inl (e))))))) | exact Or.inr (Or.inr (Or.inr (Or.inr (Or.inr (Or.inr (Or.inr (Or.inl (e)))))))) | exact Or.inr (Or.inr (Or.inr (Or.inr (Or.inr (Or.inr (Or.inr (Or.inr (Or.inl (e))))))))) | exact Or.inr (Or.inr (Or.inr (Or.inr (Or.inr (Or.inr (Or.inr (Or.inr (Or.inr (Or.inl (e)))))))))) | exact Or.inr (Or.inr (Or.inr (Or.inr (Or.inr (Or.inr (Or.inr (Or.inr (Or.inr (Or.inr (Or.inl (e))))))))))) | exact Or.inr (Or.inr (Or.inr (Or.inr (Or.inr (Or.inr (Or.inr (Or.inr (Or.inr (Or.inr (Or.inr (Or.inl (e)))))))))))) | exact Or.inr (Or.inr (Or.inr (Or.inr (Or.inr (Or.inr (Or.inr (Or.inr (Or.inr (Or.inr (Or.inr (Or.inr (Or.inl (e))))))))))))) | exact Or.inr (Or.inr (Or.inr (Or.inr (Or.inr (Or.inr (Or.inr (Or.inr (Or.inr (Or.inr (Or.inr (Or.inr (Or.inr (Or.inl (e)))))))))))))) | exact Or.inr (Or.inr (Or.inr (Or.inr (Or.inr (Or.inr (Or.inr (Or.inr (Or.inr (Or.inr (Or.inr (Or.inr (Or.inr (Or.inr (Or.inl (e))))))))))))))) | exact Or.inr (Or.inr (Or.inr (Or.inr (Or.inr (Or.inr (Or.inr (Or.inr (Or.inr (Or.inr (Or.inr (Or.inr (Or.inr (Or.inr (Or.inr (Or.inl (e)))))))))))))))) | exact Or.inr (Or.inr (Or.inr (Or.inr (Or.inr (Or.inr (Or.inr (Or.inr (Or.inr (Or.inr (Or.inr (Or.inr (Or.inr (Or.inr (Or.inr (Or.inr (Or.inl (e))))))))))))))))) | exact Or.inr (Or.inr (Or.inr (Or.inr (Or.inr (Or.inr (Or.inr (Or.inr (Or.inr (Or.inr (Or.inr (Or.inr (Or.inr (Or.inr (Or.inr (Or.inr (Or.inr (Or.inl (e)))))))))))))))))) | exact Or.inr (Or.inr (Or.inr (Or.inr (Or.inr (Or.inr (Or.inr (Or.inr (Or.inr (Or.inr (Or.inr (Or.inr (Or.inr (Or.inr (Or.inr (Or.inr (Or.inr (Or.inr (Or.inl (e))))))))))))))))))) | exact Or.inr (Or.inr (Or.inr (Or.inr (Or.inr (Or.inr (Or.inr (Or.inr (Or.inr (Or.inr (Or.inr (Or.inr (Or.inr (Or.inr (Or.inr (Or.inr (Or.inr (Or.inr (Or.inr (Or.inl (e)))))))))))))))))))) | exact Or.inr (Or.inr (Or.inr (Or.inr (Or.inr (Or.inr (Or.inr (Or.inr (Or.inr (Or.inr (Or.inr (Or.inr (Or.inr (Or.inr (Or.inr (Or.inr (Or.inr (Or.inr (Or.inr (Or.inr (Or.inl (e))))))))))))))))))))) | exact Or.inr (Or.inr (Or.inr (Or.inr (Or.inr (Or.inr (Or.inr (Or.inr (Or.inr (Or.inr (Or.inr (Or.inr (Or.inr (Or.inr (Or.inr (Or.inr (Or.inr (Or.inr (Or.inr (Or.inr (Or.inr (Or.inl (e)))))))))))))))))))))) | exact Or.inr (Or.inr (Or.inr (Or.inr (Or.inr (Or.inr (Or.inr (Or.inr (Or.inr (Or.inr (Or.inr (Or.inr (Or.inr (Or.inr (Or.inr (Or.inr (Or.inr (Or.inr (Or.inr (Or.inr (Or.inr (Or.inr (Or.inl (e))))))))))))))))))))))) | exact Or.inr (Or.inr (Or.inr (Or.inr (Or.inr (Or.inr (Or.inr (Or.inr (Or.inr (Or.inr (Or.inr (Or.inr (Or.inr (Or.inr (Or.inr (Or.inr (Or.inr (Or.inr (Or.inr (Or.inr (Or.inr (Or.inr (Or.inr (Or.inl (e)))))))))))))))))))))))) | exact Or.inr (Or.inr (Or.inr (Or.inr (Or.inr (Or.inr (Or.inr (Or.inr (Or.inr (Or.inr (Or.inr (Or.inr (Or.inr (Or.inr (Or.inr (Or.inr (Or.inr (Or.inr (Or.inr (Or.inr (Or.inr (Or.inr (Or.inr (Or.inr (Or.inl (e))))))))))))))))))))))))) | exact Or.inr (Or.inr (Or.inr (Or.inr (Or.inr (Or.inr (Or.inr (Or.inr (Or.inr (Or.inr (Or.inr (Or.inr (Or.inr (Or.inr (Or.inr (Or.inr (Or.inr (Or.inr (Or.inr (Or.inr (Or.inr (Or.inr (Or.inr (Or.inr (Or.inr (Or.inl (e)))))))))))))))))))))))))) | exact Or.inr (Or.inr (Or.inr (Or.inr (Or.inr (Or.inr (Or.inr (Or.inr (Or.inr (Or.inr (Or.inr (Or.inr (Or.inr (Or.inr (Or.inr (Or.inr (Or.inr (Or.inr (Or.inr (Or.inr (Or.inr (Or.inr (Or.inr (Or.inr (Or.inr (Or.inr (Or.inl (e))))))))))))))))))))))))))) | exact Or.inr (Or.inr (Or.inr (Or.inr (Or.inr (Or.inr (Or.inr (Or.inr (Or.inr (Or.inr (Or.inr (Or.inr (Or.inr (Or.inr (Or.inr (Or.inr (Or.inr (Or.inr (Or.inr (Or.inr (Or.inr (Or.inr (Or.inr (Or.inr (Or.inr (Or.inr (Or.inr (Or.inl (e)))))))))))))))))))))))))))) | exact Or.inr (Or.inr (Or.inr (Or.inr (Or.inr (Or.inr (Or.inr (Or.inr (Or.inr (Or.inr (Or.inr (Or.inr (Or.inr (Or.inr (Or.inr (Or.inr (Or.inr (Or.inr (Or.inr (Or.inr (Or.inr (Or.inr (Or.inr (Or.inr (Or.inr (Or.inr (Or.inr (Or.inr (Or.inl (e))))))))))))))))))))))))))))) | exact Or.inr (Or.inr (Or.inr (Or.inr (Or.inr (Or.inr (Or.inr (Or.inr (Or.inr (Or.inr (Or.inr (Or.inr (Or.inr (Or.inr (Or.inr (Or.inr (Or.inr (Or.inr (Or.inr (Or.inr (Or.inr (Or.inr (Or.inr (Or.inr (Or.inr (Or.inr (Or.inr (Or.inr (Or.inr (Or.inl (e)))))))))))))))))))))))))))))) | exact Or.inr (Or.inr (Or.inr (Or.inr (Or.inr (Or.inr (Or.inr (Or.inr (Or.inr (Or.inr (Or.inr (Or.inr (Or.inr (Or.inr (Or.inr (Or.inr (Or.inr (Or.inr (Or.inr (Or.inr (Or.inr (Or.inr (Or.inr (Or.inr (Or.inr (Or.inr (Or.inr (Or.inr (Or.inr (Or.inr (Or.inl (e))))))))))))))))))))))))))))))) | exact Or.inr (Or.inr (Or.inr (Or.inr (Or.inr (Or.inr (Or.inr (Or.inr (Or.inr (Or.inr (Or.inr (Or.inr (Or.inr (Or.inr (Or.inr (Or.inr (Or.inr (Or.inr (Or.inr (Or.inr (Or.inr (Or.inr (Or.inr (Or.inr (Or.inr (Or.inr (Or.inr (Or.inr (Or.inr (Or.inr (Or.inr (Or.inl (e)))))))))))))))))))))))))))))))) | exact Or.inr (Or.inr (Or.inr (Or.inr (Or.inr (Or.inr (Or.inr (Or.inr (Or.inr (Or.inr (Or.inr (Or.inr (Or.inr (Or.inr (Or.inr (Or.inr (Or.inr (Or.inr (Or.inr (Or.inr (Or.inr (Or.inr (Or.inr (Or.inr (Or.inr (Or.inr (Or.inr (Or.inr (Or.inr (Or.inr (Or.inr (Or.inr (Or.inl (e))))))))))))))))))))))))))))))))) | exact Or.inr (Or.inr (Or.inr (Or.inr (Or.inr (Or.inr (Or.inr (Or.inr (Or.inr (Or.inr (Or.inr (Or.inr (Or.inr (Or.inr (Or.inr (Or.inr (Or.inr (Or.inr (Or.inr (Or.inr (Or.inr (Or.inr (Or.inr (Or.inr (Or.inr (Or.inr (Or.inr (Or.inr (Or.inr (Or.inr (Or.inr (Or.inr (Or.inr (Or.inl (e)))))))))))))))))))))))))))))))))) | exact Or.inr (Or.inr (Or.inr (Or.inr (Or.inr (Or.inr (Or.inr (Or.inr (Or.inr (Or.inr (Or.inr (Or.inr (Or.inr (Or.inr (Or.inr (Or.inr (Or.inr (Or.inr (Or.inr (Or.inr (Or.inr (Or.inr (Or.inr (Or.inr (Or.inr (Or.inr (Or.inr (Or.inr (Or.inr (Or.inr (Or.inr (Or.inr (Or.inr (Or.inr (e))))))))))))))))))))))))))))))))))) (fun x k hx => by simp only [wJ_mSide_acknowledged_b41] at hx; rcases hx with e | e | e | e <;> first | exact Or.inl (e) | exact Or.inr (Or.inl (e)) | exact Or.inr (Or.inr (Or.inl (e))) | exact Or.inr (Or.inr (Or.inr (e))))
theorem fe_mSide_acknowledged (v0 : Nat) (v1 : Int) (h : Hp) : Feo (wI_mSide_acknowledged v0 v1 h) (wJ_mSide_acknowledged v0 v1 h) h Prod.snd (f_mSide_acknowledged v0 v1 h) := by
  unfold f_mSide_acknowledged
  refine fe_it fe_no ?_
  refine fe_it fe_no ?_
  refine fe_it ?_ fe_no
  refine fe_it ?_ ?_
  · refine fe_it fe_no ?_
    refine fe_it ?_ ?_
    · exact fe_j Fe.rf (fe_mSide_acknowledged_b38 _ _ _ _) (fun x k hx => by simp only [wI_mSide_acknowledged_b38] at hx; rcases hx with e | e | e | e | e | e | e | e | e | e | e | e | e | e | e | e | e | e | e | e | e | e | e | e | e | e | e | e | e | e | e | e | e | e | e <;> first | exact Or.inl (e) | exact Or.inr (Or.inl (e)) | exact Or.inr (Or.inr (Or.inl (e))) | exact Or.inr (Or.inr (Or.inr (Or.inl (e)))) | exact Or.inr (Or.inr (Or.inr (Or.inr (Or.inl (e))))) | exact Or.inr (Or.inr (Or.inr (Or.inr (Or.inr (Or.inl (e)))))) | exact Or.inr (Or.inr (Or.inr (Or.inr (Or.inr (Or.inr (Or.inl (e))))))) | exact Or.inr (Or.inr (Or.inr (Or.inr (Or.inr (Or.inr (Or.inr (Or.inl (e)))))))) | exact Or.inr (Or.inr (Or.inr (Or.inr (Or.inr (Or.inr (Or.inr (Or.inr (Or.inl (e))))))))) | exact Or.inr (Or.inr (Or.inr (Or.inr (Or.inr (Or.inr (Or.inr (Or.inr (Or.inr (Or.inl (e)))))))))) | exact Or.inr (Or.inr (Or.inr (Or.inr (Or.inr (Or.inr (Or.inr (Or.inr (Or.inr (Or.inr (Or.inl (e))))))))))) | exact Or.inr (Or.inr (Or.inr (Or.inr (Or.inr (Or.inr (Or.inr (Or.inr (Or.inr (Or.inr (Or.inr (Or.inl (e)))))))))))) | exact Or.inr (Or.inr (Or.inr (Or.inr (Or.inr (Or.inr (Or.inr (Or.inr (Or.inr (Or.inr (Or.inr (Or.inr (Or.inl (e))))))))))))) | exact Or.inr (Or.inr (Or.inr (Or.inr (Or.inr (Or.inr (Or.inr (Or.inr (Or.inr (Or.inr (Or.inr (Or.inr (Or.inr (Or.inl (e)))))))))))))) | exact Or.inr (Or.inr (Or.inr (Or.inr (Or.inr (Or.inr (Or.inr (Or.inr (Or.inr (Or.inr (Or.inr (Or.inr (Or.inr (Or.inr (Or.inl (e))))))))))))))) | exact Or.inr (Or.inr (Or.inr (Or.inr (Or.inr (Or.inr (Or.inr (Or.inr (Or.inr (Or.inr (Or.inr (Or.inr (Or.inr (Or.inr (Or.inr (Or.inl (e)))))))))))))))) | exact Or.inr (Or.inr (Or.inr (Or.inr (Or.inr (Or.inr (Or.inr (Or.inr (Or.inr (Or.inr (Or.inr (Or.inr (Or.inr (Or.inr (Or.inr (Or.inr (Or.inl (e))))))))))))))))) | exact Or.inr (Or.inr (Or.inr (Or.inr (Or.inr (Or.inr (Or.inr (Or.inr (Or.inr (Or.inr (Or.inr (Or.inr (Or.inr (Or.inr (Or.inr (Or.inr (Or.inr (Or.inl (e)))))))))))))))))) | exact Or.inr (Or.inr (Or.inr (Or.inr (Or.inr (Or.inr (Or.inr (Or.inr (Or.inr (Or.inr (Or.inr (Or.inr (Or.inr (Or.inr (Or.inr (Or.inr (Or.inr (Or.inr (Or.inl (e))))))))))))))))))) | exact Or.inr (Or.inr (Or.inr (Or.inr (Or.inr (Or.inr (Or.inr (Or.inr (Or.inr (Or.inr (Or.inr (Or.inr (Or.inr (Or.inr (Or.inr (Or.inr (Or.inr (Or.inr (Or.inr (Or.inl (e)))))))))))))))))))) | exact Or.inr (Or.inr (Or.inr (Or.inr (Or.inr (Or.inr (Or.inr (Or.inr (Or.inr (Or.inr (Or.inr (Or.inr (Or.inr (Or.inr (Or.inr (Or.inr (Or.inr (Or.inr (Or.inr (Or.inr (Or.inl (e))))))))))))))))))))) | exact Or.inr (Or.inr (Or.inr (Or.inr (Or.inr (Or.inr (Or.inr (Or.inr (Or.inr (Or.inr (Or.inr (Or.inr (Or.inr (Or.inr (Or.inr (Or.inr (Or.inr (Or.inr (Or.inr (Or.inr (Or.inr (Or.inl (e)))))))))))))))))))))) | exact Or.inr (Or.inr (Or.inr (Or.inr (Or.inr (Or.inr (Or.inr (Or.inr (Or.inr (Or.inr (Or.inr (Or.inr (Or.inr (Or.inr (Or.inr (Or.inr (Or.inr (Or.inr (Or.inr (Or.inr (Or.inr (Or.inr (Or.inl (e))))))))))))))))))))))) | exact Or.inr (Or.inr (Or.inr (Or.inr (Or.inr (Or.inr (Or.inr (Or.inr (Or.inr (Or.inr (Or.inr (Or.inr (Or.inr (Or.inr (Or.inr (Or.inr (Or.inr (Or.inr (Or.inr (Or.inr (Or.inr (Or.inr (Or.inr (Or.inl (e)))))))))))))))))))))))) | exact Or.inr (Or.inr (Or.inr (Or.inr (Or.inr (Or.inr (Or.inr (Or.inr (Or.inr (Or.inr (Or.inr (Or.inr (Or.inr (Or.inr (Or.inr (Or.inr (Or.inr (Or.inr (Or.inr (Or.inr (Or.inr (Or.inr (Or.inr (Or.inr (Or.inl (e))))))))))))))))))))))))) | exact Or.inr (Or.inr (Or.inr (Or.inr (Or.inr (Or.inr (Or.inr (Or.inr (Or.inr (Or.inr (Or.inr (Or.inr (Or.inr (Or.inr (Or.inr (Or.inr (Or.inr (Or.inr (Or.inr (Or.inr (Or.inr (Or.inr (Or.inr (Or.inr (Or.inr (Or.inl (e)))))))))))))))))))))))))) | exact Or.inr (Or.inr (Or.inr (Or.inr (Or.inr (Or.inr (Or.inr (Or.inr (Or.inr (Or.inr (Or.inr (Or.inr (Or.inr (Or.inr (Or.inr (Or.inr (Or.inr (Or.inr (Or.inr (Or.inr (Or.inr (Or.inr (Or.inr (Or.inr (Or.inr (Or.inr (Or.inl (e))))))))))))))))))))))))))) | exact Or.inr (Or.inr (Or.inr (Or.inr (Or.inr (Or.inr (Or.inr (Or.inr (Or.inr (Or.inr (Or.inr (Or.inr (Or.inr (Or.inr (Or.inr (Or.inr (Or.inr (Or.inr (Or.inr (Or.inr (Or.inr (Or.inr (Or.inr (Or.inr (Or.inr (Or.inr (Or.inr (Or.inl (e)))))))))))))))))))))))))))) | exact Or.inr (Or.inr (Or.inr (Or.inr (Or.inr (Or.inr (Or.inr (Or.inr (Or.inr (Or.inr (Or.inr (Or.inr (Or.inr (Or.inr (Or.inr (Or.inr (Or.inr (Or.inr (Or.inr (Or.inr (Or.inr (Or.inr (Or.inr (Or.inr (Or.inr (Or.inr (Or.inr (Or.inr (Or.inl (e))))))))))))))))))))))))))))) | exact Or.inr (Or.inr (Or.inr (Or.inr (Or.inr (Or.inr (Or.inr (Or.inr (Or.inr (Or.inr (Or.inr (Or.inr (Or.inr (Or.inr (Or.inr (Or.inr (Or.inr (Or.inr (Or.inr (Or.inr (Or.inr (Or.inr (Or.inr (Or.inr (Or.inr (Or.inr (Or.inr (Or.inr (Or.inr (Or.inl (e)))))))))))))))))))))))))))))) | exact Or.inr (Or.inr (Or.inr (Or.inr (Or.inr (Or.inr (Or.inr (Or.inr (Or.inr (Or.inr (Or.inr (Or.inr (Or.inr (Or.inr (Or.inr (Or.inr (Or.inr (Or.inr (Or.inr (Or.inr (Or.inr (Or.inr (Or.inr (Or.inr (Or.inr (Or.inr (Or.inr (Or.inr (Or.inr (Or.inr (Or.inl (e))))))))))))))))))))))))))))))) | exact Or.inr (Or.inr (Or.inr (Or.inr (Or.inr (Or.inr (Or.inr (Or.inr (Or.inr (Or.inr (Or.inr (Or.inr (Or.inr (Or.inr (Or.inr (Or.inr (Or.inr (Or.inr (Or.inr (Or.inr (Or.inr (Or.inr (Or.inr (Or.inr (Or.inr (Or.inr (Or.inr (Or.inr (Or.inr (Or.inr (Or.inr (Or.inl (e)))))))))))))))))))))))))))))))) | exact Or.inr (Or.inr (Or.inr (Or.inr (Or.inr (Or.inr (Or.inr (Or.inr (Or.inr (Or.inr (Or.inr (Or.inr (Or.inr (Or.inr (Or.inr (Or.inr (Or.inr (Or.inr (Or.inr (Or.inr (Or.inr (Or.inr (Or.inr (Or.inr (Or.inr (Or.inr (Or.inr (Or.inr (Or.inr (Or.inr (Or.inr (Or.inr (Or.inl (e))))))))))))))))))))))))))))))))) | exact Or.inr (Or.inr (Or.inr (Or.inr (Or.inr (Or.inr (Or.inr (Or.inr (Or.inr (Or.inr (Or.inr (Or.inr (Or.inr (Or.inr (Or.inr (Or.inr (Or.inr (Or.inr (Or.inr (Or.inr (Or.inr (Or.inr (Or.inr (Or.inr (Or.inr (Or.inr (Or.inr (Or.inr (Or.inr (Or.inr (Or.inr (Or.inr (Or.inr (Or.inl (e)))))))))))))))))))))))))))))))))) | exact Or.inr (Or.inr (Or.inr (Or.inr (Or.inr (Or.inr (Or.inr (Or.inr (Or.inr (Or.inr (Or.inr (Or.inr (Or.inr (Or.inr (Or.inr (Or.inr (Or.inr (Or.inr (Or.inr (Or.inr (Or.inr (Or.inr (Or.inr (Or.inr (Or.inr (Or.inr (Or.inr (Or.inr (Or.inr (Or.inr (Or.inr (Or.inr (Or.inr (Or.inr (e))))))))))))))))))))))))))))))))))) (fun x k hx => by simp only [wJ_mSide_acknowledged_b38] at hx; rcases hx with e | e | e | e <;> first | exact Or.inl (e) | exact Or.inr (Or.inl (e)) | exact Or.inr (Or.inr (Or.inl (e))) | exact Or.inr (Or.inr (Or.inr (e))))
    · exact fe_j Fe.rf (fe_mSide_acknowledged_b38 _ _ _ _) (fun x k hx => by simp only [wI_mSide_acknowledged_b38] at hx; rcases hx with e | e | e | e | e | e | e | e | e | e | e | e | e | e | e | e | e | e | e | e | e | e | e | e | e | e | e | e | e | e | e | e | e | e | e <;> first | exact Or.inl (e) | exact Or.inr (Or.inl (e)) | exact Or.inr (Or.inr (Or.inl (e))) | exact Or.inr (Or.inr (Or.inr (Or.inl (e)))) | exact Or.inr (Or.inr (Or.inr (Or.inr (Or.inl (e))))) | exact Or.inr (Or.inr (Or.inr (Or.inr (Or.inr (Or.inl (e)))))) | exact Or.inr (Or.inr (Or.inr (Or.inr (Or.inr (Or.inr (Or.inl (e))))))) | exact Or.inr (Or.inr (Or.inr (Or.inr (Or.inr (Or.inr (Or.inr (Or.inl (e)))))))) | exact Or.inr (Or.inr (Or.inr (Or.inr (Or.inr (Or.inr (Or.inr (Or.inr (Or.inl (e))))))))) | exact Or.inr (Or.inr (Or.inr (Or.inr (Or.inr (Or.inr (Or.inr (Or.inr (Or.inr (Or.inl (e)))))))))) | exact Or.inr (Or.inr (Or.inr (Or.inr (Or.inr (Or.inr (Or.inr (Or.inr (Or.inr (Or.inr (Or.inl (e))))))))))) | exact Or.inr (Or.inr (Or.inr (Or.inr (Or.inr (Or.inr (Or.inr (Or.inr (Or.inr (Or.inr (Or.inr (Or.inl (e)))))))))))) | exact Or.inr (Or.inr (Or.inr (Or.inr (Or.inr (Or.inr (Or.inr (Or.inr (Or.inr (Or.inr (Or.inr (Or.inr (Or.inl (e))))))))))))) | exact Or.inr (Or.inr (Or.inr (Or.inr (Or.inr (Or.inr (Or.inr (Or.inr (Or.inr (Or.inr (Or.inr (Or.inr (Or.inr (Or.inl (e)))))))))))))) | exact Or.inr (Or.inr (Or.inr (Or.inr (Or.inr (Or.inr (Or.inr (Or.inr (Or.inr (Or.inr (Or.inr (Or.inr (Or.inr (Or.inr (Or.inl (e))))))))))))))) | exact Or.inr (Or.inr (Or.inr (Or.inr (Or.inr (Or.inr (Or.inr (Or.inr (Or.inr (Or.inr (Or.inr (Or.inr (Or.inr (Or.inr (Or.inr (Or.inl (e)))))))))))))))) | exact Or.inr (Or.inr (Or.inr (Or.inr (Or.inr (Or.inr (Or.inr (Or.inr (Or.inr (Or.inr (Or.inr (Or.inr (Or.inr (Or.inr (Or.inr (Or.inr (Or.inl (e))))))))))))))))) | exact Or.inr (Or.inr (Or.inr (Or.inr (Or.inr (Or.inr (Or.inr (Or.inr (Or.inr (Or.inr (Or.inr (Or.inr (Or.inr (Or.inr (Or.inr (Or.inr (Or.inr (Or.inl (e)))))))))))))))))) | exact Or.inr (Or.inr (Or.inr (Or.inr (Or.inr (Or.inr (Or.inr (Or.inr (Or.inr (Or.inr (Or.inr (Or.inr (Or.inr (Or.inr (Or.inr (Or.inr (Or.inr (Or.inr (Or.inl (e))))))))))))))))))) | exact Or.inr (Or.inr (Or.inr (Or.inr (Or.inr (Or.inr (Or.inr (Or.inr (Or.inr (Or.inr (Or.inr (Or.inr (Or.inr (Or.inr (Or.inr (Or.inr (Or.inr (Or.inr (Or.inr (Or.inl (e)))))))))))))))))))) | exact Or.inr (Or.inr (Or.inr (Or.inr (Or.inr (Or.inr (Or.inr (Or.inr (Or.inr (Or.inr (Or.inr (Or.inr (Or.inr (Or.inr (Or.inr (Or.inr (Or.inr (Or.inr (Or.inr (Or.inr (Or.inl (e))))))))))))))))))))) | exact Or.inr (Or.inr (Or.inr (Or.inr (Or.inr (Or.inr (Or.inr (Or.inr (Or.inr (Or.inr (Or.inr (Or.inr (Or.inr (Or.inr (Or.inr (Or.inr (Or.inr (Or.inr (Or.inr (Or.inr (Or.inr (Or.inl (e)))))))))))))))))))))) | exact Or.inr (Or.inr (Or.inr (Or.inr (Or.inr (Or.inr (Or.inr (Or.inr (Or.inr (Or.inr (Or.inr (Or.inr (Or.inr (Or.inr (Or.inr (Or.inr (Or.inr (Or.inr (Or.inr (Or.inr (Or.inr (Or.inr (Or.inl (e))))))))))))))))))))))) | exact Or.inr (Or.inr (Or.inr (Or.inr (Or.inr (Or.inr (Or.inr (Or.inr (Or.inr (Or.inr (Or.inr (Or.inr (Or.inr (Or.inr (Or.inr (Or.inr (Or.inr (Or.inr (Or.inr (Or.inr (Or.inr (Or.inr (Or.inr (Or.inl (e)))))))))))))))))))))))) | exact Or.inr (Or.inr (Or.inr (Or.inr (Or.inr (Or.inr (Or.inr (Or.inr (Or.inr (Or.inr (Or.inr (Or.inr (Or.inr (Or.inr (Or.inr (Or.inr (Or.inr (Or.inr (Or.inr (Or.inr (Or.inr (Or.inr (Or.inr (Or.inr (Or.inl (e))))))))))))))))))))))))) | exact Or.inr (Or.inr (Or.inr (Or.inr (Or.inr (Or.inr (Or.inr (Or.inr (Or.inr (Or.inr (Or.inr (Or.inr (Or.inr (Or.inr (Or.inr (Or.inr (Or.inr (Or.inr (Or.inr (Or.inr (Or.inr (Or.inr (Or.inr (Or.inr (Or.inr (Or.inl (e)))))))))))))))))))))))))) | exact Or.inr (Or.inr (Or.inr (Or.inr (Or.inr (Or.inr (Or.inr (Or.inr (Or.inr (Or.inr (Or.inr (Or.inr (Or.inr (Or.inr (Or.inr (Or.inr (Or.inr (Or.inr (Or.inr (Or.inr (Or.inr (Or.inr (Or.inr (Or.inr (Or.inr (Or.inr (Or.inl (e))))))))))))))))))))))))))) | exact Or.inr (Or.inr (Or.inr (Or.inr (Or.inr (Or.inr (Or.inr (Or.inr (Or.inr (Or.inr (Or.inr (Or.inr (Or.inr (Or.inr (Or.inr (Or.inr (Or.inr (Or.inr (Or.inr (Or.inr (Or.inr (Or.inr (Or.inr (Or.inr (Or.inr (Or.inr (Or.inr (Or.inl (e)))))))))))))))))))))))))))) | exact Or.inr (Or.inr (Or.inr (Or.inr (Or.inr (Or.inr (Or.inr (Or.inr (Or.inr (Or.inr (Or.inr (Or.inr (Or.inr (Or.inr (Or.inr (Or.inr (Or.inr (Or.inr (Or.inr (Or.inr (Or.inr (Or.inr (Or.inr (Or.inr (Or.inr (Or.inr (Or.inr (Or.inr (Or.inl (e))))))))))))))))))))))))))))) | exact Or.inr (Or.inr (Or.inr (Or.inr (Or.inr (Or.inr (Or.inr (Or.inr (Or.inr (Or.inr (Or.inr (Or.inr (Or.inr (Or.inr (Or.inr (Or.inr (Or.inr (Or.inr (Or.inr (Or.inr (Or.inr (Or.inr (Or.inr (Or.inr (Or.inr (Or.inr (Or.inr (Or.inr (Or.inr (Or.inl (e)))))))))))))))))))))))))))))) | exact Or.inr (Or.inr (Or.inr (Or.inr (Or.inr (Or.inr (Or.inr (Or.inr (Or.inr (Or.inr (Or.inr (Or.inr (Or.inr (Or.inr (Or.inr (Or.inr (Or.inr (Or.inr (Or.inr (Or.inr (Or.inr (Or.inr (Or.inr (Or.inr (Or.inr (Or.inr (Or.inr (Or.inr (Or.inr (Or.inr (Or.inl (e))))))))))))))))))))))))))))))) | exact Or.inr (Or.inr (Or.inr (Or.inr (Or.inr (Or.inr (Or.inr (Or.inr (Or.inr (Or.inr (Or.inr (Or.inr (Or.inr (Or.inr (Or.inr (Or.inr (Or.inr (Or.inr (Or.inr (Or.inr (Or.inr (Or.inr (Or.inr (Or.inr (Or.inr (Or.inr (Or.inr (Or.inr (Or.inr (Or.inr (Or.inr (Or.inl (e)))))))))))))))))))))))))))))))) | exact Or.inr (Or.inr (Or.inr (Or.inr (Or.inr (Or.inr (Or.inr (Or.inr (Or.inr (Or.inr (Or.inr (Or.inr (Or.inr (Or.inr (Or.inr (Or.inr (Or.inr (Or.inr (Or.inr (Or.inr (Or.inr (Or.inr (Or.inr (Or.inr (Or.inr (Or.inr (Or.inr (Or.inr (Or.inr (Or.inr (Or.inr (Or.inr (Or.inl (e))))))))))))))))))))))))))))))))) | exact Or.inr (Or.inr (Or.inr (Or.inr (Or.inr (Or.inr (Or.inr (Or.inr (Or.inr (Or.inr (Or.inr (Or.inr (Or.inr (Or.inr (Or.inr (Or.inr (Or.inr (Or.inr (Or.inr (Or.inr (Or.inr (Or.inr (Or.inr (Or.inr (Or.inr (Or.inr (Or.inr (Or.inr (Or.inr (Or.inr (Or.inr (Or.inr (Or.inr (Or.inl (e)))))))))))))))))))))))))))))))))) | exact Or.inr (Or.inr (Or.inr (Or.inr (Or.inr (Or.inr (Or.inr (Or.inr (Or.inr (Or.inr (Or.inr (Or.inr (Or.inr (Or.inr (Or.inr (Or.inr (Or.inr (Or.inr (Or.inr (Or.inr (Or.inr (Or.inr (Or.inr (Or.inr (Or.inr (Or.inr (Or.inr (Or.inr (Or.inr (Or.inr (Or.inr (Or.inr (Or.inr (Or.inr (e))))))))))))))))))))))))))))))))))) (fun x k hx => by simp only [wJ_mSide_acknowledged_b38] at hx; rcases hx with e | e | e | e <;> first | exact Or.inl (e) | exact Or.inr (Or.inl (e)) | exact Or.inr (Or.inr (Or.inl (e))) | exact Or.inr (Or.inr (Or.inr (e))))
  · exact fe_so Fe.rf
def wI_mGreet_isSize_b22 (h : Hp) (x k : Nat) : Prop := False
def wJ_mGreet_isSize_b22 (h : Hp) (x k : Nat) : Prop := False
def wI_mGreet_isSize (v0 : Int) (v1 : Int) (h : Hp) (x k : Nat) : Prop := False
def wJ_mGreet_isSize (v0 : Int) (v1 : Int) (h : Hp) (x k : Nat) : Prop := False
theorem fe_mGreet_isSize_b22 (h : Hp) : Feo (wI_mGreet_isSize_b22  h) (wJ_mGreet_isSize_b22  h) h Prod.snd (f_mGreet_isSize_b22  h) := by
  unfold f_mGreet_isSize_b22
  exact fe_so Fe.rf
theorem fe_mGreet_isSize (v0 : Int) (v1 : Int) (h : Hp) : Feo (wI_mGreet_isSize v0 v1 h) (wJ_mGreet_isSize v0 v1 h) h Prod.snd (f_mGreet_isSize v0 v1 h) := by
  unfold f_mGreet_isSize
  refine fe_it ?_ ?_
  · refine fe_it ?_ ?_
    · refine fe_it ?_ ?_
      · exact fe_so Fe.rf
      · exact fe_so Fe.rf
    · refine fe_it ?_ ?_
      · exact fe_so Fe.rf
      · exact fe_so Fe.rf
  · refine fe_it ?_ ?_
    · exact fe_j Fe.rf (fe_mGreet_isSize_b22 _) (fun x k hx => False.elim hx) (fun x k hx => False.elim hx)
    · refine fe_it ?_ ?_
      · exact fe_j Fe.rf (fe_mGreet_isSize_b22 _) (fun x k hx => False.elim hx) (fun x k hx => False.elim hx)
      · exact fe_so Fe.rf
def wI_mGreet_lookAt_b38 (v0 : Nat) (v1 : Int) (v2 : Int) (s0 : Int) (h : Hp) (x k : Nat) : Prop := False
def wJ_mGreet_lookAt_b38 (v0 : Nat) (v1 : Int) (v2 : Int) (s0 : Int) (h : Hp) (x k : Nat) : Prop := False
def wI_mGreet_lookAt (v0 : Nat) (v1 : Int) (h : Hp) (x k : Nat) : Prop := False
def wJ_mGreet_lookAt (v0 : Nat) (v1 : Int) (h : Hp) (x k : Nat) : Prop := False
theorem fe_mGreet_lookAt_b38 (v0 : Nat) (v1 : Int) (v2 : Int) (s0 : Int) (h : Hp) : Feo (wI_mGreet_lookAt_b38 v0 v1 v2 s0 h) (wJ_mGreet_lookAt_b38 v0 v1 v2 s0 h) h Prod.snd (f_mGreet_lookAt_b38 v0 v1 v2 s0 h) := by
  unfold f_mGreet_lookAt_b38
  refine fe_it ?_ ?_
  · exact fe_so Fe.rf
  · refine fe_it fe_no ?_
    refine fe_it ?_ fe_no
    refine fe_it ?_ ?_
    · refine fe_it fe_no ?_
      refine fe_it ?_ fe_no
      refine fe_it ?_ ?_
      · refine fe_it ?_ fe_no
        refine fe_it ?_ fe_no
        refine fe_it ?_ fe_no
        refine fe_v (fun y11 => ?_)
        refine fe_b2 Fe.rf (fe_mGreet_isSize _ _ _) (fun x k hx => False.elim hx) (fun x k hx => False.elim hx) (fun r14 h12 F1 => ?_)
        refine fe_it ?_ ?_
        · refine fe_it fe_no ?_
          refine fe_it ?_ fe_no
          refine fe_it ?_ ?_
          · exact fe_so F1
          · exact fe_so F1
        · exact fe_so F1
      · exact fe_so Fe.rf
    · exact fe_so Fe.rf
theorem fe_mGreet_lookAt (v0 : Nat) (v1 : Int) (h : Hp) : Feo (wI_mGreet_lookAt v0 v1 h) (wJ_mGreet_lookAt v0 v1 h) h Prod.snd (f_mGreet_lookAt v0 v1 h) := by
  unfold f_mGreet_lookAt
  refine fe_v (fun y1 => ?_)
  refine fe_it fe_no ?_
  refine fe_it ?_ fe_no
  refine fe_it ?_ ?_
  · refine fe_it ?_ ?_
    · exact fe_so Fe.rf
    · refine fe_it ?_ ?_
      · exact fe_j Fe.rf (fe_mGreet_lookAt_b38 _ _ _ _ _) (fun x k hx => False.elim hx) (fun x k hx => False.elim hx)
      · exact fe_j Fe.rf (fe_mGreet_lookAt_b38 _ _ _ _ _) (fun x k hx => False.elim hx) (fun x k hx => False.elim hx)
  · exact fe_so Fe.rf
def wI_mSeals_digest_b34 (v0 : Nat) (v3 : Nat) (v4 : Int) (h : Hp) (x k : Nat) : Prop := x = v3
def wJ_mSeals_digest_b34 (v0 : Nat) (v3 : Nat) (v4 : Int) (h : Hp) (x k : Nat) : Prop := False
def wI_mSeals_digest_b3 (v0 : Nat) (v1 : Nat) (v2 : Int) (v3 : Nat) (v4 : Int) (h : Hp) (x k : Nat) : Prop := x = hR h v0 4 ∨ x = hR h v0 8 ∨ x = v3
def wJ_mSeals_digest_b3 (v0 : Nat) (v1 : Nat) (v2 : Int) (v3 : Nat) (v4 : Int) (h : Hp) (x k : Nat) : Prop := x = hR h v0 5 ∨ x = hR h v0 6 ∨ x = hR h v0 7
def wI_mSeals_digest (v0 : Nat) (v1 : Nat) (v2 : Int) (v3 : Nat) (h : Hp) (x k : Nat) : Prop := x = hR h v0 4 ∨ x = hR h v0 8 ∨ x = v3
def wJ_mSeals_digest (v0 : Nat) (v1 : Nat) (v2 : Int) (v3 : Nat) (h : Hp) (x k : Nat) : Prop := x = hR h v0 5 ∨ x = hR h v0 6 ∨ x = hR h v0 7
theorem fe_mSeals_digest_b34 {k34 : Nat → Nat → Int → Hp → Option (Hp)} (hk34 : ∀ (v0 : Nat) (v3 : Nat) (v4 : Int) (h : Hp), Feo (wI_mSeals_digest_b34 v0 v3 v4 h) (wJ_mSeals_digest_b34 v0 v3 v4 h) h id (k34 v0 v3 v4 h)) (v0 : Nat) (v3 : Nat) (v4 : Int) (h : Hp) : Feo (wI_mSeals_digest_b34 v0 v3 v4 h) (wJ_mSeals_digest_b34 v0 v3 v4 h) h id (f_mSeals_digest_b34 k34 v0 v3 v4 h) := by
  unfold f_mSeals_digest_b34
  refine fe_it ?_ ?_
  · exact fe_so Fe.rf
  · refine fe_it fe_no ?_
    refine fe_it ?_ fe_no
    refine fe_it fe_no ?_
    refine fe_it ?_ fe_no
    refine fe_I Fe.rf (rfl) (fun h12 F1 => ?_)
    exact fe_j F1 (hk34 _ _ _ _) (fun x k hx => by simp only [wI_mSeals_digest_b34, F1.r] at hx; have e := hx; exact e) (fun x k hx => False.elim hx)
theorem fe_mSeals_digest_b34_lp (n : Nat) : ∀ (v0 : Nat) (v3 : Nat) (v4 : Int) (h : Hp), Feo (wI_mSeals_digest_b34 v0 v3 v4 h) (wJ_mSeals_digest_b34 v0 v3 v4 h) h id (f_mSeals_digest_b34_lp n v0 v3 v4 h) := by
  induction n with
  | zero => intro v0 v3 v4 h; exact fe_no
  | succ n ih => intro v0 v3 v4 h; exact fe_mSeals_digest_b34 ih v0 v3 v4 h
theorem fe_mSeals_digest_b3 {k3 : Nat → Nat → Int → Nat → Int → Hp → Option (Hp)} (hk3 : ∀ (v0 : Nat) (v1 : Nat) (v2 : Int) (v3 : Nat) (v4 : Int) (h : Hp), Feo (wI_mSeals_digest_b3 v0 v1 v2 v3 v4 h) (wJ_mSeals_digest_b3 v0 v1 v2 v3 v4 h) h id (k3 v0 v1 v2 v3 v4 h)) (v0 : Nat) (v1 : Nat) (v2 : Int) (v3 : Nat) (v4 : Int) (h : Hp) : Feo (wI_mSeals_digest_b3 v0 v1 v2 v3 v4 h) (wJ_mSeals_digest_b3 v0 v1 v2 v3 v4 h) h id (f_mSeals_digest_b3 k3 v0 v1 v2 v3 v4 h) := by
  unfold f_mSeals_digest_b3
  refine fe_it ?_ ?_
  · refine fe_b1 Fe.rf (fe_mSeals_digestWork _ _ _) (fun x k hx => by simp only [wI_mSeals_digestWork] at hx; rcases hx with e | e <;> first | exact Or.inl (e) | exact Or.inr (Or.inl (e))) (fun x k hx => by simp only [wJ_mSeals_digestWork] at hx; rcases hx with e | e | e <;> first | exact Or.inl (e) | exact Or.inr (Or.inl (e)) | exact Or.inr (Or.inr (e))) (fun h1 F1 => ?_)
    exact fe_j F1 (fe_mSeals_digest_b34_lp FU _ _ _ _) (fun x k hx => by simp only [wI_mSeals_digest_b34, F1.r] at hx; have e := hx; exact Or.inr (Or.inr (e))) (fun x k hx => False.elim hx)
  · refine fe_it fe_no ?_
    refine fe_it ?_ fe_no
    refine fe_it fe_no ?_
    refine fe_it ?_ fe_no
    refine fe_I Fe.rf (Or.inl (rfl)) (fun h7 F2 => ?_)
    exact fe_j F2 (hk3 _ _ _ _ _ _) (fun x k hx => by simp only [wI_mSeals_digest_b3, F2.r] at hx; rcases hx with e | e | e <;> first | exact Or.inl (e) | exact Or.inr (Or.inl (e)) | exact Or.inr (Or.inr (e))) (fun x k hx => by simp only [wJ_mSeals_digest_b3, F2.r] at hx; rcases hx with e | e | e <;> first | exact Or.inl (e) | exact Or.inr (Or.inl (e)) | exact Or.inr (Or.inr (e)))
theorem fe_mSeals_digest_b3_lp (n : Nat) : ∀ (v0 : Nat) (v1 : Nat) (v2 : Int) (v3 : Nat) (v4 : Int) (h : Hp), Feo (wI_mSeals_digest_b3 v0 v1 v2 v3 v4 h) (wJ_mSeals_digest_b3 v0 v1 v2 v3 v4 h) h id (f_mSeals_digest_b3_lp n v0 v1 v2 v3 v4 h) := by
  induction n with
  | zero => intro v0 v1 v2 v3 v4 h; exact fe_no
  | succ n ih => intro v0 v1 v2 v3 v4 h; exact fe_mSeals_digest_b3 ih v0 v1 v2 v3 v4 h
theorem fe_mSeals_digest (v0 : Nat) (v1 : Nat) (v2 : Int) (v3 : Nat) (h : Hp) : Feo (wI_mSeals_digest v0 v1 v2 v3 h) (wJ_mSeals_digest v0 v1 v2 v3 h) h id (f_mSeals_digest v0 v1 v2 v3 h) := by
  unfold f_mSeals_digest
  exact fe_j Fe.rf (fe_mSeals_digest_b3_lp FU _ _ _ _ _ _) (fun x k hx => by simp only [wI_mSeals_digest_b3] at hx; rcases hx with e | e | e <;> first | exact Or.inl (e) | exact Or.inr (Or.inl (e)) | exact Or.inr (Or.inr (e))) (fun x k hx => by simp only [wJ_mSeals_digest_b3] at hx; rcases hx with e | e | e <;> first | exact Or.inl (e) | exact Or.inr (Or.inl (e)) | exact Or.inr (Or.inr (e)))
def wI_mGreet_prove (v0 : Nat) (v1 : Int) (h : Hp) (x k : Nat) : Prop := x = (hR h (hR h v0 1) 9) ∨ (x = (hR h v0 1) ∧ k = 11) ∨ (x = (hR h v0 1) ∧ k = 13) ∨ x = (hR h v0 20) ∨ x = (hR h v0 21) ∨ x = (hR h v0 22) ∨ x = hR h (hR h v0 1) 10 ∨ x = hR h (hR h v0 1) 12 ∨ x = hR h (hR h v0 1) 14 ∨ x = hR h (hR h v0 1) 4 ∨ x = hR h (hR h v0 1) 8
def wJ_mGreet_prove (v0 : Nat) (v1 : Int) (h : Hp) (x k : Nat) : Prop := x = hR h (hR h v0 1) 5 ∨ x = hR h (hR h v0 1) 6 ∨ x = hR h (hR h v0 1) 7
theorem fe_mGreet_prove (v0 : Nat) (v1 : Int) (h : Hp) : Feo (wI_mGreet_prove v0 v1 h) (wJ_mGreet_prove v0 v1 h) h id (f_mGreet_prove v0 v1 h) := by
  unfold f_mGreet_prove
  refine fe_it fe_no ?_
  refine fe_b1 Fe.rf (fe_mSeals_digest _ _ _ _ _) (fun x k hx => by simp only [wI_mSeals_digest] at hx; rcases hx with e | e | e <;> first | exact Or.inr (Or.inr (Or.inr (Or.inl (e)))) | exact Or.inr (Or.inr (Or.inr (Or.inr (Or.inr (Or.inr (Or.inr (Or.inr (Or.inr (Or.inl (e)))))))))) | exact Or.inr (Or.inr (Or.inr (Or.inr (Or.inr (Or.inr (Or.inr (Or.inr (Or.inr (Or.inr (e))))))))))) (fun x k hx => by simp only [wJ_mSeals_digest] at hx; rcases hx with e | e | e <;> first | exact Or.inl (e) | exact Or.inr (Or.inl (e)) | exact Or.inr (Or.inr (e))) (fun h2 F1 => ?_)
  refine fe_it fe_no ?_
  refine fe_b1 F1 (fe_mSeals_label _ _ _ _ _ _ _ _ _ _) (fun x k hx => by simp only [wI_mSeals_label, F1.r] at hx; rcases hx with e | e | e | e | e | e | e | e | e <;> first | exact Or.inl (e) | exact Or.inr (Or.inl (e)) | exact Or.inr (Or.inr (Or.inl (e))) | exact Or.inr (Or.inr (Or.inr (Or.inr (Or.inr (Or.inl (e)))))) | exact Or.inr (Or.inr (Or.inr (Or.inr (Or.inr (Or.inr (Or.inl (e))))))) | exact Or.inr (Or.inr (Or.inr (Or.inr (Or.inr (Or.inr (Or.inr (Or.inl (e)))))))) | exact Or.inr (Or.inr (Or.inr (Or.inr (Or.inr (Or.inr (Or.inr (Or.inr (Or.inl (e))))))))) | exact Or.inr (Or.inr (Or.inr (Or.inr (Or.inr (Or.inr (Or.inr (Or.inr (Or.inr (Or.inl (e)))))))))) | exact Or.inr (Or.inr (Or.inr (Or.inr (Or.inr (Or.inr (Or.inr (Or.inr (Or.inr (Or.inr (e))))))))))) (fun x k hx => by simp only [wJ_mSeals_label, F1.r] at hx; rcases hx with e | e | e <;> first | exact Or.inl (e) | exact Or.inr (Or.inl (e)) | exact Or.inr (Or.inr (e))) (fun h5 F2 => ?_)
  refine fe_it fe_no ?_
  refine fe_b1 F2 (fe_mSeals_mac _ _ _ _ _ _ _ _ _) (fun x k hx => by simp only [wI_mSeals_mac, F1.r, F2.r] at hx; rcases hx with e | e | e | e | e | e <;> first | exact Or.inl (e) | exact Or.inr (Or.inl (e)) | exact Or.inr (Or.inr (Or.inr (Or.inr (Or.inl (e))))) | exact Or.inr (Or.inr (Or.inr (Or.inr (Or.inr (Or.inr (Or.inl (e))))))) | exact Or.inr (Or.inr (Or.inr (Or.inr (Or.inr (Or.inr (Or.inr (Or.inr (Or.inr (Or.inl (e)))))))))) | exact Or.inr (Or.inr (Or.inr (Or.inr (Or.inr (Or.inr (Or.inr (Or.inr (Or.inr (Or.inr (e))))))))))) (fun x k hx => by simp only [wJ_mSeals_mac, F1.r, F2.r] at hx; rcases hx with e | e | e <;> first | exact Or.inl (e) | exact Or.inr (Or.inl (e)) | exact Or.inr (Or.inr (e))) (fun h8 F3 => ?_)
  exact fe_so F3
def wI_mGreet_keepTheirs_b7 (v0 : Nat) (v1 : Int) (v2 : Int) (v3 : Int) (h : Hp) (x k : Nat) : Prop := x = hR h v0 13
def wJ_mGreet_keepTheirs_b7 (v0 : Nat) (v1 : Int) (v2 : Int) (v3 : Int) (h : Hp) (x k : Nat) : Prop := False
def wI_mGreet_keepTheirs (v0 : Nat) (v1 : Int) (v2 : Int) (h : Hp) (x k : Nat) : Prop := x = hR h v0 13 ∨ (x = v0 ∧ k = 14)
def wJ_mGreet_keepTheirs (v0 : Nat) (v1 : Int) (v2 : Int) (h : Hp) (x k : Nat) : Prop := False
theorem fe_mGreet_keepTheirs_b7 {k7 : Nat → Int → Int → Int → Hp → Option (Hp)} (hk7 : ∀ (v0 : Nat) (v1 : Int) (v2 : Int) (v3 : Int) (h : Hp), Feo (wI_mGreet_keepTheirs_b7 v0 v1 v2 v3 h) (wJ_mGreet_keepTheirs_b7 v0 v1 v2 v3 h) h id (k7 v0 v1 v2 v3 h)) (v0 : Nat) (v1 : Int) (v2 : Int) (v3 : Int) (h : Hp) : Feo (wI_mGreet_keepTheirs_b7 v0 v1 v2 v3 h) (wJ_mGreet_keepTheirs_b7 v0 v1 v2 v3 h) h id (f_mGreet_keepTheirs_b7 k7 v0 v1 v2 v3 h) := by
  unfold f_mGreet_keepTheirs_b7
  refine fe_it ?_ ?_
  · exact fe_so Fe.rf
  · refine fe_it fe_no ?_
    refine fe_it ?_ fe_no
    refine fe_it fe_no ?_
    refine fe_it ?_ fe_no
    refine fe_I Fe.rf (rfl) (fun h6 F1 => ?_)
    exact fe_j F1 (hk7 _ _ _ _ _) (fun x k hx => by simp only [wI_mGreet_keepTheirs_b7, F1.r] at hx; have e := hx; exact e) (fun x k hx => False.elim hx)
theorem fe_mGreet_keepTheirs_b7_lp (n : Nat) : ∀ (v0 : Nat) (v1 : Int) (v2 : Int) (v3 : Int) (h : Hp), Feo (wI_mGreet_keepTheirs_b7 v0 v1 v2 v3 h) (wJ_mGreet_keepTheirs_b7 v0 v1 v2 v3 h) h id (f_mGreet_keepTheirs_b7_lp n v0 v1 v2 v3 h) := by
  induction n with
  | zero => intro v0 v1 v2 v3 h; exact fe_no
  | succ n ih => intro v0 v1 v2 v3 h; exact fe_mGreet_keepTheirs_b7 ih v0 v1 v2 v3 h
theorem fe_mGreet_keepTheirs (v0 : Nat) (v1 : Int) (v2 : Int) (h : Hp) : Feo (wI_mGreet_keepTheirs v0 v1 v2 h) (wJ_mGreet_keepTheirs v0 v1 v2 h) h id (f_mGreet_keepTheirs v0 v1 v2 h) := by
  unfold f_mGreet_keepTheirs
  refine fe_I Fe.rf (Or.inr (⟨rfl, rfl⟩)) (fun h1 F1 => ?_)
  exact fe_j F1 (fe_mGreet_keepTheirs_b7_lp FU _ _ _ _ _) (fun x k hx => by simp only [wI_mGreet_keepTheirs_b7, F1.r] at hx; have e := hx; exact Or.inl (e)) (fun x k hx => False.elim hx)
def wI_mGreet_greets_b46 (v0 : Nat) (v1 : Int) (h : Hp) (x k : Nat) : Prop := x = (hR h (hR h v0 1) 9) ∨ (x = (hR h v0 1) ∧ k = 11) ∨ (x = (hR h v0 1) ∧ k = 13) ∨ x = (hR h v0 17) ∨ x = hR h (hR h v0 1) 10 ∨ x = hR h (hR h v0 1) 12 ∨ x = hR h (hR h v0 1) 14 ∨ x = hR h (hR h v0 1) 4 ∨ x = hR h (hR h v0 1) 8 ∨ (x = v0 ∧ k = 18)
def wJ_mGreet_greets_b46 (v0 : Nat) (v1 : Int) (h : Hp) (x k : Nat) : Prop := x = hR h (hR h v0 1) 5 ∨ x = hR h (hR h v0 1) 6 ∨ x = hR h (hR h v0 1) 7
def wI_mGreet_greets (v0 : Nat) (h : Hp) (x k : Nat) : Prop := x = (hR h (hR h v0 1) 9) ∨ (x = (hR h v0 1) ∧ k = 11) ∨ (x = (hR h v0 1) ∧ k = 13) ∨ x = (hR h v0 17) ∨ x = (hR h v0 19) ∨ x = (hR h v0 20) ∨ x = hR h (hR h v0 1) 10 ∨ x = hR h (hR h v0 1) 12 ∨ x = hR h (hR h v0 1) 14 ∨ x = hR h (hR h v0 1) 4 ∨ x = hR h (hR h v0 1) 8 ∨ (x = v0 ∧ k = 18)
def wJ_mGreet_greets (v0 : Nat) (h : Hp) (x k : Nat) : Prop := x = hR h (hR h v0 1) 5 ∨ x = hR h (hR h v0 1) 6 ∨ x = hR h (hR h v0 1) 7
theorem fe_mGreet_greets_b46 {k46 : Nat → Int → Hp → Option (Hp)} (hk46 : ∀ (v0 : Nat) (v1 : Int) (h : Hp), Feo (wI_mGreet_greets_b46 v0 v1 h) (wJ_mGreet_greets_b46 v0 v1 h) h id (k46 v0 v1 h)) (v0 : Nat) (v1 : Int) (h : Hp) : Feo (wI_mGreet_greets_b46 v0 v1 h) (wJ_mGreet_greets_b46 v0 v1 h) h id (f_mGreet_greets_b46 k46 v0 v1 h) := by
  unfold f_mGreet_greets_b46
  refine fe_it ?_ ?_
  · refine fe_I Fe.rf (Or.inr (Or.inr (Or.inr (Or.inr (Or.inr (Or.inr (Or.inr (Or.inr (Or.inr (⟨rfl, rfl⟩)))))))))) (fun h7 F1 => ?_)
    exact fe_so F1
  · refine fe_it fe_no ?_
    refine fe_b1 Fe.rf (fe_mSeals_label _ _ _ _ _ _ _ _ _ _) (fun x k hx => by simp only [wI_mSeals_label] at hx; rcases hx with e | e | e | e | e | e | e | e | e <;> first | exact Or.inl (e) | exact Or.inr (Or.inl (e)) | exact Or.inr (Or.inr (Or.inl (e))) | exact Or.inr (Or.inr (Or.inr (Or.inl (e)))) | exact Or.inr (Or.inr (Or.inr (Or.inr (Or.inl (e))))) | exact Or.inr (Or.inr (Or.inr (Or.inr (Or.inr (Or.inl (e)))))) | exact Or.inr (Or.inr (Or.inr (Or.inr (Or.inr (Or.inr (Or.inl (e))))))) | exact Or.inr (Or.inr (Or.inr (Or.inr (Or.inr (Or.inr (Or.inr (Or.inl (e)))))))) | exact Or.inr (Or.inr (Or.inr (Or.inr (Or.inr (Or.inr (Or.inr (Or.inr (Or.inl (e)))))))))) (fun x k hx => by simp only [wJ_mSeals_label] at hx; rcases hx with e | e | e <;> first | exact Or.inl (e) | exact Or.inr (Or.inl (e)) | exact Or.inr (Or.inr (e))) (fun h9 F2 => ?_)
    exact fe_j F2 (hk46 _ _ _) (fun x k hx => by simp only [wI_mGreet_greets_b46, F2.r] at hx; rcases hx with e | e | e | e | e | e | e | e | e | e <;> first | exact Or.inl (e) | exact Or.inr (Or.inl (e)) | exact Or.inr (Or.inr (Or.inl (e))) | exact Or.inr (Or.inr (Or.inr (Or.inl (e)))) | exact Or.inr (Or.inr (Or.inr (Or.inr (Or.inl (e))))) | exact Or.inr (Or.inr (Or.inr (Or.inr (Or.inr (Or.inl (e)))))) | exact Or.inr (Or.inr (Or.inr (Or.inr (Or.inr (Or.inr (Or.inl (e))))))) | exact Or.inr (Or.inr (Or.inr (Or.inr (Or.inr (Or.inr (Or.inr (Or.inl (e)))))))) | exact Or.inr (Or.inr (Or.inr (Or.inr (Or.inr (Or.inr (Or.inr (Or.inr (Or.inl (e))))))))) | exact Or.inr (Or.inr (Or.inr (Or.inr (Or.inr (Or.inr (Or.inr (Or.inr (Or.inr (e)))))))))) (fun x k hx => by simp only [wJ_mGreet_greets_b46, F2.r] at hx; rcases hx with e | e | e <;> first | exact Or.inl (e) | exact Or.inr (Or.inl (e)) | exact Or.inr (Or.inr (e)))
theorem fe_mGreet_greets_b46_lp (n : Nat) : ∀ (v0 : Nat) (v1 : Int) (h : Hp), Feo (wI_mGreet_greets_b46 v0 v1 h) (wJ_mGreet_greets_b46 v0 v1 h) h id (f_mGreet_greets_b46_lp n v0 v1 h) := by
  induction n with
  | zero => intro v0 v1 h; exact fe_no
  | succ n ih => intro v0 v1 h; exact fe_mGreet_greets_b46 ih v0 v1 h
theorem fe_mGreet_greets (v0 : Nat) (h : Hp) : Feo (wI_mGreet_greets v0 h) (wJ_mGreet_greets v0 h) h id (f_mGreet_greets v0 h) := by
  unfold f_mGreet_greets
  refine fe_it fe_no ?_
  refine fe_b1 Fe.rf (fe_mSeals_digest _ _ _ _ _) (fun x k hx => by simp only [wI_mSeals_digest] at hx; rcases hx with e | e | e <;> first | exact Or.inr (Or.inr (Or.inr (Or.inr (Or.inr (Or.inl (e)))))) | exact Or.inr (Or.inr (Or.inr (Or.inr (Or.inr (Or.inr (Or.inr (Or.inr (Or.inr (Or.inl (e)))))))))) | exact Or.inr (Or.inr (Or.inr (Or.inr (Or.inr (Or.inr (Or.inr (Or.inr (Or.inr (Or.inr (Or.inl (e)))))))))))) (fun x k hx => by simp only [wJ_mSeals_digest] at hx; rcases hx with e | e | e <;> first | exact Or.inl (e) | exact Or.inr (Or.inl (e)) | exact Or.inr (Or.inr (e))) (fun h2 F1 => ?_)
  refine fe_it fe_no ?_
  refine fe_b1 F1 (fe_mSeals_mac _ _ _ _ _ _ _ _ _) (fun x k hx => by simp only [wI_mSeals_mac, F1.r] at hx; rcases hx with e | e | e | e | e | e <;> first | exact Or.inl (e) | exact Or.inr (Or.inl (e)) | exact Or.inr (Or.inr (Or.inr (Or.inr (Or.inl (e))))) | exact Or.inr (Or.inr (Or.inr (Or.inr (Or.inr (Or.inr (Or.inl (e))))))) | exact Or.inr (Or.inr (Or.inr (Or.inr (Or.inr (Or.inr (Or.inr (Or.inr (Or.inr (Or.inl (e)))))))))) | exact Or.inr (Or.inr (Or.inr (Or.inr (Or.inr (Or.inr (Or.inr (Or.inr (Or.inr (Or.inr (Or.inl (e)))))))))))) (fun x k hx => by simp only [wJ_mSeals_mac, F1.r] at hx; rcases hx with e | e | e <;> first | exact Or.inl (e) | exact Or.inr (Or.inl (e)) | exact Or.inr (Or.inr (e))) (fun h5 F2 => ?_)
  exact fe_j F2 (fe_mGreet_greets_b46_lp FU _ _ _) (fun x k hx => by simp only [wI_mGreet_greets_b46, F1.r, F2.r] at hx; rcases hx with e | e | e | e | e | e | e | e | e | e <;> first | exact Or.inl (e) | exact Or.inr (Or.inl (e)) | exact Or.inr (Or.inr (Or.inl (e))) | exact Or.inr (Or.inr (Or.inr (Or.inl (e)))) | exact Or.inr (Or.inr (Or.inr (Or.inr (Or.inr (Or.inr (Or.inl (e))))))) | exact Or.inr (Or.inr (Or.inr (Or.inr (Or.inr (Or.inr (Or.inr (Or.inl (e)))))))) | exact Or.inr (Or.inr (Or.inr (Or.inr (Or.inr (Or.inr (Or.inr (Or.inr (Or.inl (e))))))))) | exact Or.inr (Or.inr (Or.inr (Or.inr (Or.inr (Or.inr (Or.inr (Or.inr (Or.inr (Or.inl (e)))))))))) | exact Or.inr (Or.inr (Or.inr (Or.inr (Or.inr (Or.inr (Or.inr (Or.inr (Or.inr (Or.inr (Or.inl (e))))))))))) | exact Or.inr (Or.inr (Or.inr (Or.inr (Or.inr (Or.inr (Or.inr (Or.inr (Or.inr (Or.inr (Or.inr (e)))))))))))) (fun x k hx => by simp only [wJ_mGreet_greets_b46, F1.r, F2.r] at hx; rcases hx with e | e | e <;> first | exact Or.inl (e) | exact Or.inr (Or.inl (e)) | exact Or.inr (Or.inr (e)))
def wI_mGreet_talks_b46 (v0 : Nat) (v1 : Int) (h : Hp) (x k : Nat) : Prop := x = (hR h (hR h v0 1) 9) ∨ (x = (hR h v0 1) ∧ k = 11) ∨ (x = (hR h v0 1) ∧ k = 13) ∨ x = (hR h v0 17) ∨ x = hR h (hR h v0 1) 10 ∨ x = hR h (hR h v0 1) 12 ∨ x = hR h (hR h v0 1) 14 ∨ x = hR h (hR h v0 1) 4 ∨ x = hR h (hR h v0 1) 8 ∨ (x = v0 ∧ k = 18)
def wJ_mGreet_talks_b46 (v0 : Nat) (v1 : Int) (h : Hp) (x k : Nat) : Prop := x = hR h (hR h v0 1) 5 ∨ x = hR h (hR h v0 1) 6 ∨ x = hR h (hR h v0 1) 7
def wI_mGreet_talks (v0 : Nat) (h : Hp) (x k : Nat) : Prop := x = (hR h (hR h v0 1) 9) ∨ (x = (hR h v0 1) ∧ k = 11) ∨ (x = (hR h v0 1) ∧ k = 13) ∨ x = (hR h v0 17) ∨ x = (hR h v0 20) ∨ x = (hR h v0 22) ∨ x = hR h (hR h v0 1) 10 ∨ x = hR h (hR h v0 1) 12 ∨ x = hR h (hR h v0 1) 14 ∨ x = hR h (hR h v0 1) 4 ∨ x = hR h (hR h v0 1) 8 ∨ (x = v0 ∧ k = 18)
def wJ_mGreet_talks (v0 : Nat) (h : Hp) (x k : Nat) : Prop := x = hR h (hR h v0 1) 5 ∨ x = hR h (hR h v0 1) 6 ∨ x = hR h (hR h v0 1) 7
theorem fe_mGreet_talks_b46 {k46 : Nat → Int → Hp → Option (Hp)} (hk46 : ∀ (v0 : Nat) (v1 : Int) (h : Hp), Feo (wI_mGreet_talks_b46 v0 v1 h) (wJ_mGreet_talks_b46 v0 v1 h) h id (k46 v0 v1 h)) (v0 : Nat) (v1 : Int) (h : Hp) : Feo (wI_mGreet_talks_b46 v0 v1 h) (wJ_mGreet_talks_b46 v0 v1 h) h id (f_mGreet_talks_b46 k46 v0 v1 h) := by
  unfold f_mGreet_talks_b46
  refine fe_it ?_ ?_
  · refine fe_I Fe.rf (Or.inr (Or.inr (Or.inr (Or.inr (Or.inr (Or.inr (Or.inr (Or.inr (Or.inr (⟨rfl, rfl⟩)))))))))) (fun h7 F1 => ?_)
    exact fe_so F1
  · refine fe_it fe_no ?_
    refine fe_b1 Fe.rf (fe_mSeals_label _ _ _ _ _ _ _ _ _ _) (fun x k hx => by simp only [wI_mSeals_label] at hx; rcases hx with e | e | e | e | e | e | e | e | e <;> first | exact Or.inl (e) | exact Or.inr (Or.inl (e)) | exact Or.inr (Or.inr (Or.inl (e))) | exact Or.inr (Or.inr (Or.inr (Or.inl (e)))) | exact Or.inr (Or.inr (Or.inr (Or.inr (Or.inl (e))))) | exact Or.inr (Or.inr (Or.inr (Or.inr (Or.inr (Or.inl (e)))))) | exact Or.inr (Or.inr (Or.inr (Or.inr (Or.inr (Or.inr (Or.inl (e))))))) | exact Or.inr (Or.inr (Or.inr (Or.inr (Or.inr (Or.inr (Or.inr (Or.inl (e)))))))) | exact Or.inr (Or.inr (Or.inr (Or.inr (Or.inr (Or.inr (Or.inr (Or.inr (Or.inl (e)))))))))) (fun x k hx => by simp only [wJ_mSeals_label] at hx; rcases hx with e | e | e <;> first | exact Or.inl (e) | exact Or.inr (Or.inl (e)) | exact Or.inr (Or.inr (e))) (fun h9 F2 => ?_)
    exact fe_j F2 (hk46 _ _ _) (fun x k hx => by simp only [wI_mGreet_talks_b46, F2.r] at hx; rcases hx with e | e | e | e | e | e | e | e | e | e <;> first | exact Or.inl (e) | exact Or.inr (Or.inl (e)) | exact Or.inr (Or.inr (Or.inl (e))) | exact Or.inr (Or.inr (Or.inr (Or.inl (e)))) | exact Or.inr (Or.inr (Or.inr (Or.inr (Or.inl (e))))) | exact Or.inr (Or.inr (Or.inr (Or.inr (Or.inr (Or.inl (e)))))) | exact Or.inr (Or.inr (Or.inr (Or.inr (Or.inr (Or.inr (Or.inl (e))))))) | exact Or.inr (Or.inr (Or.inr (Or.inr (Or.inr (Or.inr (Or.inr (Or.inl (e)))))))) | exact Or.inr (Or.inr (Or.inr (Or.inr (Or.inr (Or.inr (Or.inr (Or.inr (Or.inl (e))))))))) | exact Or.inr (Or.inr (Or.inr (Or.inr (Or.inr (Or.inr (Or.inr (Or.inr (Or.inr (e)))))))))) (fun x k hx => by simp only [wJ_mGreet_talks_b46, F2.r] at hx; rcases hx with e | e | e <;> first | exact Or.inl (e) | exact Or.inr (Or.inl (e)) | exact Or.inr (Or.inr (e)))
theorem fe_mGreet_talks_b46_lp (n : Nat) : ∀ (v0 : Nat) (v1 : Int) (h : Hp), Feo (wI_mGreet_talks_b46 v0 v1 h) (wJ_mGreet_talks_b46 v0 v1 h) h id (f_mGreet_talks_b46_lp n v0 v1 h) := by
  induction n with
  | zero => intro v0 v1 h; exact fe_no
  | succ n ih => intro v0 v1 h; exact fe_mGreet_talks_b46 ih v0 v1 h
theorem fe_mGreet_talks (v0 : Nat) (h : Hp) : Feo (wI_mGreet_talks v0 h) (wJ_mGreet_talks v0 h) h id (f_mGreet_talks v0 h) := by
  unfold f_mGreet_talks
  refine fe_it fe_no ?_
  refine fe_b1 Fe.rf (fe_mSeals_digest _ _ _ _ _) (fun x k hx => by simp only [wI_mSeals_digest] at hx; rcases hx with e | e | e <;> first | exact Or.inr (Or.inr (Or.inr (Or.inr (Or.inl (e))))) | exact Or.inr (Or.inr (Or.inr (Or.inr (Or.inr (Or.inr (Or.inr (Or.inr (Or.inr (Or.inl (e)))))))))) | exact Or.inr (Or.inr (Or.inr (Or.inr (Or.inr (Or.inr (Or.inr (Or.inr (Or.inr (Or.inr (Or.inl (e)))))))))))) (fun x k hx => by simp only [wJ_mSeals_digest] at hx; rcases hx with e | e | e <;> first | exact Or.inl (e) | exact Or.inr (Or.inl (e)) | exact Or.inr (Or.inr (e))) (fun h2 F1 => ?_)
  refine fe_it fe_no ?_
  refine fe_b1 F1 (fe_mSeals_mac _ _ _ _ _ _ _ _ _) (fun x k hx => by simp only [wI_mSeals_mac, F1.r] at hx; rcases hx with e | e | e | e | e | e <;> first | exact Or.inl (e) | exact Or.inr (Or.inl (e)) | exact Or.inr (Or.inr (Or.inr (Or.inr (Or.inr (Or.inl (e)))))) | exact Or.inr (Or.inr (Or.inr (Or.inr (Or.inr (Or.inr (Or.inl (e))))))) | exact Or.inr (Or.inr (Or.inr (Or.inr (Or.inr (Or.inr (Or.inr (Or.inr (Or.inr (Or.inl (e)))))))))) | exact Or.inr (Or.inr (Or.inr (Or.inr (Or.inr (Or.inr (Or.inr (Or.inr (Or.inr (Or.inr (Or.inl (e)))))))))))) (fun x k hx => by simp only [wJ_mSeals_mac, F1.r] at hx; rcases hx with e | e | e <;> first | exact Or.inl (e) | exact Or.inr (Or.inl (e)) | exact Or.inr (Or.inr (e))) (fun h5 F2 => ?_)
  exact fe_j F2 (fe_mGreet_talks_b46_lp FU _ _ _) (fun x k hx => by simp only [wI_mGreet_talks_b46, F1.r, F2.r] at hx; rcases hx with e | e | e | e | e | e | e | e | e | e <;> first | exact Or.inl (e) | exact Or.inr (Or.inl (e)) | exact Or.inr (Or.inr (Or.inl (e))) | exact Or.inr (Or.inr (Or.inr (Or.inl (e)))) | exact Or.inr (Or.inr (Or.inr (Or.inr (Or.inr (Or.inr (Or.inl (e))))))) | exact Or.inr (Or.inr (Or.inr (Or.inr (Or.inr (Or.inr (Or.inr (Or.inl (e)))))))) | exact Or.inr (Or.inr (Or.inr (Or.inr (Or.inr (Or.inr (Or.inr (Or.inr (Or.inl (e))))))))) | exact Or.inr (Or.inr (Or.inr (Or.inr (Or.inr (Or.inr (Or.inr (Or.inr (Or.inr (Or.inl (e)))))))))) | exact Or.inr (Or.inr (Or.inr (Or.inr (Or.inr (Or.inr (Or.inr (Or.inr (Or.inr (Or.inr (Or.inl (e))))))))))) | exact Or.inr (Or.inr (Or.inr (Or.inr (Or.inr (Or.inr (Or.inr (Or.inr (Or.inr (Or.inr (Or.inr (e)))))))))))) (fun x k hx => by simp only [wJ_mGreet_talks_b46, F1.r, F2.r] at hx; rcases hx with e | e | e <;> first | exact Or.inl (e) | exact Or.inr (Or.inl (e)) | exact Or.inr (Or.inr (e)))
def wI_mGreet_done_b93 (v0 : Nat) (v2 : Int) (v3 : Int) (v4 : Int) (v5 : Int) (h : Hp) (x k : Nat) : Prop := x = (hR h (hR h v0 1) 9) ∨ (x = (hR h v0 1) ∧ k = 11) ∨ (x = (hR h v0 1) ∧ k = 13) ∨ x = (hR h v0 17) ∨ x = (hR h v0 19) ∨ x = (hR h v0 20) ∨ x = (hR h v0 21) ∨ x = (hR h v0 22) ∨ x = hR h (hR h v0 1) 10 ∨ x = hR h (hR h v0 1) 12 ∨ x = hR h (hR h v0 1) 14 ∨ x = hR h (hR h v0 1) 4 ∨ x = hR h (hR h v0 1) 8 ∨ x = hR h v0 10 ∨ x = hR h v0 13 ∨ x = hR h v0 15 ∨ x = hR h v0 9 ∨ (x = v0 ∧ k = 6) ∨ (x = v0 ∧ k = 7) ∨ (x = v0 ∧ k = 14) ∨ (x = v0 ∧ k = 16) ∨ (x = v0 ∧ k = 18)
def wJ_mGreet_done_b93 (v0 : Nat) (v2 : Int) (v3 : Int) (v4 : Int) (v5 : Int) (h : Hp) (x k : Nat) : Prop := x = hR h (hR h v0 1) 5 ∨ x = hR h (hR h v0 1) 6 ∨ x = hR h (hR h v0 1) 7
def wI_mGreet_done_b112 (v0 : Nat) (v2 : Int) (v3 : Int) (v4 : Int) (h : Hp) (x k : Nat) : Prop := x = (hR h (hR h v0 1) 9) ∨ (x = (hR h v0 1) ∧ k = 11) ∨ (x = (hR h v0 1) ∧ k = 13) ∨ x = (hR h v0 17) ∨ x = (hR h v0 19) ∨ x = (hR h v0 20) ∨ x = (hR h v0 21) ∨ x = (hR h v0 22) ∨ x = hR h (hR h v0 1) 10 ∨ x = hR h (hR h v0 1) 12 ∨ x = hR h (hR h v0 1) 14 ∨ x = hR h (hR h v0 1) 4 ∨ x = hR h (hR h v0 1) 8 ∨ x = hR h v0 10 ∨ x = hR h v0 13 ∨ x = hR h v0 15 ∨ x = hR h v0 9 ∨ (x = v0 ∧ k = 6) ∨ (x = v0 ∧ k = 7) ∨ (x = v0 ∧ k = 14) ∨ (x = v0 ∧ k = 16) ∨ (x = v0 ∧ k = 18)
def wJ_mGreet_done_b112 (v0 : Nat) (v2 : Int) (v3 : Int) (v4 : Int) (h : Hp) (x k : Nat) : Prop := x = hR h (hR h v0 1) 5 ∨ x = hR h (hR h v0 1) 6 ∨ x = hR h (hR h v0 1) 7
def wI_mGreet_done_b73 (v0 : Nat) (v2 : Int) (v3 : Int) (v4 : Int) (v5 : Int) (h : Hp) (x k : Nat) : Prop := x = (hR h (hR h v0 1) 9) ∨ (x = (hR h v0 1) ∧ k = 11) ∨ (x = (hR h v0 1) ∧ k = 13) ∨ x = (hR h v0 17) ∨ x = (hR h v0 19) ∨ x = (hR h v0 20) ∨ x = (hR h v0 21) ∨ x = (hR h v0 22) ∨ x = hR h (hR h v0 1) 10 ∨ x = hR h (hR h v0 1) 12 ∨ x = hR h (hR h v0 1) 14 ∨ x = hR h (hR h v0 1) 4 ∨ x = hR h (hR h v0 1) 8 ∨ x = hR h v0 10 ∨ x = hR h v0 13 ∨ x = hR h v0 15 ∨ x = hR h v0 9 ∨ (x = v0 ∧ k = 6) ∨ (x = v0 ∧ k = 7) ∨ (x = v0 ∧ k = 14) ∨ (x = v0 ∧ k = 16) ∨ (x = v0 ∧ k = 18)
def wJ_mGreet_done_b73 (v0 : Nat) (v2 : Int) (v3 : Int) (v4 : Int) (v5 : Int) (h : Hp) (x k : Nat) : Prop := x = hR h (hR h v0 1) 5 ∨ x = hR h (hR h v0 1) 6 ∨ x = hR h (hR h v0 1) 7
def wI_mGreet_done_b70 (v0 : Nat) (v2 : Int) (v3 : Int) (v4 : Int) (h : Hp) (x k : Nat) : Prop := x = (hR h (hR h v0 1) 9) ∨ (x = (hR h v0 1) ∧ k = 11) ∨ (x = (hR h v0 1) ∧ k = 13) ∨ x = (hR h v0 17) ∨ x = (hR h v0 19) ∨ x = (hR h v0 20) ∨ x = (hR h v0 21) ∨ x = (hR h v0 22) ∨ x = hR h (hR h v0 1) 10 ∨ x = hR h (hR h v0 1) 12 ∨ x = hR h (hR h v0 1) 14 ∨ x = hR h (hR h v0 1) 4 ∨ x = hR h (hR h v0 1) 8 ∨ x = hR h v0 10 ∨ x = hR h v0 13 ∨ x = hR h v0 15 ∨ x = hR h v0 9 ∨ (x = v0 ∧ k = 6) ∨ (x = v0 ∧ k = 7) ∨ (x = v0 ∧ k = 14) ∨ (x = v0 ∧ k = 16) ∨ (x = v0 ∧ k = 18)
def wJ_mGreet_done_b70 (v0 : Nat) (v2 : Int) (v3 : Int) (v4 : Int) (h : Hp) (x k : Nat) : Prop := x = hR h (hR h v0 1) 5 ∨ x = hR h (hR h v0 1) 6 ∨ x = hR h (hR h v0 1) 7
def wI_mGreet_done_b32 (v0 : Nat) (v2 : Int) (v3 : Int) (v4 : Int) (v5 : Int) (h : Hp) (x k : Nat) : Prop := x = (hR h (hR h v0 1) 9) ∨ (x = (hR h v0 1) ∧ k = 11) ∨ (x = (hR h v0 1) ∧ k = 13) ∨ x = (hR h v0 17) ∨ x = (hR h v0 19) ∨ x = (hR h v0 20) ∨ x = (hR h v0 21) ∨ x = (hR h v0 22) ∨ x = hR h (hR h v0 1) 10 ∨ x = hR h (hR h v0 1) 12 ∨ x = hR h (hR h v0 1) 14 ∨ x = hR h (hR h v0 1) 4 ∨ x = hR h (hR h v0 1) 8 ∨ x = hR h v0 10 ∨ x = hR h v0 13 ∨ x = hR h v0 15 ∨ x = hR h v0 9 ∨ (x = v0 ∧ k = 6) ∨ (x = v0 ∧ k = 7) ∨ (x = v0 ∧ k = 14) ∨ (x = v0 ∧ k = 16) ∨ (x = v0 ∧ k = 18)
def wJ_mGreet_done_b32 (v0 : Nat) (v2 : Int) (v3 : Int) (v4 : Int) (v5 : Int) (h : Hp) (x k : Nat) : Prop := x = hR h (hR h v0 1) 5 ∨ x = hR h (hR h v0 1) 6 ∨ x = hR h (hR h v0 1) 7
def wI_mGreet_done (v0 : Nat) (v1 : Int) (v2 : Int) (h : Hp) (x k : Nat) : Prop := x = (hR h (hR h v0 1) 9) ∨ (x = (hR h v0 1) ∧ k = 11) ∨ (x = (hR h v0 1) ∧ k = 13) ∨ x = (hR h v0 17) ∨ x = (hR h v0 19) ∨ x = (hR h v0 20) ∨ x = (hR h v0 21) ∨ x = (hR h v0 22) ∨ x = hR h (hR h v0 1) 10 ∨ x = hR h (hR h v0 1) 12 ∨ x = hR h (hR h v0 1) 14 ∨ x = hR h (hR h v0 1) 4 ∨ x = hR h (hR h v0 1) 8 ∨ x = hR h v0 10 ∨ x = hR h v0 13 ∨ x = hR h v0 15 ∨ x = hR h v0 9 ∨ (x = v0 ∧ k = 6) ∨ (x = v0 ∧ k = 7) ∨ (x = v0 ∧ k = 14) ∨ (x = v0 ∧ k = 16) ∨ (x = v0 ∧ k = 18)
def wJ_mGreet_done (v0 : Nat) (v1 : Int) (v2 : Int) (h : Hp) (x k : Nat) : Prop := x = hR h (hR h v0 1) 5 ∨ x = hR h (hR h v0 1) 6 ∨ x = hR h (hR h v0 1) 7
theorem fe_mGreet_done_b93 {k73 : Nat → Int → Int → Int → Int → Hp → Option (Int × Hp)} (hk73 : ∀ (v0 : Nat) (v2 : Int) (v3 : Int) (v4 : Int) (v5 : Int) (h : Hp), Feo (wI_mGreet_done_b73 v0 v2 v3 v4 v5 h) (wJ_mGreet_done_b73 v0 v2 v3 v4 v5 h) h Prod.snd (k73 v0 v2 v3 v4 v5 h)) (v0 : Nat) (v2 : Int) (v3 : Int) (v4 : Int) (v5 : Int) (h : Hp) : Feo (wI_mGreet_done_b93 v0 v2 v3 v4 v5 h) (wJ_mGreet_done_b93 v0 v2 v3 v4 v5 h) h Prod.snd (f_mGreet_done_b93 k73 v0 v2 v3 v4 v5 h) := by
  unfold f_mGreet_done_b93
  refine fe_it fe_no ?_
  refine fe_it ?_ fe_no
  refine fe_b1 Fe.rf (fe_mGreet_note _ _ _) (fun x k hx => by simp only [wI_mGreet_note] at hx; rcases hx with e | e <;> first | exact Or.inr (Or.inr (Or.inr (Or.inr (Or.inr (Or.inr (Or.inr (Or.inr (Or.inr (Or.inr (Or.inr (Or.inr (Or.inr (Or.inr (Or.inr (Or.inl (e)))))))))))))))) | exact Or.inr (Or.inr (Or.inr (Or.inr (Or.inr (Or.inr (Or.inr (Or.inr (Or.inr (Or.inr (Or.inr (Or.inr (Or.inr (Or.inr (Or.inr (Or.inr (Or.inr (Or.inr (Or.inr (Or.inr (Or.inl (e)))))))))))))))))))))) (fun x k hx => False.elim hx) (fun h36 F1 => ?_)
  exact fe_j F1 (hk73 _ _ _ _ _ _) (fun x k hx => by simp only [wI_mGreet_done_b73, F1.r] at hx; rcases hx with e | e | e | e | e | e | e | e | e | e | e | e | e | e | e | e | e | e | e | e | e | e <;> first | exact Or.inl (e) | exact Or.inr (Or.inl (e)) | exact Or.inr (Or.inr (Or.inl (e))) | exact Or.inr (Or.inr (Or.inr (Or.inl (e)))) | exact Or.inr (Or.inr (Or.inr (Or.inr (Or.inl (e))))) | exact Or.inr (Or.inr (Or.inr (Or.inr (Or.inr (Or.inl (e)))))) | exact Or.inr (Or.inr (Or.inr (Or.inr (Or.inr (Or.inr (Or.inl (e))))))) | exact Or.inr (Or.inr (Or.inr (Or.inr (Or.inr (Or.inr (Or.inr (Or.inl (e)))))))) | exact Or.inr (Or.inr (Or.inr (Or.inr (Or.inr (Or.inr (Or.inr (Or.inr (Or.inl (e))))))))) | exact Or.inr (Or.inr (Or.inr (Or.inr (Or.inr (Or.inr (Or.inr (Or.inr (Or.inr (Or.inl (e)))))))))) | exact Or.inr (Or.inr (Or.inr (Or.inr (Or.inr (Or.inr (Or.inr (Or.inr (Or.inr (Or.inr (Or.inl (e))))))))))) | exact Or.inr (Or.inr (Or.inr (Or.inr (Or.inr (Or.inr (Or.inr (Or.inr (Or.inr (Or.inr (Or.inr (Or.inl (e)))))))))))) | exact Or.inr (Or.inr (Or.inr (Or.inr (Or.inr (Or.inr (Or.inr (Or.inr (Or.inr (Or.inr (Or.inr (Or.inr (Or.inl (e))))))))))))) | exact Or.inr (Or.inr (Or.inr (Or.inr (Or.inr (Or.inr (Or.inr (Or.inr (Or.inr (Or.inr (Or.inr (Or.inr (Or.inr (Or.inl (e)))))))))))))) | exact Or.inr (Or.inr (Or.inr (Or.inr (Or.inr (Or.inr (Or.inr (Or.inr (Or.inr (Or.inr (Or.inr (Or.inr (Or.inr (Or.inr (Or.inl (e))))))))))))))) | exact Or.inr (Or.inr (Or.inr (Or.inr (Or.inr (Or.inr (Or.inr (Or.inr (Or.inr (Or.inr (Or.inr (Or.inr (Or.inr (Or.inr (Or.inr (Or.inl (e)))))))))))))))) | exact Or.inr (Or.inr (Or.inr (Or.inr (Or.inr (Or.inr (Or.inr (Or.inr (Or.inr (Or.inr (Or.inr (Or.inr (Or.inr (Or.inr (Or.inr (Or.inr (Or.inl (e))))))))))))))))) | exact Or.inr (Or.inr (Or.inr (Or.inr (Or.inr (Or.inr (Or.inr (Or.inr (Or.inr (Or.inr (Or.inr (Or.inr (Or.inr (Or.inr (Or.inr (Or.inr (Or.inr (Or.inl (e)))))))))))))))))) | exact Or.inr (Or.inr (Or.inr (Or.inr (Or.inr (Or.inr (Or.inr (Or.inr (Or.inr (Or.inr (Or.inr (Or.inr (Or.inr (Or.inr (Or.inr (Or.inr (Or.inr (Or.inr (Or.inl (e))))))))))))))))))) | exact Or.inr (Or.inr (Or.inr (Or.inr (Or.inr (Or.inr (Or.inr (Or.inr (Or.inr (Or.inr (Or.inr (Or.inr (Or.inr (Or.inr (Or.inr (Or.inr (Or.inr (Or.inr (Or.inr (Or.inl (e)))))))))))))))))))) | exact Or.inr (Or.inr (Or.inr (Or.inr (Or.inr (Or.inr (Or.inr (Or.inr (Or.inr (Or.inr (Or.inr (Or.inr (Or.inr (Or.inr (Or.inr (Or.inr (Or.inr (Or.inr (Or.inr (Or.inr (Or.inl (e))))))))))))))))))))) | exact Or.inr (Or.inr (Or.inr (Or.inr (Or.inr (Or.inr (Or.inr (Or.inr (Or.inr (Or.inr (Or.inr (Or.inr (Or.inr (Or.inr (Or.inr (Or.inr (Or.inr (Or.inr (Or.inr (Or.inr (Or.inr (e)))))))))))))))))))))) (fun x k hx => by simp only [wJ_mGreet_done_b73, F1.r] at hx; rcases hx with e | e | e <;> first | exact Or.inl (e) | exact Or.inr (Or.inl (e)) | exact Or.inr (Or.inr (e)))
theorem fe_mGreet_done_b112 (v0 : Nat) (v2 : Int) (v3 : Int) (v4 : Int) (h : Hp) : Feo (wI_mGreet_done_b112 v0 v2 v3 v4 h) (wJ_mGreet_done_b112 v0 v2 v3 v4 h) h Prod.snd (f_mGreet_done_b112 v0 v2 v3 v4 h) := by
  unfold f_mGreet_done_b112
  refine fe_it ?_ ?_
  · refine fe_it ?_ ?_
    · refine fe_it ?_ ?_
      · refine fe_I Fe.rf (Or.inr (Or.inr (Or.inr (Or.inr (Or.inr (Or.inr (Or.inr (Or.inr (Or.inr (Or.inr (Or.inr (Or.inr (Or.inr (Or.inr (Or.inr (Or.inr (Or.inr (Or.inl (⟨rfl, rfl⟩))))))))))))))))))) (fun h5 F1 => ?_)
        refine fe_I F1 (Or.inr (Or.inr (Or.inr (Or.inr (Or.inr (Or.inr (Or.inr (Or.inr (Or.inr (Or.inr (Or.inr (Or.inr (Or.inr (Or.inr (Or.inr (Or.inr (Or.inr (Or.inr (Or.inl (⟨rfl, rfl⟩)))))))))))))))))))) (fun h6 F2 => ?_)
        refine fe_it ?_ ?_
        · exact fe_so F2
        · refine fe_b1 F2 (fe_mGreet_prove _ _ _) (fun x k hx => by simp only [wI_mGreet_prove, F1.r, F2.r] at hx; rcases hx with e | e | e | e | e | e | e | e | e | e | e <;> first | exact Or.inl (e) | exact Or.inr (Or.inl (e)) | exact Or.inr (Or.inr (Or.inl (e))) | exact Or.inr (Or.inr (Or.inr (Or.inr (Or.inr (Or.inl (e)))))) | exact Or.inr (Or.inr (Or.inr (Or.inr (Or.inr (Or.inr (Or.inl (e))))))) | exact Or.inr (Or.inr (Or.inr (Or.inr (Or.inr (Or.inr (Or.inr (Or.inl (e)))))))) | exact Or.inr (Or.inr (Or.inr (Or.inr (Or.inr (Or.inr (Or.inr (Or.inr (Or.inl (e))))))))) | exact Or.inr (Or.inr (Or.inr (Or.inr (Or.inr (Or.inr (Or.inr (Or.inr (Or.inr (Or.inl (e)))))))))) | exact Or.inr (Or.inr (Or.inr (Or.inr (Or.inr (Or.inr (Or.inr (Or.inr (Or.inr (Or.inr (Or.inl (e))))))))))) | exact Or.inr (Or.inr (Or.inr (Or.inr (Or.inr (Or.inr (Or.inr (Or.inr (Or.inr (Or.inr (Or.inr (Or.inl (e)))))))))))) | exact Or.inr (Or.inr (Or.inr (Or.inr (Or.inr (Or.inr (Or.inr (Or.inr (Or.inr (Or.inr (Or.inr (Or.inr (Or.inl (e)))))))))))))) (fun x k hx => by simp only [wJ_mGreet_prove, F1.r, F2.r] at hx; rcases hx with e | e | e <;> first | exact Or.inl (e) | exact Or.inr (Or.inl (e)) | exact Or.inr (Or.inr (e))) (fun h7 F3 => ?_)
          refine fe_b1 F3 (fe_mGreet_says _ _ _ _) (fun x k hx => by simp only [wI_mGreet_says, F1.r, F2.r, F3.r] at hx; rcases hx with e | e | e | e <;> first | exact Or.inr (Or.inr (Or.inr (Or.inr (Or.inr (Or.inr (Or.inr (Or.inr (Or.inr (Or.inr (Or.inr (Or.inr (Or.inr (Or.inl (e)))))))))))))) | exact Or.inr (Or.inr (Or.inr (Or.inr (Or.inr (Or.inr (Or.inr (Or.inr (Or.inr (Or.inr (Or.inr (Or.inr (Or.inr (Or.inr (Or.inr (Or.inl (e)))))))))))))))) | exact Or.inr (Or.inr (Or.inr (Or.inr (Or.inr (Or.inr (Or.inr (Or.inr (Or.inr (Or.inr (Or.inr (Or.inr (Or.inr (Or.inr (Or.inr (Or.inr (Or.inl (e))))))))))))))))) | exact Or.inr (Or.inr (Or.inr (Or.inr (Or.inr (Or.inr (Or.inr (Or.inr (Or.inr (Or.inr (Or.inr (Or.inr (Or.inr (Or.inr (Or.inr (Or.inr (Or.inr (Or.inr (Or.inr (Or.inr (Or.inl (e)))))))))))))))))))))) (fun x k hx => False.elim hx) (fun h9 F4 => ?_)
          refine fe_b1 F4 (fe_mGreet_talks _ _) (fun x k hx => by simp only [wI_mGreet_talks, F1.r, F2.r, F3.r, F4.r] at hx; rcases hx with e | e | e | e | e | e | e | e | e | e | e | e <;> first | exact Or.inl (e) | exact Or.inr (Or.inl (e)) | exact Or.inr (Or.inr (Or.inl (e))) | exact Or.inr (Or.inr (Or.inr (Or.inl (e)))) | exact Or.inr (Or.inr (Or.inr (Or.inr (Or.inr (Or.inl (e)))))) | exact Or.inr (Or.inr (Or.inr (Or.inr (Or.inr (Or.inr (Or.inr (Or.inl (e)))))))) | exact Or.inr (Or.inr (Or.inr (Or.inr (Or.inr (Or.inr (Or.inr (Or.inr (Or.inl (e))))))))) | exact Or.inr (Or.inr (Or.inr (Or.inr (Or.inr (Or.inr (Or.inr (Or.inr (Or.inr (Or.inl (e)))))))))) | exact Or.inr (Or.inr (Or.inr (Or.inr (Or.inr (Or.inr (Or.inr (Or.inr (Or.inr (Or.inr (Or.inl (e))))))))))) | exact Or.inr (Or.inr (Or.inr (Or.inr (Or.inr (Or.inr (Or.inr (Or.inr (Or.inr (Or.inr (Or.inr (Or.inl (e)))))))))))) | exact Or.inr (Or.inr (Or.inr (Or.inr (Or.inr (Or.inr (Or.inr (Or.inr (Or.inr (Or.inr (Or.inr (Or.inr (Or.inl (e))))))))))))) | exact Or.inr (Or.inr (Or.inr (Or.inr (Or.inr (Or.inr (Or.inr (Or.inr (Or.inr (Or.inr (Or.inr (Or.inr (Or.inr (Or.inr (Or.inr (Or.inr (Or.inr (Or.inr (Or.inr (Or.inr (Or.inr (e)))))))))))))))))))))) (fun x k hx => by simp only [wJ_mGreet_talks, F1.r, F2.r, F3.r, F4.r] at hx; rcases hx with e | e | e <;> first | exact Or.inl (e) | exact Or.inr (Or.inl (e)) | exact Or.inr (Or.inr (e))) (fun h11 F5 => ?_)
          exact fe_so F5
      · refine fe_b1 Fe.rf (fe_mGreet_keepTheirs _ _ _ _) (fun x k hx => by simp only [wI_mGreet_keepTheirs] at hx; rcases hx with e | e <;> first | exact Or.inr (Or.inr (Or.inr (Or.inr (Or.inr (Or.inr (Or.inr (Or.inr (Or.inr (Or.inr (Or.inr (Or.inr (Or.inr (Or.inr (Or.inl (e))))))))))))))) | exact Or.inr (Or.inr (Or.inr (Or.inr (Or.inr (Or.inr (Or.inr (Or.inr (Or.inr (Or.inr (Or.inr (Or.inr (Or.inr (Or.inr (Or.inr (Or.inr (Or.inr (Or.inr (Or.inr (Or.inl (e))))))))))))))))))))) (fun x k hx => False.elim hx) (fun h13 F6 => ?_)
        refine fe_I F6 (Or.inr (Or.inr (Or.inr (Or.inr (Or.inr (Or.inr (Or.inr (Or.inr (Or.inr (Or.inr (Or.inr (Or.inr (Or.inr (Or.inr (Or.inr (Or.inr (Or.inr (Or.inl (⟨rfl, rfl⟩))))))))))))))))))) (fun h15 F7 => ?_)
        exact fe_so F7
    · refine fe_b1 Fe.rf (fe_mGreet_greets _ _) (fun x k hx => by simp only [wI_mGreet_greets] at hx; rcases hx with e | e | e | e | e | e | e | e | e | e | e | e <;> first | exact Or.inl (e) | exact Or.inr (Or.inl (e)) | exact Or.inr (Or.inr (Or.inl (e))) | exact Or.inr (Or.inr (Or.inr (Or.inl (e)))) | exact Or.inr (Or.inr (Or.inr (Or.inr (Or.inl (e))))) | exact Or.inr (Or.inr (Or.inr (Or.inr (Or.inr (Or.inl (e)))))) | exact Or.inr (Or.inr (Or.inr (Or.inr (Or.inr (Or.inr (Or.inr (Or.inr (Or.inl (e))))))))) | exact Or.inr (Or.inr (Or.inr (Or.inr (Or.inr (Or.inr (Or.inr (Or.inr (Or.inr (Or.inl (e)))))))))) | exact Or.inr (Or.inr (Or.inr (Or.inr (Or.inr (Or.inr (Or.inr (Or.inr (Or.inr (Or.inr (Or.inl (e))))))))))) | exact Or.inr (Or.inr (Or.inr (Or.inr (Or.inr (Or.inr (Or.inr (Or.inr (Or.inr (Or.inr (Or.inr (Or.inl (e)))))))))))) | exact Or.inr (Or.inr (Or.inr (Or.inr (Or.inr (Or.inr (Or.inr (Or.inr (Or.inr (Or.inr (Or.inr (Or.inr (Or.inl (e))))))))))))) | exact Or.inr (Or.inr (Or.inr (Or.inr (Or.inr (Or.inr (Or.inr (Or.inr (Or.inr (Or.inr (Or.inr (Or.inr (Or.inr (Or.inr (Or.inr (Or.inr (Or.inr (Or.inr (Or.inr (Or.inr (Or.inr (e)))))))))))))))))))))) (fun x k hx => by simp only [wJ_mGreet_greets] at hx; rcases hx with e | e | e <;> first | exact Or.inl (e) | exact Or.inr (Or.inl (e)) | exact Or.inr (Or.inr (e))) (fun h16 F8 => ?_)
      refine fe_I F8 (Or.inr (Or.inr (Or.inr (Or.inr (Or.inr (Or.inr (Or.inr (Or.inr (Or.inr (Or.inr (Or.inr (Or.inr (Or.inr (Or.inr (Or.inr (Or.inr (Or.inr (Or.inl (⟨rfl, rfl⟩))))))))))))))))))) (fun h18 F9 => ?_)
      exact fe_so F9
  · refine fe_b1 Fe.rf (fe_mGreet_keepTheirs _ _ _ _) (fun x k hx => by simp only [wI_mGreet_keepTheirs] at hx; rcases hx with e | e <;> first | exact Or.inr (Or.inr (Or.inr (Or.inr (Or.inr (Or.inr (Or.inr (Or.inr (Or.inr (Or.inr (Or.inr (Or.inr (Or.inr (Or.inr (Or.inl (e))))))))))))))) | exact Or.inr (Or.inr (Or.inr (Or.inr (Or.inr (Or.inr (Or.inr (Or.inr (Or.inr (Or.inr (Or.inr (Or.inr (Or.inr (Or.inr (Or.inr (Or.inr (Or.inr (Or.inr (Or.inr (Or.inl (e))))))))))))))))))))) (fun x k hx => False.elim hx) (fun h19 F10 => ?_)
    refine fe_b1 F10 (fe_mGreet_says _ _ _ _) (fun x k hx => by simp only [wI_mGreet_says, F10.r] at hx; rcases hx with e | e | e | e <;> first | exact Or.inr (Or.inr (Or.inr (Or.inr (Or.inr (Or.inr (Or.inr (Or.inr (Or.inr (Or.inr (Or.inr (Or.inr (Or.inr (Or.inl (e)))))))))))))) | exact Or.inr (Or.inr (Or.inr (Or.inr (Or.inr (Or.inr (Or.inr (Or.inr (Or.inr (Or.inr (Or.inr (Or.inr (Or.inr (Or.inr (Or.inr (Or.inl (e)))))))))))))))) | exact Or.inr (Or.inr (Or.inr (Or.inr (Or.inr (Or.inr (Or.inr (Or.inr (Or.inr (Or.inr (Or.inr (Or.inr (Or.inr (Or.inr (Or.inr (Or.inr (Or.inl (e))))))))))))))))) | exact Or.inr (Or.inr (Or.inr (Or.inr (Or.inr (Or.inr (Or.inr (Or.inr (Or.inr (Or.inr (Or.inr (Or.inr (Or.inr (Or.inr (Or.inr (Or.inr (Or.inr (Or.inr (Or.inr (Or.inr (Or.inl (e)))))))))))))))))))))) (fun x k hx => False.elim hx) (fun h21 F11 => ?_)
    refine fe_b1 F11 (fe_mGreet_greets _ _) (fun x k hx => by simp only [wI_mGreet_greets, F10.r, F11.r] at hx; rcases hx with e | e | e | e | e | e | e | e | e | e | e | e <;> first | exact Or.inl (e) | exact Or.inr (Or.inl (e)) | exact Or.inr (Or.inr (Or.inl (e))) | exact Or.inr (Or.inr (Or.inr (Or.inl (e)))) | exact Or.inr (Or.inr (Or.inr (Or.inr (Or.inl (e))))) | exact Or.inr (Or.inr (Or.inr (Or.inr (Or.inr (Or.inl (e)))))) | exact Or.inr (Or.inr (Or.inr (Or.inr (Or.inr (Or.inr (Or.inr (Or.inr (Or.inl (e))))))))) | exact Or.inr (Or.inr (Or.inr (Or.inr (Or.inr (Or.inr (Or.inr (Or.inr (Or.inr (Or.inl (e)))))))))) | exact Or.inr (Or.inr (Or.inr (Or.inr (Or.inr (Or.inr (Or.inr (Or.inr (Or.inr (Or.inr (Or.inl (e))))))))))) | exact Or.inr (Or.inr (Or.inr (Or.inr (Or.inr (Or.inr (Or.inr (Or.inr (Or.inr (Or.inr (Or.inr (Or.inl (e)))))))))))) | exact Or.inr (Or.inr (Or.inr (Or.inr (Or.inr (Or.inr (Or.inr (Or.inr (Or.inr (Or.inr (Or.inr (Or.inr (Or.inl (e))))))))))))) | exact Or.inr (Or.inr (Or.inr (Or.inr (Or.inr (Or.inr (Or.inr (Or.inr (Or.inr (Or.inr (Or.inr (Or.inr (Or.inr (Or.inr (Or.inr (Or.inr (Or.inr (Or.inr (Or.inr (Or.inr (Or.inr (e)))))))))))))))))))))) (fun x k hx => by simp only [wJ_mGreet_greets, F10.r, F11.r] at hx; rcases hx with e | e | e <;> first | exact Or.inl (e) | exact Or.inr (Or.inl (e)) | exact Or.inr (Or.inr (e))) (fun h23 F12 => ?_)
    refine fe_b1 F12 (fe_mGreet_says _ _ _ _) (fun x k hx => by simp only [wI_mGreet_says, F10.r, F11.r, F12.r] at hx; rcases hx with e | e | e | e <;> first | exact Or.inr (Or.inr (Or.inr (Or.inr (Or.inr (Or.inr (Or.inr (Or.inr (Or.inr (Or.inr (Or.inr (Or.inr (Or.inr (Or.inl (e)))))))))))))) | exact Or.inr (Or.inr (Or.inr (Or.inr (Or.inr (Or.inr (Or.inr (Or.inr (Or.inr (Or.inr (Or.inr (Or.inr (Or.inr (Or.inr (Or.inr (Or.inl (e)))))))))))))))) | exact Or.inr (Or.inr (Or.inr (Or.inr (Or.inr (Or.inr (Or.inr (Or.inr (Or.inr (Or.inr (Or.inr (Or.inr (Or.inr (Or.inr (Or.inr (Or.inr (Or.inl (e))))))))))))))))) | exact Or.inr (Or.inr (Or.inr (Or.inr (Or.inr (Or.inr (Or.inr (Or.inr (Or.inr (Or.inr (Or.inr (Or.inr (Or.inr (Or.inr (Or.inr (Or.inr (Or.inr (Or.inr (Or.inr (Or.inr (Or.inl (e)))))))))))))))))))))) (fun x k hx => False.elim hx) (fun h25 F13 => ?_)
    refine fe_b1 F13 (fe_mGreet_prove _ _ _) (fun x k hx => by simp only [wI_mGreet_prove, F10.r, F11.r, F12.r, F13.r] at hx; rcases hx with e | e | e | e | e | e | e | e | e | e | e <;> first | exact Or.inl (e) | exact Or.inr (Or.inl (e)) | exact Or.inr (Or.inr (Or.inl (e))) | exact Or.inr (Or.inr (Or.inr (Or.inr (Or.inr (Or.inl (e)))))) | exact Or.inr (Or.inr (Or.inr (Or.inr (Or.inr (Or.inr (Or.inl (e))))))) | exact Or.inr (Or.inr (Or.inr (Or.inr (Or.inr (Or.inr (Or.inr (Or.inl (e)))))))) | exact Or.inr (Or.inr (Or.inr (Or.inr (Or.inr (Or.inr (Or.inr (Or.inr (Or.inl (e))))))))) | exact Or.inr (Or.inr (Or.inr (Or.inr (Or.inr (Or.inr (Or.inr (Or.inr (Or.inr (Or.inl (e)))))))))) | exact Or.inr (Or.inr (Or.inr (Or.inr (Or.inr (Or.inr (Or.inr (Or.inr (Or.inr (Or.inr (Or.inl (e))))))))))) | exact Or.inr (Or.inr (Or.inr (Or.inr (Or.inr (Or.inr (Or.inr (Or.inr (Or.inr (Or.inr (Or.inr (Or.inl (e)))))))))))) | exact Or.inr (Or.inr (Or.inr (Or.inr (Or.inr (Or.inr (Or.inr (Or.inr (Or.inr (Or.inr (Or.inr (Or.inr (Or.inl (e)))))))))))))) (fun x k hx => by simp only [wJ_mGreet_prove, F10.r, F11.r, F12.r, F13.r] at hx; rcases hx with e | e | e <;> first | exact Or.inl (e) | exact Or.inr (Or.inl (e)) | exact Or.inr (Or.inr (e))) (fun h27 F14 => ?_)
    refine fe_b1 F14 (fe_mGreet_says _ _ _ _) (fun x k hx => by simp only [wI_mGreet_says, F10.r, F11.r, F12.r, F13.r, F14.r] at hx; rcases hx with e | e | e | e <;> first | exact Or.inr (Or.inr (Or.inr (Or.inr (Or.inr (Or.inr (Or.inr (Or.inr (Or.inr (Or.inr (Or.inr (Or.inr (Or.inr (Or.inl (e)))))))))))))) | exact Or.inr (Or.inr (Or.inr (Or.inr (Or.inr (Or.inr (Or.inr (Or.inr (Or.inr (Or.inr (Or.inr (Or.inr (Or.inr (Or.inr (Or.inr (Or.inl (e)))))))))))))))) | exact Or.inr (Or.inr (Or.inr (Or.inr (Or.inr (Or.inr (Or.inr (Or.inr (Or.inr (Or.inr (Or.inr (Or.inr (Or.inr (Or.inr (Or.inr (Or.inr (Or.inl (e))))))))))))))))) | exact Or.inr (Or.inr (Or.inr (Or.inr (Or.inr (Or.inr (Or.inr (Or.inr (Or.inr (Or.inr (Or.inr (Or.inr (Or.inr (Or.inr (Or.inr (Or.inr (Or.inr (Or.inr (Or.inr (Or.inr (Or.inl (e)))))))))))))))))))))) (fun x k hx => False.elim hx) (fun h29 F15 => ?_)
    refine fe_b1 F15 (fe_mGreet_talks _ _) (fun x k hx => by simp only [wI_mGreet_talks, F10.r, F11.r, F12.r, F13.r, F14.r, F15.r] at hx; rcases hx with e | e | e | e | e | e | e | e | e | e | e | e <;> first | exact Or.inl (e) | exact Or.inr (Or.inl (e)) | exact Or.inr (Or.inr (Or.inl (e))) | exact Or.inr (Or.inr (Or.inr (Or.inl (e)))) | exact Or.inr (Or.inr (Or.inr (Or.inr (Or.inr (Or.inl (e)))))) | exact Or.inr (Or.inr (Or.inr (Or.inr (Or.inr (Or.inr (Or.inr (Or.inl (e)))))))) | exact Or.inr (Or.inr (Or.inr (Or.inr (Or.inr (Or.inr (Or.inr (Or.inr (Or.inl (e))))))))) | exact Or.inr (Or.inr (Or.inr (Or.inr (Or.inr (Or.inr (Or.inr (Or.inr (Or.inr (Or.inl (e)))))))))) | exact Or.inr (Or.inr (Or.inr (Or.inr (Or.inr (Or.inr (Or.inr (Or.inr (Or.inr (Or.inr (Or.inl (e))))))))))) | exact Or.inr (Or.inr (Or.inr (Or.inr (Or.inr (Or.inr (Or.inr (Or.inr (Or.inr (Or.inr (Or.inr (Or.inl (e)))))))))))) | exact Or.inr (Or.inr (Or.inr (Or.inr (Or.inr (Or.inr (Or.inr (Or.inr (Or.inr (Or.inr (Or.inr (Or.inr (Or.inl (e))))))))))))) | exact Or.inr (Or.inr (Or.inr (Or.inr (Or.inr (Or.inr (Or.inr (Or.inr (Or.inr (Or.inr (Or.inr (Or.inr (Or.inr (Or.inr (Or.inr (Or.inr (Or.inr (Or.inr (Or.inr (Or.inr (Or.inr (e)))))))))))))))))))))) (fun x k hx => by simp only [wJ_mGreet_talks, F10.r, F11.r, F12.r, F13.r, F14.r, F15.r] at hx; rcases hx with e | e | e <;> first | exact Or.inl (e) | exact Or.inr (Or.inl (e)) | exact Or.inr (Or.inr (e))) (fun h31 F16 => ?_)
    refine fe_I F16 (Or.inr (Or.inr (Or.inr (Or.inr (Or.inr (Or.inr (Or.inr (Or.inr (Or.inr (Or.inr (Or.inr (Or.inr (Or.inr (Or.inr (Or.inr (Or.inr (Or.inr (Or.inl (⟨rfl, rfl⟩))))))))))))))))))) (fun h33 F17 => ?_)
    exact fe_so F17
theorem fe_mGreet_done_b73 {k73 : Nat → Int → Int → Int → Int → Hp → Option (Int × Hp)} (hk73 : ∀ (v0 : Nat) (v2 : Int) (v3 : Int) (v4 : Int) (v5 : Int) (h : Hp), Feo (wI_mGreet_done_b73 v0 v2 v3 v4 v5 h) (wJ_mGreet_done_b73 v0 v2 v3 v4 v5 h) h Prod.snd (k73 v0 v2 v3 v4 v5 h)) (v0 : Nat) (v2 : Int) (v3 : Int) (v4 : Int) (v5 : Int) (h : Hp) : Feo (wI_mGreet_done_b73 v0 v2 v3 v4 v5 h) (wJ_mGreet_done_b73 v0 v2 v3 v4 v5 h) h Prod.snd (f_mGreet_done_b73 k73 v0 v2 v3 v4 v5 h) := by
  unfold f_mGreet_done_b73
  refine fe_it ?_ ?_
  · exact fe_j Fe.rf (fe_mGreet_done_b112 _ _ _ _ _) (fun x k hx => by simp only [wI_mGreet_done_b112] at hx; rcases hx with e | e | e | e | e | e | e | e | e | e | e | e | e | e | e | e | e | e | e | e | e | e <;> first | exact Or.inl (e) | exact Or.inr (Or.inl (e)) | exact Or.inr (Or.inr (Or.inl (e))) | exact Or.inr (Or.inr (Or.inr (Or.inl (e)))) | exact Or.inr (Or.inr (Or.inr (Or.inr (Or.inl (e))))) | exact Or.inr (Or.inr (Or.inr (Or.inr (Or.inr (Or.inl (e)))))) | exact Or.inr (Or.inr (Or.inr (Or.inr (Or.inr (Or.inr (Or.inl (e))))))) | exact Or.inr (Or.inr (Or.inr (Or.inr (Or.inr (Or.inr (Or.inr (Or.inl (e)))))))) | exact Or.inr (Or.inr (Or.inr (Or.inr (Or.inr (Or.inr (Or.inr (Or.inr (Or.inl (e))))))))) | exact Or.inr (Or.inr (Or.inr (Or.inr (Or.inr (Or.inr (Or.inr (Or.inr (Or.inr (Or.inl (e)))))))))) | exact Or.inr (Or.inr (Or.inr (Or.inr (Or.inr (Or.inr (Or.inr (Or.inr (Or.inr (Or.inr (Or.inl (e))))))))))) | exact Or.inr (Or.inr (Or.inr (Or.inr (Or.inr (Or.inr (Or.inr (Or.inr (Or.inr (Or.inr (Or.inr (Or.inl (e)))))))))))) | exact Or.inr (Or.inr (Or.inr (Or.inr (Or.inr (Or.inr (Or.inr (Or.inr (Or.inr (Or.inr (Or.inr (Or.inr (Or.inl (e))))))))))))) | exact Or.inr (Or.inr (Or.inr (Or.inr (Or.inr (Or.inr (Or.inr (Or.inr (Or.inr (Or.inr (Or.inr (Or.inr (Or.inr (Or.inl (e)))))))))))))) | exact Or.inr (Or.inr (Or.inr (Or.inr (Or.inr (Or.inr (Or.inr (Or.inr (Or.inr (Or.inr (Or.inr (Or.inr (Or.inr (Or.inr (Or.inl (e))))))))))))))) | exact Or.inr (Or.inr (Or.inr (Or.inr (Or.inr (Or.inr (Or.inr (Or.inr (Or.inr (Or.inr (Or.inr (Or.inr (Or.inr (Or.inr (Or.inr (Or.inl (e)))))))))))))))) | exact Or.inr (Or.inr (Or.inr (Or.inr (Or.inr (Or.inr (Or.inr (Or.inr (Or.inr (Or.inr (Or.inr (Or.inr (Or.inr (Or.inr (Or.inr (Or.inr (Or.inl (e))))))))))))))))) | exact Or.inr (Or.inr (Or.inr (Or.inr (Or.inr (Or.inr (Or.inr (Or.inr (Or.inr (Or.inr (Or.inr (Or.inr (Or.inr (Or.inr (Or.inr (Or.inr (Or.inr (Or.inl (e)))))))))))))))))) | exact Or.inr (Or.inr (Or.inr (Or.inr (Or.inr (Or.inr (Or.inr (Or.inr (Or.inr (Or.inr (Or.inr (Or.inr (Or.inr (Or.inr (Or.inr (Or.inr (Or.inr (Or.inr (Or.inl (e))))))))))))))))))) | exact Or.inr (Or.inr (Or.inr (Or.inr (Or.inr (Or.inr (Or.inr (Or.inr (Or.inr (Or.inr (Or.inr (Or.inr (Or.inr (Or.inr (Or.inr (Or.inr (Or.inr (Or.inr (Or.inr (Or.inl (e)))))))))))))))))))) | exact Or.inr (Or.inr (Or.inr (Or.inr (Or.inr (Or.inr (Or.inr (Or.inr (Or.inr (Or.inr (Or.inr (Or.inr (Or.inr (Or.inr (Or.inr (Or.inr (Or.inr (Or.inr (Or.inr (Or.inr (Or.inl (e))))))))))))))))))))) | exact Or.inr (Or.inr (Or.inr (Or.inr (Or.inr (Or.inr (Or.inr (Or.inr (Or.inr (Or.inr (Or.inr (Or.inr (Or.inr (Or.inr (Or.inr (Or.inr (Or.inr (Or.inr (Or.inr (Or.inr (Or.inr (e)))))))))))))))))))))) (fun x k hx => by simp only [wJ_mGreet_done_b112] at hx; rcases hx with e | e | e <;> first | exact Or.inl (e) | exact Or.inr (Or.inl (e)) | exact Or.inr (Or.inr (e)))
  · refine fe_it ?_ ?_
    · exact fe_j Fe.rf (fe_mGreet_done_b93 hk73 _ _ _ _ _ _) (fun x k hx => by simp only [wI_mGreet_done_b93] at hx; rcases hx with e | e | e | e | e | e | e | e | e | e | e | e | e | e | e | e | e | e | e | e | e | e <;> first | exact Or.inl (e) | exact Or.inr (Or.inl (e)) | exact Or.inr (Or.inr (Or.inl (e))) | exact Or.inr (Or.inr (Or.inr (Or.inl (e)))) | exact Or.inr (Or.inr (Or.inr (Or.inr (Or.inl (e))))) | exact Or.inr (Or.inr (Or.inr (Or.inr (Or.inr (Or.inl (e)))))) | exact Or.inr (Or.inr (Or.inr (Or.inr (Or.inr (Or.inr (Or.inl (e))))))) | exact Or.inr (Or.inr (Or.inr (Or.inr (Or.inr (Or.inr (Or.inr (Or.inl (e)))))))) | exact Or.inr (Or.inr (Or.inr (Or.inr (Or.inr (Or.inr (Or.inr (Or.inr (Or.inl (e))))))))) | exact Or.inr (Or.inr (Or.inr (Or.inr (Or.inr (Or.inr (Or.inr (Or.inr (Or.inr (Or.inl (e)))))))))) | exact Or.inr (Or.inr (Or.inr (Or.inr (Or.inr (Or.inr (Or.inr (Or.inr (Or.inr (Or.inr (Or.inl (e))))))))))) | exact Or.inr (Or.inr (Or.inr (Or.inr (Or.inr (Or.inr (Or.inr (Or.inr (Or.inr (Or.inr (Or.inr (Or.inl (e)))))))))))) | exact Or.inr (Or.inr (Or.inr (Or.inr (Or.inr (Or.inr (Or.inr (Or.inr (Or.inr (Or.inr (Or.inr (Or.inr (Or.inl (e))))))))))))) | exact Or.inr (Or.inr (Or.inr (Or.inr (Or.inr (Or.inr (Or.inr (Or.inr (Or.inr (Or.inr (Or.inr (Or.inr (Or.inr (Or.inl (e)))))))))))))) | exact Or.inr (Or.inr (Or.inr (Or.inr (Or.inr (Or.inr (Or.inr (Or.inr (Or.inr (Or.inr (Or.inr (Or.inr (Or.inr (Or.inr (Or.inl (e))))))))))))))) | exact Or.inr (Or.inr (Or.inr (Or.inr (Or.inr (Or.inr (Or.inr (Or.inr (Or.inr (Or.inr (Or.inr (Or.inr (Or.inr (Or.inr (Or.inr (Or.inl (e)))))))))))))))) | exact Or.inr (Or.inr (Or.inr (Or.inr (Or.inr (Or.inr (Or.inr (Or.inr (Or.inr (Or.inr (Or.inr (Or.inr (Or.inr (Or.inr (Or.inr (Or.inr (Or.inl (e))))))))))))))))) | exact Or.inr (Or.inr (Or.inr (Or.inr (Or.inr (Or.inr (Or.inr (Or.inr (Or.inr (Or.inr (Or.inr (Or.inr (Or.inr (Or.inr (Or.inr (Or.inr (Or.inr (Or.inl (e)))))))))))))))))) | exact Or.inr (Or.inr (Or.inr (Or.inr (Or.inr (Or.inr (Or.inr (Or.inr (Or.inr (Or.inr (Or.inr (Or.inr (Or.inr (Or.inr (Or.inr (Or.inr (Or.inr (Or.inr (Or.inl (e))))))))))))))))))) | exact Or.inr (Or.inr (Or.inr (Or.inr (Or.inr (Or.inr (Or.inr (Or.inr (Or.inr (Or.inr (Or.inr (Or.inr (Or.inr (Or.inr (Or.inr (Or.inr (Or.inr (Or.inr (Or.inr (Or.inl (e)))))))))))))))))))) | exact Or.inr (Or.inr (Or.inr (Or.inr (Or.inr (Or.inr (Or.inr (Or.inr (Or.inr (Or.inr (Or.inr (Or.inr (Or.inr (Or.inr (Or.inr (Or.inr (Or.inr (Or.inr (Or.inr (Or.inr (Or.inl (e))))))))))))))))))))) | exact Or.inr (Or.inr (Or.inr (Or.inr (Or.inr (Or.inr (Or.inr (Or.inr (Or.inr (Or.inr (Or.inr (Or.inr (Or.inr (Or.inr (Or.inr (Or.inr (Or.inr (Or.inr (Or.inr (Or.inr (Or.inr (e)))))))))))))))))))))) (fun x k hx => by simp only [wJ_mGreet_done_b93] at hx; rcases hx with e | e | e <;> first | exact Or.inl (e) | exact Or.inr (Or.inl (e)) | exact Or.inr (Or.inr (e)))
    · refine fe_it ?_ ?_
      · exact fe_j Fe.rf (fe_mGreet_done_b112 _ _ _ _ _) (fun x k hx => by simp only [wI_mGreet_done_b112] at hx; rcases hx with e | e | e | e | e | e | e | e | e | e | e | e | e | e | e | e | e | e | e | e | e | e <;> first | exact Or.inl (e) | exact Or.inr (Or.inl (e)) | exact Or.inr (Or.inr (Or.inl (e))) | exact Or.inr (Or.inr (Or.inr (Or.inl (e)))) | exact Or.inr (Or.inr (Or.inr (Or.inr (Or.inl (e))))) | exact Or.inr (Or.inr (Or.inr (Or.inr (Or.inr (Or.inl (e)))))) | exact Or.inr (Or.inr (Or.inr (Or.inr (Or.inr (Or.inr (Or.inl (e))))))) | exact Or.inr (Or.inr (Or.inr (Or.inr (Or.inr (Or.inr (Or.inr (Or.inl (e)))))))) | exact Or.inr (Or.inr (Or.inr (Or.inr (Or.inr (Or.inr (Or.inr (Or.inr (Or.inl (e))))))))) | exact Or.inr (Or.inr (Or.inr (Or.inr (Or.inr (Or.inr (Or.inr (Or.inr (Or.inr (Or.inl (e)))))))))) | exact Or.inr (Or.inr (Or.inr (Or.inr (Or.inr (Or.inr (Or.inr (Or.inr (Or.inr (Or.inr (Or.inl (e))))))))))) | exact Or.inr (Or.inr (Or.inr (Or.inr (Or.inr (Or.inr (Or.inr (Or.inr (Or.inr (Or.inr (Or.inr (Or.inl (e)))))))))))) | exact Or.inr (Or.inr (Or.inr (Or.inr (Or.inr (Or.inr (Or.inr (Or.inr (Or.inr (Or.inr (Or.inr (Or.inr (Or.inl (e))))))))))))) | exact Or.inr (Or.inr (Or.inr (Or.inr (Or.inr (Or.inr (Or.inr (Or.inr (Or.inr (Or.inr (Or.inr (Or.inr (Or.inr (Or.inl (e)))))))))))))) | exact Or.inr (Or.inr (Or.inr (Or.inr (Or.inr (Or.inr (Or.inr (Or.inr (Or.inr (Or.inr (Or.inr (Or.inr (Or.inr (Or.inr (Or.inl (e))))))))))))))) | exact Or.inr (Or.inr (Or.inr (Or.inr (Or.inr (Or.inr (Or.inr (Or.inr (Or.inr (Or.inr (Or.inr (Or.inr (Or.inr (Or.inr (Or.inr (Or.inl (e)))))))))))))))) | exact Or.inr (Or.inr (Or.inr (Or.inr (Or.inr (Or.inr (Or.inr (Or.inr (Or.inr (Or.inr (Or.inr (Or.inr (Or.inr (Or.inr (Or.inr (Or.inr (Or.inl (e))))))))))))))))) | exact Or.inr (Or.inr (Or.inr (Or.inr (Or.inr (Or.inr (Or.inr (Or.inr (Or.inr (Or.inr (Or.inr (Or.inr (Or.inr (Or.inr (Or.inr (Or.inr (Or.inr (Or.inl (e)))))))))))))))))) | exact Or.inr (Or.inr (Or.inr (Or.inr (Or.inr (Or.inr (Or.inr (Or.inr (Or.inr (Or.inr (Or.inr (Or.inr (Or.inr (Or.inr (Or.inr (Or.inr (Or.inr (Or.inr (Or.inl (e))))))))))))))))))) | exact Or.inr (Or.inr (Or.inr (Or.inr (Or.inr (Or.inr (Or.inr (Or.inr (Or.inr (Or.inr (Or.inr (Or.inr (Or.inr (Or.inr (Or.inr (Or.inr (Or.inr (Or.inr (Or.inr (Or.inl (e)))))))))))))))))))) | exact Or.inr (Or.inr (Or.inr (Or.inr (Or.inr (Or.inr (Or.inr (Or.inr (Or.inr (Or.inr (Or.inr (Or.inr (Or.inr (Or.inr (Or.inr (Or.inr (Or.inr (Or.inr (Or.inr (Or.inr (Or.inl (e))))))))))))))))))))) | exact Or.inr (Or.inr (Or.inr (Or.inr (Or.inr (Or.inr (Or.inr (Or.inr (Or.inr (Or.inr (Or.inr (Or.inr (Or.inr (Or.inr (Or.inr (Or.inr (Or.inr (Or.inr (Or.inr (Or.inr (Or.inr (e)))))))))))))))))))))) (fun x k hx => by simp only [wJ_mGreet_done_b112] at hx; rcases hx with e | e | e <;> first | exact Or.inl (e) | exact Or.inr (Or.inl (e)) | exact Or.inr (Or.inr (e)))
      · exact fe_j Fe.rf (fe_mGreet_done_b93 hk73 _ _ _ _ _ _) (fun x k hx => by simp only [wI_mGreet_done_b93] at hx; rcases hx with e | e | e | e | e | e | e | e | e | e | e | e | e | e | e | e | e | e | e | e | e | e <;> first | exact Or.inl (e) | exact Or.inr (Or.inl (e)) | exact Or.inr (Or.inr (Or.inl (e))) | exact Or.inr (Or.inr (Or.inr (Or.inl (e)))) | exact Or.inr (Or.inr (Or.inr (Or.inr (Or.inl (e))))) | exact Or.inr (Or.inr (Or.inr (Or.inr (Or.inr (Or.inl (e)))))) | exact Or.inr (Or.inr (Or.inr (Or.inr (Or.inr (Or.inr (Or.inl (e))))))) | exact Or.inr (Or.inr (Or.inr (Or.inr (Or.inr (Or.inr (Or.inr (Or.inl (e)))))))) | exact Or.inr (Or.inr (Or.inr (Or.inr (Or.inr (Or.inr (Or.inr (Or.inr (Or.inl (e))))))))) | exact Or.inr (Or.inr (Or.inr (Or.inr (Or.inr (Or.inr (Or.inr (Or.inr (Or.inr (Or.inl (e)))))))))) | exact Or.inr (Or.inr (Or.inr (Or.inr (Or.inr (Or.inr (Or.inr (Or.inr (Or.inr (Or.inr (Or.inl (e))))))))))) | exact Or.inr (Or.inr (Or.inr (Or.inr (Or.inr (Or.inr (Or.inr (Or.inr (Or.inr (Or.inr (Or.inr (Or.inl (e)))))))))))) | exact Or.inr (Or.inr (Or.inr (Or.inr (Or.inr (Or.inr (Or.inr (Or.inr (Or.inr (Or.inr (Or.inr (Or.inr (Or.inl (e))))))))))))) | exact Or.inr (Or.inr (Or.inr (Or.inr (Or.inr (Or.inr (Or.inr (Or.inr (Or.inr (Or.inr (Or.inr (Or.inr (Or.inr (Or.inl (e)))))))))))))) | exact Or.inr (Or.inr (Or.inr (Or.inr (Or.inr (Or.inr (Or.inr (Or.inr (Or.inr (Or.inr (Or.inr (Or.inr (Or.inr (Or.inr (Or.inl (e))))))))))))))) | exact Or.inr (Or.inr (Or.inr (Or.inr (Or.inr (Or.inr (Or.inr (Or.inr (Or.inr (Or.inr (Or.inr (Or.inr (Or.inr (Or.inr (Or.inr (Or.inl (e)))))))))))))))) | exact Or.inr (Or.inr (Or.inr (Or.inr (Or.inr (Or.inr (Or.inr (Or.inr (Or.inr (Or.inr (Or.inr (Or.inr (Or.inr (Or.inr (Or.inr (Or.inr (Or.inl (e))))))))))))))))) | exact Or.inr (Or.inr (Or.inr (Or.inr (Or.inr (Or.inr (Or.inr (Or.inr (Or.inr (Or.inr (Or.inr (Or.inr (Or.inr (Or.inr (Or.inr (Or.inr (Or.inr (Or.inl (e)))))))))))))))))) | exact Or.inr (Or.inr (Or.inr (Or.inr (Or.inr (Or.inr (Or.inr (Or.inr (Or.inr (Or.inr (Or.inr (Or.inr (Or.inr (Or.inr (Or.inr (Or.inr (Or.inr (Or.inr (Or.inl (e))))))))))))))))))) | exact Or.inr (Or.inr (Or.inr (Or.inr (Or.inr (Or.inr (Or.inr (Or.inr (Or.inr (Or.inr (Or.inr (Or.inr (Or.inr (Or.inr (Or.inr (Or.inr (Or.inr (Or.inr (Or.inr (Or.inl (e)))))))))))))))))))) | exact Or.inr (Or.inr (Or.inr (Or.inr (Or.inr (Or.inr (Or.inr (Or.inr (Or.inr (Or.inr (Or.inr (Or.inr (Or.inr (Or.inr (Or.inr (Or.inr (Or.inr (Or.inr (Or.inr (Or.inr (Or.inl (e))))))))))))))))))))) | exact Or.inr (Or.inr (Or.inr (Or.inr (Or.inr (Or.inr (Or.inr (Or.inr (Or.inr (Or.inr (Or.inr (Or.inr (Or.inr (Or.inr (Or.inr (Or.inr (Or.inr (Or.inr (Or.inr (Or.inr (Or.inr (e)))))))))))))))))))))) (fun x k hx => by simp only [wJ_mGreet_done_b93] at hx; rcases hx with e | e | e <;> first | exact Or.inl (e) | exact Or.inr (Or.inl (e)) | exact Or.inr (Or.inr (e)))
theorem fe_mGreet_done_b73_lp (n : Nat) : ∀ (v0 : Nat) (v2 : Int) (v3 : Int) (v4 : Int) (v5 : Int) (h : Hp), Feo (wI_mGreet_done_b73 v0 v2 v3 v4 v5 h) (wJ_mGreet_done_b73 v0 v2 v3 v4 v5 h) h Prod.snd (f_mGreet_done_b73_lp n v0 v2 v3 v4 v5 h) := by
  induction n with
  | zero => intro v0 v2 v3 v4 v5 h; exact fe_no
  | succ n ih => intro v0 v2 v3 v4 v5 h; exact fe_mGreet_done_b73 ih v0 v2 v3 v4 v5 h
theorem fe_mGreet_done_b70 (v0 : Nat) (v2 : Int) (v3 : Int) (v4 : Int) (h : Hp) : Feo (wI_mGreet_done_b70 v0 v2 v3 v4 h) (wJ_mGreet_done_b70 v0 v2 v3 v4 h) h Prod.snd (f_mGreet_done_b70 v0 v2 v3 v4 h) := by
  unfold f_mGreet_done_b70
  exact fe_j Fe.rf (fe_mGreet_done_b73_lp FU _ _ _ _ _ _) (fun x k hx => by simp only [wI_mGreet_done_b73] at hx; rcases hx with e | e | e | e | e | e | e | e | e | e | e | e | e | e | e | e | e | e | e | e | e | e <;> first | exact Or.inl (e) | exact Or.inr (Or.inl (e)) | exact Or.inr (Or.inr (Or.inl (e))) | exact Or.inr (Or.inr (Or.inr (Or.inl (e)))) | exact Or.inr (Or.inr (Or.inr (Or.inr (Or.inl (e))))) | exact Or.inr (Or.inr (Or.inr (Or.inr (Or.inr (Or.inl (e)))))) | exact Or.inr (Or.inr (Or.inr (Or.inr (Or.inr (Or.inr (Or.inl (e))))))) | exact Or.inr (Or.inr (Or.inr (Or.inr (Or.inr (Or.inr (Or.inr (Or.inl (e)))))))) | exact Or.inr (Or.inr (Or.inr (Or.inr (Or.inr (Or.inr (Or.inr (Or.inr (Or.inl (e))))))))) | exact Or.inr (Or.inr (Or.inr (Or.inr (Or.inr (Or.inr (Or.inr (Or.inr (Or.inr (Or.inl (e)))))))))) | exact Or.inr (Or.inr (Or.inr (Or.inr (Or.inr (Or.inr (Or.inr (Or.inr (Or.inr (Or.inr (Or.inl (e))))))))))) | exact Or.inr (Or.inr (Or.inr (Or.inr (Or.inr (Or.inr (Or.inr (Or.inr (Or.inr (Or.inr (Or.inr (Or.inl (e)))))))))))) | exact Or.inr (Or.inr (Or.inr (Or.inr (Or.inr (Or.inr (Or.inr (Or.inr (Or.inr (Or.inr (Or.inr (Or.inr (Or.inl (e))))))))))))) | exact Or.inr (Or.inr (Or.inr (Or.inr (Or.inr (Or.inr (Or.inr (Or.inr (Or.inr (Or.inr (Or.inr (Or.inr (Or.inr (Or.inl (e)))))))))))))) | exact Or.inr (Or.inr (Or.inr (Or.inr (Or.inr (Or.inr (Or.inr (Or.inr (Or.inr (Or.inr (Or.inr (Or.inr (Or.inr (Or.inr (Or.inl (e))))))))))))))) | exact Or.inr (Or.inr (Or.inr (Or.inr (Or.inr (Or.inr (Or.inr (Or.inr (Or.inr (Or.inr (Or.inr (Or.inr (Or.inr (Or.inr (Or.inr (Or.inl (e)))))))))))))))) | exact Or.inr (Or.inr (Or.inr (Or.inr (Or.inr (Or.inr (Or.inr (Or.inr (Or.inr (Or.inr (Or.inr (Or.inr (Or.inr (Or.inr (Or.inr (Or.inr (Or.inl (e))))))))))))))))) | exact Or.inr (Or.inr (Or.inr (Or.inr (Or.inr (Or.inr (Or.inr (Or.inr (Or.inr (Or.inr (Or.inr (Or.inr (Or.inr (Or.inr (Or.inr (Or.inr (Or.inr (Or.inl (e)))))))))))))))))) | exact Or.inr (Or.inr (Or.inr (Or.inr (Or.inr (Or.inr (Or.inr (Or.inr (Or.inr (Or.inr (Or.inr (Or.inr (Or.inr (Or.inr (Or.inr (Or.inr (Or.inr (Or.inr (Or.inl (e))))))))))))))))))) | exact Or.inr (Or.inr (Or.inr (Or.inr (Or.inr (Or.inr (Or.inr (Or.inr (Or.inr (Or.inr (Or.inr (Or.inr (Or.inr (Or.inr (Or.inr (Or.inr (Or.inr (Or.inr (Or.inr (Or.inl (e)))))))))))))))))))) | exact Or.inr (Or.inr (Or.inr (Or.inr (Or.inr (Or.inr (Or.inr (Or.inr (Or.inr (Or.inr (Or.inr (Or.inr (Or.inr (Or.inr (Or.inr (Or.inr (Or.inr (Or.inr (Or.inr (Or.inr (Or.inl (e))))))))))))))))))))) | exact Or.inr (Or.inr (Or.inr (Or.inr (Or.inr (Or.inr (Or.inr (Or.inr (Or.inr (Or.inr (Or.inr (Or.inr (Or.inr (Or.inr (Or.inr (Or.inr (Or.inr (Or.inr (Or.inr (Or.inr (Or.inr (e)))))))))))))))))))))) (fun x k hx => by simp only [wJ_mGreet_done_b73] at hx; rcases hx with e | e | e <;> first | exact Or.inl (e) | exact Or.inr (Or.inl (e)) | exact Or.inr (Or.inr (e)))
theorem fe_mGreet_done_b32 {k32 : Nat → Int → Int → Int → Int → Hp → Option (Int × Hp)} (hk32 : ∀ (v0 : Nat) (v2 : Int) (v3 : Int) (v4 : Int) (v5 : Int) (h : Hp), Feo (wI_mGreet_done_b32 v0 v2 v3 v4 v5 h) (wJ_mGreet_done_b32 v0 v2 v3 v4 v5 h) h Prod.snd (k32 v0 v2 v3 v4 v5 h)) (v0 : Nat) (v2 : Int) (v3 : Int) (v4 : Int) (v5 : Int) (h : Hp) : Feo (wI_mGreet_done_b32 v0 v2 v3 v4 v5 h) (wJ_mGreet_done_b32 v0 v2 v3 v4 v5 h) h Prod.snd (f_mGreet_done_b32 k32 v0 v2 v3 v4 v5 h) := by
  unfold f_mGreet_done_b32
  refine fe_it ?_ ?_
  · exact fe_j Fe.rf (fe_mGreet_done_b70 _ _ _ _ _) (fun x k hx => by simp only [wI_mGreet_done_b70] at hx; rcases hx with e | e | e | e | e | e | e | e | e | e | e | e | e | e | e | e | e | e | e | e | e | e <;> first | exact Or.inl (e) | exact Or.inr (Or.inl (e)) | exact Or.inr (Or.inr (Or.inl (e))) | exact Or.inr (Or.inr (Or.inr (Or.inl (e)))) | exact Or.inr (Or.inr (Or.inr (Or.inr (Or.inl (e))))) | exact Or.inr (Or.inr (Or.inr (Or.inr (Or.inr (Or.inl (e)))))) | exact Or.inr (Or.inr (Or.inr (Or.inr (Or.inr (Or.inr (Or.inl (e))))))) | exact Or.inr (Or.inr (Or.inr (Or.inr (Or.inr (Or.inr (Or.inr (Or.inl (e)))))))) | exact Or.inr (Or.inr (Or.inr (Or.inr (Or.inr (Or.inr (Or.inr (Or.inr (Or.inl (e))))))))) | exact Or.inr (Or.inr (Or.inr (Or.inr (Or.inr (Or.inr (Or.inr (Or.inr (Or.inr (Or.inl (e)))))))))) | exact Or.inr (Or.inr (Or.inr (Or.inr (Or.inr (Or.inr (Or.inr (Or.inr (Or.inr (Or.inr (Or.inl (e))))))))))) | exact Or.inr (Or.inr (Or.inr (Or.inr (Or.inr (Or.inr (Or.inr (Or.inr (Or.inr (Or.inr (Or.inr (Or.inl (e)))))))))))) | exact Or.inr (Or.inr (Or.inr (Or.inr (Or.inr (Or.inr (Or.inr (Or.inr (Or.inr (Or.inr (Or.inr (Or.inr (Or.inl (e))))))))))))) | exact Or.inr (Or.inr (Or.inr (Or.inr (Or.inr (Or.inr (Or.inr (Or.inr (Or.inr (Or.inr (Or.inr (Or.inr (Or.inr (Or.inl (e)))))))))))))) | exact Or.inr (Or.inr (Or.inr (Or.inr (Or.inr (Or.inr (Or.inr (Or.inr (Or.inr (Or.inr (Or.inr (Or.inr (Or.inr (Or.inr (Or.inl (e))))))))))))))) | exact Or.inr (Or.inr (Or.inr (Or.inr (Or.inr (Or.inr (Or.inr (Or.inr (Or.inr (Or.inr (Or.inr (Or.inr (Or.inr (Or.inr (Or.inr (Or.inl (e)))))))))))))))) | exact Or.inr (Or.inr (Or.inr (Or.inr (Or.inr (Or.inr (Or.inr (Or.inr (Or.inr (Or.inr (Or.inr (Or.inr (Or.inr (Or.inr (Or.inr (Or.inr (Or.inl (e))))))))))))))))) | exact Or.inr (Or.inr (Or.inr (Or.inr (Or.inr (Or.inr (Or.inr (Or.inr (Or.inr (Or.inr (Or.inr (Or.inr (Or.inr (Or.inr (Or.inr (Or.inr (Or.inr (Or.inl (e)))))))))))))))))) | exact Or.inr (Or.inr (Or.inr (Or.inr (Or.inr (Or.inr (Or.inr (Or.inr (Or.inr (Or.inr (Or.inr (Or.inr (Or.inr (Or.inr (Or.inr (Or.inr (Or.inr (Or.inr (Or.inl (e))))))))))))))))))) | exact Or.inr (Or.inr (Or.inr (Or.inr (Or.inr (Or.inr (Or.inr (Or.inr (Or.inr (Or.inr (Or.inr (Or.inr (Or.inr (Or.inr (Or.inr (Or.inr (Or.inr (Or.inr (Or.inr (Or.inl (e)))))))))))))))))))) | exact Or.inr (Or.inr (Or.inr (Or.inr (Or.inr (Or.inr (Or.inr (Or.inr (Or.inr (Or.inr (Or.inr (Or.inr (Or.inr (Or.inr (Or.inr (Or.inr (Or.inr (Or.inr (Or.inr (Or.inr (Or.inl (e))))))))))))))))))))) | exact Or.inr (Or.inr (Or.inr (Or.inr (Or.inr (Or.inr (Or.inr (Or.inr (Or.inr (Or.inr (Or.inr (Or.inr (Or.inr (Or.inr (Or.inr (Or.inr (Or.inr (Or.inr (Or.inr (Or.inr (Or.inr (e)))))))))))))))))))))) (fun x k hx => by simp only [wJ_mGreet_done_b70] at hx; rcases hx with e | e | e <;> first | exact Or.inl (e) | exact Or.inr (Or.inl (e)) | exact Or.inr (Or.inr (e)))
  · refine fe_it fe_no ?_
    refine fe_it ?_ fe_no
    refine fe_it fe_no ?_
    refine fe_it ?_ fe_no
    refine fe_it ?_ ?_
    · exact fe_j Fe.rf (hk32 _ _ _ _ _ _) (fun x k hx => by simp only [wI_mGreet_done_b32] at hx; rcases hx with e | e | e | e | e | e | e | e | e | e | e | e | e | e | e | e | e | e | e | e | e | e <;> first | exact Or.inl (e) | exact Or.inr (Or.inl (e)) | exact Or.inr (Or.inr (Or.inl (e))) | exact Or.inr (Or.inr (Or.inr (Or.inl (e)))) | exact Or.inr (Or.inr (Or.inr (Or.inr (Or.inl (e))))) | exact Or.inr (Or.inr (Or.inr (Or.inr (Or.inr (Or.inl (e)))))) | exact Or.inr (Or.inr (Or.inr (Or.inr (Or.inr (Or.inr (Or.inl (e))))))) | exact Or.inr (Or.inr (Or.inr (Or.inr (Or.inr (Or.inr (Or.inr (Or.inl (e)))))))) | exact Or.inr (Or.inr (Or.inr (Or.inr (Or.inr (Or.inr (Or.inr (Or.inr (Or.inl (e))))))))) | exact Or.inr (Or.inr (Or.inr (Or.inr (Or.inr (Or.inr (Or.inr (Or.inr (Or.inr (Or.inl (e)))))))))) | exact Or.inr (Or.inr (Or.inr (Or.inr (Or.inr (Or.inr (Or.inr (Or.inr (Or.inr (Or.inr (Or.inl (e))))))))))) | exact Or.inr (Or.inr (Or.inr (Or.inr (Or.inr (Or.inr (Or.inr (Or.inr (Or.inr (Or.inr (Or.inr (Or.inl (e)))))))))))) | exact Or.inr (Or.inr (Or.inr (Or.inr (Or.inr (Or.inr (Or.inr (Or.inr (Or.inr (Or.inr (Or.inr (Or.inr (Or.inl (e))))))))))))) | exact Or.inr (Or.inr (Or.inr (Or.inr (Or.inr (Or.inr (Or.inr (Or.inr (Or.inr (Or.inr (Or.inr (Or.inr (Or.inr (Or.inl (e)))))))))))))) | exact Or.inr (Or.inr (Or.inr (Or.inr (Or.inr (Or.inr (Or.inr (Or.inr (Or.inr (Or.inr (Or.inr (Or.inr (Or.inr (Or.inr (Or.inl (e))))))))))))))) | exact Or.inr (Or.inr (Or.inr (Or.inr (Or.inr (Or.inr (Or.inr (Or.inr (Or.inr (Or.inr (Or.inr (Or.inr (Or.inr (Or.inr (Or.inr (Or.inl (e)))))))))))))))) | exact Or.inr (Or.inr (Or.inr (Or.inr (Or.inr (Or.inr (Or.inr (Or.inr (Or.inr (Or.inr (Or.inr (Or.inr (Or.inr (Or.inr (Or.inr (Or.inr (Or.inl (e))))))))))))))))) | exact Or.inr (Or.inr (Or.inr (Or.inr (Or.inr (Or.inr (Or.inr (Or.inr (Or.inr (Or.inr (Or.inr (Or.inr (Or.inr (Or.inr (Or.inr (Or.inr (Or.inr (Or.inl (e)))))))))))))))))) | exact Or.inr (Or.inr (Or.inr (Or.inr (Or.inr (Or.inr (Or.inr (Or.inr (Or.inr (Or.inr (Or.inr (Or.inr (Or.inr (Or.inr (Or.inr (Or.inr (Or.inr (Or.inr (Or.inl (e))))))))))))))))))) | exact Or.inr (Or.inr (Or.inr (Or.inr (Or.inr (Or.inr (Or.inr (Or.inr (Or.inr (Or.inr (Or.inr (Or.inr (Or.inr (Or.inr (Or.inr (Or.inr (Or.inr (Or.inr (Or.inr (Or.inl (e)))))))))))))))))))) | exact Or.inr (Or.inr (Or.inr (Or.inr (Or.inr (Or.inr (Or.inr (Or.inr (Or.inr (Or.inr (Or.inr (Or.inr (Or.inr (Or.inr (Or.inr (Or.inr (Or.inr (Or.inr (Or.inr (Or.inr (Or.inl (e))))))))))))))))))))) | exact Or.inr (Or.inr (Or.inr (Or.inr (Or.inr (Or.inr (Or.inr (Or.inr (Or.inr (Or.inr (Or.inr (Or.inr (Or.inr (Or.inr (Or.inr (Or.inr (Or.inr (Or.inr (Or.inr (Or.inr (Or.inr (e)))))))))))))))))))))) (fun x k hx => by simp only [wJ_mGreet_done_b32] at hx; rcases hx with e | e | e <;> first | exact Or.inl (e) | exact Or.inr (Or.inl (e)) | exact Or.inr (Or.inr (e)))
    · exact fe_so Fe.rf
theorem fe_mGreet_done_b32_lp (n : Nat) : ∀ (v0 : Nat) (v2 : Int) (v3 : Int) (v4 : Int) (v5 : Int) (h : Hp), Feo (wI_mGreet_done_b32 v0 v2 v3 v4 v5 h) (wJ_mGreet_done_b32 v0 v2 v3 v4 v5 h) h Prod.snd (f_mGreet_done_b32_lp n v0 v2 v3 v4 v5 h) := by
  induction n with
  | zero => intro v0 v2 v3 v4 v5 h; exact fe_no
  | succ n ih => intro v0 v2 v3 v4 v5 h; exact fe_mGreet_done_b32 ih v0 v2 v3 v4 v5 h
theorem fe_mGreet_done (v0 : Nat) (v1 : Int) (v2 : Int) (h : Hp) : Feo (wI_mGreet_done v0 v1 v2 h) (wJ_mGreet_done v0 v1 v2 h) h Prod.snd (f_mGreet_done v0 v1 v2 h) := by
  unfold f_mGreet_done
  refine fe_v (fun y1 => ?_)
  refine fe_v (fun y2 => ?_)
  refine fe_it ?_ ?_
  · exact fe_j Fe.rf (fe_mGreet_done_b70 _ _ _ _ _) (fun x k hx => by simp only [wI_mGreet_done_b70] at hx; rcases hx with e | e | e | e | e | e | e | e | e | e | e | e | e | e | e | e | e | e | e | e | e | e <;> first | exact Or.inl (e) | exact Or.inr (Or.inl (e)) | exact Or.inr (Or.inr (Or.inl (e))) | exact Or.inr (Or.inr (Or.inr (Or.inl (e)))) | exact Or.inr (Or.inr (Or.inr (Or.inr (Or.inl (e))))) | exact Or.inr (Or.inr (Or.inr (Or.inr (Or.inr (Or.inl (e)))))) | exact Or.inr (Or.inr (Or.inr (Or.inr (Or.inr (Or.inr (Or.inl (e))))))) | exact Or.inr (Or.inr (Or.inr (Or.inr (Or.inr (Or.inr (Or.inr (Or.inl (e)))))))) | exact Or.inr (Or.inr (Or.inr (Or.inr (Or.inr (Or.inr (Or.inr (Or.inr (Or.inl (e))))))))) | exact Or.inr (Or.inr (Or.inr (Or.inr (Or.inr (Or.inr (Or.inr (Or.inr (Or.inr (Or.inl (e)))))))))) | exact Or.inr (Or.inr (Or.inr (Or.inr (Or.inr (Or.inr (Or.inr (Or.inr (Or.inr (Or.inr (Or.inl (e))))))))))) | exact Or.inr (Or.inr (Or.inr (Or.inr (Or.inr (Or.inr (Or.inr (Or.inr (Or.inr (Or.inr (Or.inr (Or.inl (e)))))))))))) | exact Or.inr (Or.inr (Or.inr (Or.inr (Or.inr (Or.inr (Or.inr (Or.inr (Or.inr (Or.inr (Or.inr (Or.inr (Or.inl (e))))))))))))) | exact Or.inr (Or.inr (Or.inr (Or.inr (Or.inr (Or.inr (Or.inr (Or.inr (Or.inr (Or.inr (Or.inr (Or.inr (Or.inr (Or.inl (e)))))))))))))) | exact Or.inr (Or.inr (Or.inr (Or.inr (Or.inr (Or.inr (Or.inr (Or.inr (Or.inr (Or.inr (Or.inr (Or.inr (Or.inr (Or.inr (Or.inl (e))))))))))))))) | exact Or.inr (Or.inr (Or.inr (Or.inr (Or.inr (Or.inr (Or.inr (Or.inr (Or.inr (Or.inr (Or.inr (Or.inr (Or.inr (Or.inr (Or.inr (Or.inl (e)))))))))))))))) | exact Or.inr (Or.inr (Or.inr (Or.inr (Or.inr (Or.inr (Or.inr (Or.inr (Or.inr (Or.inr (Or.inr (Or.inr (Or.inr (Or.inr (Or.inr (Or.inr (Or.inl (e))))))))))))))))) | exact Or.inr (Or.inr (Or.inr (Or.inr (Or.inr (Or.inr (Or.inr (Or.inr (Or.inr (Or.inr (Or.inr (Or.inr (Or.inr (Or.inr (Or.inr (Or.inr (Or.inr (Or.inl (e)))))))))))))))))) | exact Or.inr (Or.inr (Or.inr (Or.inr (Or.inr (Or.inr (Or.inr (Or.inr (Or.inr (Or.inr (Or.inr (Or.inr (Or.inr (Or.inr (Or.inr (Or.inr (Or.inr (Or.inr (Or.inl (e))))))))))))))))))) | exact Or.inr (Or.inr (Or.inr (Or.inr (Or.inr (Or.inr (Or.inr (Or.inr (Or.inr (Or.inr (Or.inr (Or.inr (Or.inr (Or.inr (Or.inr (Or.inr (Or.inr (Or.inr (Or.inr (Or.inl (e)))))))))))))))))))) | exact Or.inr (Or.inr (Or.inr (Or.inr (Or.inr (Or.inr (Or.inr (Or.inr (Or.inr (Or.inr (Or.inr (Or.inr (Or.inr (Or.inr (Or.inr (Or.inr (Or.inr (Or.inr (Or.inr (Or.inr (Or.inl (e))))))))))))))))))))) | exact Or.inr (Or.inr (Or.inr (Or.inr (Or.inr (Or.inr (Or.inr (Or.inr (Or.inr (Or.inr (Or.inr (Or.inr (Or.inr (Or.inr (Or.inr (Or.inr (Or.inr (Or.inr (Or.inr (Or.inr (Or.inr (e)))))))))))))))))))))) (fun x k hx => by simp only [wJ_mGreet_done_b70] at hx; rcases hx with e | e | e <;> first | exact Or.inl (e) | exact Or.inr (Or.inl (e)) | exact Or.inr (Or.inr (e)))
  · refine fe_b1 Fe.rf (fe_mGreet_prove _ _ _) (fun x k hx => by simp only [wI_mGreet_prove] at hx; rcases hx with e | e | e | e | e | e | e | e | e | e | e <;> first | exact Or.inl (e) | exact Or.inr (Or.inl (e)) | exact Or.inr (Or.inr (Or.inl (e))) | exact Or.inr (Or.inr (Or.inr (Or.inr (Or.inr (Or.inl (e)))))) | exact Or.inr (Or.inr (Or.inr (Or.inr (Or.inr (Or.inr (Or.inl (e))))))) | exact Or.inr (Or.inr (Or.inr (Or.inr (Or.inr (Or.inr (Or.inr (Or.inl (e)))))))) | exact Or.inr (Or.inr (Or.inr (Or.inr (Or.inr (Or.inr (Or.inr (Or.inr (Or.inl (e))))))))) | exact Or.inr (Or.inr (Or.inr (Or.inr (Or.inr (Or.inr (Or.inr (Or.inr (Or.inr (Or.inl (e)))))))))) | exact Or.inr (Or.inr (Or.inr (Or.inr (Or.inr (Or.inr (Or.inr (Or.inr (Or.inr (Or.inr (Or.inl (e))))))))))) | exact Or.inr (Or.inr (Or.inr (Or.inr (Or.inr (Or.inr (Or.inr (Or.inr (Or.inr (Or.inr (Or.inr (Or.inl (e)))))))))))) | exact Or.inr (Or.inr (Or.inr (Or.inr (Or.inr (Or.inr (Or.inr (Or.inr (Or.inr (Or.inr (Or.inr (Or.inr (Or.inl (e)))))))))))))) (fun x k hx => by simp only [wJ_mGreet_prove] at hx; rcases hx with e | e | e <;> first | exact Or.inl (e) | exact Or.inr (Or.inl (e)) | exact Or.inr (Or.inr (e))) (fun h3 F1 => ?_)
    exact fe_j F1 (fe_mGreet_done_b32_lp FU _ _ _ _ _ _) (fun x k hx => by simp only [wI_mGreet_done_b32, F1.r] at hx; rcases hx with e | e | e | e | e | e | e | e | e | e | e | e | e | e | e | e | e | e | e | e | e | e <;> first | exact Or.inl (e) | exact Or.inr (Or.inl (e)) | exact Or.inr (Or.inr (Or.inl (e))) | exact Or.inr (Or.inr (Or.inr (Or.inl (e)))) | exact Or.inr (Or.inr (Or.inr (Or.inr (Or.inl (e))))) | exact Or.inr (Or.inr (Or.inr (Or.inr (Or.inr (Or.inl (e)))))) | exact Or.inr (Or.inr (Or.inr (Or.inr (Or.inr (Or.inr (Or.inl (e))))))) | exact Or.inr (Or.inr (Or.inr (Or.inr (Or.inr (Or.inr (Or.inr (Or.inl (e)))))))) | exact Or.inr (Or.inr (Or.inr (Or.inr (Or.inr (Or.inr (Or.inr (Or.inr (Or.inl (e))))))))) | exact Or.inr (Or.inr (Or.inr (Or.inr (Or.inr (Or.inr (Or.inr (Or.inr (Or.inr (Or.inl (e)))))))))) | exact Or.inr (Or.inr (Or.inr (Or.inr (Or.inr (Or.inr (Or.inr (Or.inr (Or.inr (Or.inr (Or.inl (e))))))))))) | exact Or.inr (Or.inr (Or.inr (Or.inr (Or.inr (Or.inr (Or.inr (Or.inr (Or.inr (Or.inr (Or.inr (Or.inl (e)))))))))))) | exact Or.inr (Or.inr (Or.inr (Or.inr (Or.inr (Or.inr (Or.inr (Or.inr (Or.inr (Or.inr (Or.inr (Or.inr (Or.inl (e))))))))))))) | exact Or.inr (Or.inr (Or.inr (Or.inr (Or.inr (Or.inr (Or.inr (Or.inr (Or.inr (Or.inr (Or.inr (Or.inr (Or.inr (Or.inl (e)))))))))))))) | exact Or.inr (Or.inr (Or.inr (Or.inr (Or.inr (Or.inr (Or.inr (Or.inr (Or.inr (Or.inr (Or.inr (Or.inr (Or.inr (Or.inr (Or.inl (e))))))))))))))) | exact Or.inr (Or.inr (Or.inr (Or.inr (Or.inr (Or.inr (Or.inr (Or.inr (Or.inr (Or.inr (Or.inr (Or.inr (Or.inr (Or.inr (Or.inr (Or.inl (e)))))))))))))))) | exact Or.inr (Or.inr (Or.inr (Or.inr (Or.inr (Or.inr (Or.inr (Or.inr (Or.inr (Or.inr (Or.inr (Or.inr (Or.inr (Or.inr (Or.inr (Or.inr (Or.inl (e))))))))))))))))) | exact Or.inr (Or.inr (Or.inr (Or.inr (Or.inr (Or.inr (Or.inr (Or.inr (Or.inr (Or.inr (Or.inr (Or.inr (Or.inr (Or.inr (Or.inr (Or.inr (Or.inr (Or.inl (e)))))))))))))))))) | exact Or.inr (Or.inr (Or.inr (Or.inr (Or.inr (Or.inr (Or.inr (Or.inr (Or.inr (Or.inr (Or.inr (Or.inr (Or.inr (Or.inr (Or.inr (Or.inr (Or.inr (Or.inr (Or.inl (e))))))))))))))))))) | exact Or.inr (Or.inr (Or.inr (Or.inr (Or.inr (Or.inr (Or.inr (Or.inr (Or.inr (Or.inr (Or.inr (Or.inr (Or.inr (Or.inr (Or.inr (Or.inr (Or.inr (Or.inr (Or.inr (Or.inl (e)))))))))))))))))))) | exact Or.inr (Or.inr (Or.inr (Or.inr (Or.inr (Or.inr (Or.inr (Or.inr (Or.inr (Or.inr (Or.inr (Or.inr (Or.inr (Or.inr (Or.inr (Or.inr (Or.inr (Or.inr (Or.inr (Or.inr (Or.inl (e))))))))))))))))))))) | exact Or.inr (Or.inr (Or.inr (Or.inr (Or.inr (Or.inr (Or.inr (Or.inr (Or.inr (Or.inr (Or.inr (Or.inr (Or.inr (Or.inr (Or.inr (Or.inr (Or.inr (Or.inr (Or.inr (Or.inr (Or.inr (e)))))))))))))))))))))) (fun x k hx => by simp only [wJ_mGreet_done_b32, F1.r] at hx; rcases hx with e | e | e <;> first | exact Or.inl (e) | exact Or.inr (Or.inl (e)) | exact Or.inr (Or.inr (e)))
def wI_mGreet_works_b40 (v0 : Nat) (v1 : Int) (v2 : Int) (v4 : Int) (h : Hp) (x k : Nat) : Prop := x = (hR h (hR h v0 1) 9) ∨ (x = (hR h v0 1) ∧ k = 11) ∨ (x = (hR h v0 1) ∧ k = 13) ∨ x = (hR h v0 17) ∨ x = (hR h v0 19) ∨ x = (hR h v0 20) ∨ x = (hR h v0 21) ∨ x = (hR h v0 22) ∨ x = hR h (hR h v0 1) 10 ∨ x = hR h (hR h v0 1) 12 ∨ x = hR h (hR h v0 1) 14 ∨ x = hR h (hR h v0 1) 4 ∨ x = hR h (hR h v0 1) 8 ∨ x = hR h v0 10 ∨ x = hR h v0 11 ∨ x = hR h v0 12 ∨ x = hR h v0 13 ∨ x = hR h v0 15 ∨ x = hR h v0 9 ∨ (x = v0 ∧ k = 6) ∨ (x = v0 ∧ k = 7) ∨ (x = v0 ∧ k = 8) ∨ (x = v0 ∧ k = 14) ∨ (x = v0 ∧ k = 16) ∨ (x = v0 ∧ k = 18)
def wJ_mGreet_works_b40 (v0 : Nat) (v1 : Int) (v2 : Int) (v4 : Int) (h : Hp) (x k : Nat) : Prop := x = hR h (hR h v0 1) 5 ∨ x = hR h (hR h v0 1) 6 ∨ x = hR h (hR h v0 1) 7
def wI_mGreet_works_b123 (v0 : Nat) (v2 : Int) (h : Hp) (x k : Nat) : Prop := False
def wJ_mGreet_works_b123 (v0 : Nat) (v2 : Int) (h : Hp) (x k : Nat) : Prop := False
def wI_mGreet_works_b6 (v0 : Nat) (v1 : Int) (v2 : Int) (h : Hp) (x k : Nat) : Prop := x = (hR h (hR h v0 1) 9) ∨ (x = (hR h v0 1) ∧ k = 11) ∨ (x = (hR h v0 1) ∧ k = 13) ∨ x = (hR h v0 17) ∨ x = (hR h v0 19) ∨ x = (hR h v0 20) ∨ x = (hR h v0 21) ∨ x = (hR h v0 22) ∨ x = hR h (hR h v0 1) 10 ∨ x = hR h (hR h v0 1) 12 ∨ x = hR h (hR h v0 1) 14 ∨ x = hR h (hR h v0 1) 4 ∨ x = hR h (hR h v0 1) 8 ∨ x = hR h v0 10 ∨ x = hR h v0 11 ∨ x = hR h v0 12 ∨ x = hR h v0 13 ∨ x = hR h v0 15 ∨ x = hR h v0 9 ∨ (x = v0 ∧ k = 6) ∨ (x = v0 ∧ k = 7) ∨ (x = v0 ∧ k = 8) ∨ (x = v0 ∧ k = 14) ∨ (x = v0 ∧ k = 16) ∨ (x = v0 ∧ k = 18)
def wJ_mGreet_works_b6 (v0 : Nat) (v1 : Int) (v2 : Int) (h : Hp) (x k : Nat) : Prop := x = hR h (hR h v0 1) 5 ∨ x = hR h (hR h v0 1) 6 ∨ x = hR h (hR h v0 1) 7
def wI_mGreet_works (v0 : Nat) (v1 : Int) (h : Hp) (x k : Nat) : Prop := x = (hR h (hR h v0 1) 9) ∨ (x = (hR h v0 1) ∧ k = 11) ∨ (x = (hR h v0 1) ∧ k = 13) ∨ x = (hR h v0 17) ∨ x = (hR h v0 19) ∨ x = (hR h v0 20) ∨ x = (hR h v0 21) ∨ x = (hR h v0 22) ∨ x = hR h (hR h v0 1) 10 ∨ x = hR h (hR h v0 1) 12 ∨ x = hR h (hR h v0 1) 14 ∨ x = hR h (hR h v0 1) 4 ∨ x = hR h (hR h v0 1) 8 ∨ x = hR h v0 10 ∨ x = hR h v0 11 ∨ x = hR h v0 12 ∨ x = hR h v0 13 ∨ x = hR h v0 15 ∨ x = hR h v0 9 ∨ (x = v0 ∧ k = 6) ∨ (x = v0 ∧ k = 7) ∨ (x = v0 ∧ k = 8) ∨ (x = v0 ∧ k = 14) ∨ (x = v0 ∧ k = 16) ∨ (x = v0 ∧ k = 18)
def wJ_mGreet_works (v0 : Nat) (v1 : Int) (h : Hp) (x k : Nat) : Prop := x = hR h (hR h v0 1) 5 ∨ x = hR h (hR h v0 1) 6 ∨ x = hR h (hR h v0 1) 7
theorem fe_mGreet_works_b40 {k6 : Nat → Int → Int → Hp → Option (Int × Hp)} (hk6 : ∀ (v0 : Nat) (v1 : Int) (v2 : Int) (h : Hp), Feo (wI_mGreet_works_b6 v0 v1 v2 h) (wJ_mGreet_works_b6 v0 v1 v2 h) h Prod.snd (k6 v0 v1 v2 h)) {k40 : Nat → Int → Int → Int → Hp → Option (Int × Hp)} (hk40 : ∀ (v0 : Nat) (v1 : Int) (v2 : Int) (v4 : Int) (h : Hp), Feo (wI_mGreet_works_b40 v0 v1 v2 v4 h) (wJ_mGreet_works_b40 v0 v1 v2 v4 h) h Prod.snd (k40 v0 v1 v2 v4 h)) (v0 : Nat) (v1 : Int) (v2 : Int) (v4 : Int) (h : Hp) : Feo (wI_mGreet_works_b40 v0 v1 v2 v4 h) (wJ_mGreet_works_b40 v0 v1 v2 v4 h) h Prod.snd (f_mGreet_works_b40 k6 k40 v0 v1 v2 v4 h) := by
  unfold f_mGreet_works_b40
  refine fe_it fe_no ?_
  refine fe_it ?_ fe_no
  refine fe_it ?_ ?_
  · refine fe_b2 Fe.rf (fe_mGreet_lookAt _ _ _) (fun x k hx => False.elim hx) (fun x k hx => False.elim hx) (fun r24 h22 F1 => ?_)
    exact fe_j F1 (hk6 _ _ _ _) (fun x k hx => by simp only [wI_mGreet_works_b6, F1.r] at hx; rcases hx with e | e | e | e | e | e | e | e | e | e | e | e | e | e | e | e | e | e | e | e | e | e | e | e | e <;> first | exact Or.inl (e) | exact Or.inr (Or.inl (e)) | exact Or.inr (Or.inr (Or.inl (e))) | exact Or.inr (Or.inr (Or.inr (Or.inl (e)))) | exact Or.inr (Or.inr (Or.inr (Or.inr (Or.inl (e))))) | exact Or.inr (Or.inr (Or.inr (Or.inr (Or.inr (Or.inl (e)))))) | exact Or.inr (Or.inr (Or.inr (Or.inr (Or.inr (Or.inr (Or.inl (e))))))) | exact Or.inr (Or.inr (Or.inr (Or.inr (Or.inr (Or.inr (Or.inr (Or.inl (e)))))))) | exact Or.inr (Or.inr (Or.inr (Or.inr (Or.inr (Or.inr (Or.inr (Or.inr (Or.inl (e))))))))) | exact Or.inr (Or.inr (Or.inr (Or.inr (Or.inr (Or.inr (Or.inr (Or.inr (Or.inr (Or.inl (e)))))))))) | exact Or.inr (Or.inr (Or.inr (Or.inr (Or.inr (Or.inr (Or.inr (Or.inr (Or.inr (Or.inr (Or.inl (e))))))))))) | exact Or.inr (Or.inr (Or.inr (Or.inr (Or.inr (Or.inr (Or.inr (Or.inr (Or.inr (Or.inr (Or.inr (Or.inl (e)))))))))))) | exact Or.inr (Or.inr (Or.inr (Or.inr (Or.inr (Or.inr (Or.inr (Or.inr (Or.inr (Or.inr (Or.inr (Or.inr (Or.inl (e))))))))))))) | exact Or.inr (Or.inr (Or.inr (Or.inr (Or.inr (Or.inr (Or.inr (Or.inr (Or.inr (Or.inr (Or.inr (Or.inr (Or.inr (Or.inl (e)))))))))))))) | exact Or.inr (Or.inr (Or.inr (Or.inr (Or.inr (Or.inr (Or.inr (Or.inr (Or.inr (Or.inr (Or.inr (Or.inr (Or.inr (Or.inr (Or.inl (e))))))))))))))) | exact Or.inr (Or.inr (Or.inr (Or.inr (Or.inr (Or.inr (Or.inr (Or.inr (Or.inr (Or.inr (Or.inr (Or.inr (Or.inr (Or.inr (Or.inr (Or.inl (e)))))))))))))))) | exact Or.inr (Or.inr (Or.inr (Or.inr (Or.inr (Or.inr (Or.inr (Or.inr (Or.inr (Or.inr (Or.inr (Or.inr (Or.inr (Or.inr (Or.inr (Or.inr (Or.inl (e))))))))))))))))) | exact Or.inr (Or.inr (Or.inr (Or.inr (Or.inr (Or.inr (Or.inr (Or.inr (Or.inr (Or.inr (Or.inr (Or.inr (Or.inr (Or.inr (Or.inr (Or.inr (Or.inr (Or.inl (e)))))))))))))))))) | exact Or.inr (Or.inr (Or.inr (Or.inr (Or.inr (Or.inr (Or.inr (Or.inr (Or.inr (Or.inr (Or.inr (Or.inr (Or.inr (Or.inr (Or.inr (Or.inr (Or.inr (Or.inr (Or.inl (e))))))))))))))))))) | exact Or.inr (Or.inr (Or.inr (Or.inr (Or.inr (Or.inr (Or.inr (Or.inr (Or.inr (Or.inr (Or.inr (Or.inr (Or.inr (Or.inr (Or.inr (Or.inr (Or.inr (Or.inr (Or.inr (Or.inl (e)))))))))))))))))))) | exact Or.inr (Or.inr (Or.inr (Or.inr (Or.inr (Or.inr (Or.inr (Or.inr (Or.inr (Or.inr (Or.inr (Or.inr (Or.inr (Or.inr (Or.inr (Or.inr (Or.inr (Or.inr (Or.inr (Or.inr (Or.inl (e))))))))))))))))))))) | exact Or.inr (Or.inr (Or.inr (Or.inr (Or.inr (Or.inr (Or.inr (Or.inr (Or.inr (Or.inr (Or.inr (Or.inr (Or.inr (Or.inr (Or.inr (Or.inr (Or.inr (Or.inr (Or.inr (Or.inr (Or.inr (Or.inl (e)))))))))))))))))))))) | exact Or.inr (Or.inr (Or.inr (Or.inr (Or.inr (Or.inr (Or.inr (Or.inr (Or.inr (Or.inr (Or.inr (Or.inr (Or.inr (Or.inr (Or.inr (Or.inr (Or.inr (Or.inr (Or.inr (Or.inr (Or.inr (Or.inr (Or.inl (e))))))))))))))))))))))) | exact Or.inr (Or.inr (Or.inr (Or.inr (Or.inr (Or.inr (Or.inr (Or.inr (Or.inr (Or.inr (Or.inr (Or.inr (Or.inr (Or.inr (Or.inr (Or.inr (Or.inr (Or.inr (Or.inr (Or.inr (Or.inr (Or.inr (Or.inr (Or.inl (e)))))))))))))))))))))))) | exact Or.inr (Or.inr (Or.inr (Or.inr (Or.inr (Or.inr (Or.inr (Or.inr (Or.inr (Or.inr (Or.inr (Or.inr (Or.inr (Or.inr (Or.inr (Or.inr (Or.inr (Or.inr (Or.inr (Or.inr (Or.inr (Or.inr (Or.inr (Or.inr (e))))))))))))))))))))))))) (fun x k hx => by simp only [wJ_mGreet_works_b6, F1.r] at hx; rcases hx with e | e | e <;> first | exact Or.inl (e) | exact Or.inr (Or.inl (e)) | exact Or.inr (Or.inr (e)))
  · refine fe_it fe_no ?_
    refine fe_it ?_ fe_no
    refine fe_it ?_ fe_no
    refine fe_I Fe.rf (Or.inr (Or.inr (Or.inr (Or.inr (Or.inr (Or.inr (Or.inr (Or.inr (Or.inr (Or.inr (Or.inr (Or.inr (Or.inr (Or.inr (Or.inl (rfl)))))))))))))))) (fun h28 F2 => ?_)
    exact fe_j F2 (hk40 _ _ _ _ _) (fun x k hx => by simp only [wI_mGreet_works_b40, F2.r] at hx; rcases hx with e | e | e | e | e | e | e | e | e | e | e | e | e | e | e | e | e | e | e | e | e | e | e | e | e <;> first | exact Or.inl (e) | exact Or.inr (Or.inl (e)) | exact Or.inr (Or.inr (Or.inl (e))) | exact Or.inr (Or.inr (Or.inr (Or.inl (e)))) | exact Or.inr (Or.inr (Or.inr (Or.inr (Or.inl (e))))) | exact Or.inr (Or.inr (Or.inr (Or.inr (Or.inr (Or.inl (e)))))) | exact Or.inr (Or.inr (Or.inr (Or.inr (Or.inr (Or.inr (Or.inl (e))))))) | exact Or.inr (Or.inr (Or.inr (Or.inr (Or.inr (Or.inr (Or.inr (Or.inl (e)))))))) | exact Or.inr (Or.inr (Or.inr (Or.inr (Or.inr (Or.inr (Or.inr (Or.inr (Or.inl (e))))))))) | exact Or.inr (Or.inr (Or.inr (Or.inr (Or.inr (Or.inr (Or.inr (Or.inr (Or.inr (Or.inl (e)))))))))) | exact Or.inr (Or.inr (Or.inr (Or.inr (Or.inr (Or.inr (Or.inr (Or.inr (Or.inr (Or.inr (Or.inl (e))))))))))) | exact Or.inr (Or.inr (Or.inr (Or.inr (Or.inr (Or.inr (Or.inr (Or.inr (Or.inr (Or.inr (Or.inr (Or.inl (e)))))))))))) | exact Or.inr (Or.inr (Or.inr (Or.inr (Or.inr (Or.inr (Or.inr (Or.inr (Or.inr (Or.inr (Or.inr (Or.inr (Or.inl (e))))))))))))) | exact Or.inr (Or.inr (Or.inr (Or.inr (Or.inr (Or.inr (Or.inr (Or.inr (Or.inr (Or.inr (Or.inr (Or.inr (Or.inr (Or.inl (e)))))))))))))) | exact Or.inr (Or.inr (Or.inr (Or.inr (Or.inr (Or.inr (Or.inr (Or.inr (Or.inr (Or.inr (Or.inr (Or.inr (Or.inr (Or.inr (Or.inl (e))))))))))))))) | exact Or.inr (Or.inr (Or.inr (Or.inr (Or.inr (Or.inr (Or.inr (Or.inr (Or.inr (Or.inr (Or.inr (Or.inr (Or.inr (Or.inr (Or.inr (Or.inl (e)))))))))))))))) | exact Or.inr (Or.inr (Or.inr (Or.inr (Or.inr (Or.inr (Or.inr (Or.inr (Or.inr (Or.inr (Or.inr (Or.inr (Or.inr (Or.inr (Or.inr (Or.inr (Or.inl (e))))))))))))))))) | exact Or.inr (Or.inr (Or.inr (Or.inr (Or.inr (Or.inr (Or.inr (Or.inr (Or.inr (Or.inr (Or.inr (Or.inr (Or.inr (Or.inr (Or.inr (Or.inr (Or.inr (Or.inl (e)))))))))))))))))) | exact Or.inr (Or.inr (Or.inr (Or.inr (Or.inr (Or.inr (Or.inr (Or.inr (Or.inr (Or.inr (Or.inr (Or.inr (Or.inr (Or.inr (Or.inr (Or.inr (Or.inr (Or.inr (Or.inl (e))))))))))))))))))) | exact Or.inr (Or.inr (Or.inr (Or.inr (Or.inr (Or.inr (Or.inr (Or.inr (Or.inr (Or.inr (Or.inr (Or.inr (Or.inr (Or.inr (Or.inr (Or.inr (Or.inr (Or.inr (Or.inr (Or.inl (e)))))))))))))))))))) | exact Or.inr (Or.inr (Or.inr (Or.inr (Or.inr (Or.inr (Or.inr (Or.inr (Or.inr (Or.inr (Or.inr (Or.inr (Or.inr (Or.inr (Or.inr (Or.inr (Or.inr (Or.inr (Or.inr (Or.inr (Or.inl (e))))))))))))))))))))) | exact Or.inr (Or.inr (Or.inr (Or.inr (Or.inr (Or.inr (Or.inr (Or.inr (Or.inr (Or.inr (Or.inr (Or.inr (Or.inr (Or.inr (Or.inr (Or.inr (Or.inr (Or.inr (Or.inr (Or.inr (Or.inr (Or.inl (e)))))))))))))))))))))) | exact Or.inr (Or.inr (Or.inr (Or.inr (Or.inr (Or.inr (Or.inr (Or.inr (Or.inr (Or.inr (Or.inr (Or.inr (Or.inr (Or.inr (Or.inr (Or.inr (Or.inr (Or.inr (Or.inr (Or.inr (Or.inr (Or.inr (Or.inl (e))))))))))))))))))))))) | exact Or.inr (Or.inr (Or.inr (Or.inr (Or.inr (Or.inr (Or.inr (Or.inr (Or.inr (Or.inr (Or.inr (Or.inr (Or.inr (Or.inr (Or.inr (Or.inr (Or.inr (Or.inr (Or.inr (Or.inr (Or.inr (Or.inr (Or.inr (Or.inl (e)))))))))))))))))))))))) | exact Or.inr (Or.inr (Or.inr (Or.inr (Or.inr (Or.inr (Or.inr (Or.inr (Or.inr (Or.inr (Or.inr (Or.inr (Or.inr (Or.inr (Or.inr (Or.inr (Or.inr (Or.inr (Or.inr (Or.inr (Or.inr (Or.inr (Or.inr (Or.inr (e))))))))))))))))))))))))) (fun x k hx => by simp only [wJ_mGreet_works_b40, F2.r] at hx; rcases hx with e | e | e <;> first | exact Or.inl (e) | exact Or.inr (Or.inl (e)) | exact Or.inr (Or.inr (e)))
theorem fe_mGreet_works_b40_lp {k6 : Nat → Int → Int → Hp → Option (Int × Hp)} (hk6 : ∀ (v0 : Nat) (v1 : Int) (v2 : Int) (h : Hp), Feo (wI_mGreet_works_b6 v0 v1 v2 h) (wJ_mGreet_works_b6 v0 v1 v2 h) h Prod.snd (k6 v0 v1 v2 h)) (n : Nat) : ∀ (v0 : Nat) (v1 : Int) (v2 : Int) (v4 : Int) (h : Hp), Feo (wI_mGreet_works_b40 v0 v1 v2 v4 h) (wJ_mGreet_works_b40 v0 v1 v2 v4 h) h Prod.snd (f_mGreet_works_b40_lp k6 n v0 v1 v2 v4 h) := by
  induction n with
  | zero => intro v0 v1 v2 v4 h; exact fe_no
  | succ n ih => intro v0 v1 v2 v4 h; exact fe_mGreet_works_b40 hk6 ih v0 v1 v2 v4 h
theorem fe_mGreet_works_b123 (v0 : Nat) (v2 : Int) (h : Hp) : Feo (wI_mGreet_works_b123 v0 v2 h) (wJ_mGreet_works_b123 v0 v2 h) h Prod.snd (f_mGreet_works_b123 v0 v2 h) := by
  unfold f_mGreet_works_b123
  exact fe_so Fe.rf
theorem fe_mGreet_works_b6 {k6 : Nat → Int → Int → Hp → Option (Int × Hp)} (hk6 : ∀ (v0 : Nat) (v1 : Int) (v2 : Int) (h : Hp), Feo (wI_mGreet_works_b6 v0 v1 v2 h) (wJ_mGreet_works_b6 v0 v1 v2 h) h Prod.snd (k6 v0 v1 v2 h)) (v0 : Nat) (v1 : Int) (v2 : Int) (h : Hp) : Feo (wI_mGreet_works_b6 v0 v1 v2 h) (wJ_mGreet_works_b6 v0 v1 v2 h) h Prod.snd (f_mGreet_works_b6 k6 v0 v1 v2 h) := by
  unfold f_mGreet_works_b6
  refine fe_it ?_ ?_
  · refine fe_it ?_ ?_
    · exact fe_j Fe.rf (fe_mGreet_works_b123 _ _ _) (fun x k hx => False.elim hx) (fun x k hx => False.elim hx)
    · refine fe_I Fe.rf (Or.inr (Or.inr (Or.inr (Or.inr (Or.inr (Or.inr (Or.inr (Or.inr (Or.inr (Or.inr (Or.inr (Or.inr (Or.inr (Or.inr (Or.inr (Or.inr (Or.inr (Or.inr (Or.inr (Or.inr (Or.inr (Or.inl (⟨rfl, rfl⟩))))))))))))))))))))))) (fun h4 F1 => ?_)
      refine fe_I F1 (Or.inr (Or.inr (Or.inr (Or.inr (Or.inr (Or.inr (Or.inr (Or.inr (Or.inr (Or.inr (Or.inr (Or.inr (Or.inr (Or.inr (Or.inr (Or.inr (Or.inr (Or.inr (Or.inr (Or.inl (⟨rfl, rfl⟩))))))))))))))))))))) (fun h5 F2 => ?_)
      refine fe_it fe_no ?_
      refine fe_it ?_ fe_no
      refine fe_I F2 (Or.inr (Or.inr (Or.inr (Or.inr (Or.inr (Or.inr (Or.inr (Or.inr (Or.inr (Or.inr (Or.inr (Or.inr (Or.inr (Or.inr (Or.inr (Or.inl ((by first | (simp only [F1.r, F2.r]; exact rfl) | simp only [F1.r, F2.r])))))))))))))))))) (fun h8 F3 => ?_)
      refine fe_it fe_no ?_
      refine fe_it ?_ fe_no
      refine fe_I F3 (Or.inr (Or.inr (Or.inr (Or.inr (Or.inr (Or.inr (Or.inr (Or.inr (Or.inr (Or.inr (Or.inr (Or.inr (Or.inr (Or.inr (Or.inr (Or.inl ((by first | (simp only [F1.r, F2.r, F3.r]; exact rfl) | simp only [F1.r, F2.r, F3.r])))))))))))))))))) (fun h11 F4 => ?_)
      exact fe_j F4 (fe_mGreet_works_b123 _ _ _) (fun x k hx => False.elim hx) (fun x k hx => False.elim hx)
  · refine fe_b2 Fe.rf (fe_mGreet_done _ _ _ _) (fun x k hx => by simp only [wI_mGreet_done] at hx; rcases hx with e | e | e | e | e | e | e | e | e | e | e | e | e | e | e | e | e | e | e | e | e | e <;> first | exact Or.inl (e) | exact Or.inr (Or.inl (e)) | exact Or.inr (Or.inr (Or.inl (e))) | exact Or.inr (Or.inr (Or.inr (Or.inl (e)))) | exact Or.inr (Or.inr (Or.inr (Or.inr (Or.inl (e))))) | exact Or.inr (Or.inr (Or.inr (Or.inr (Or.inr (Or.inl (e)))))) | exact Or.inr (Or.inr (Or.inr (Or.inr (Or.inr (Or.inr (Or.inl (e))))))) | exact Or.inr (Or.inr (Or.inr (Or.inr (Or.inr (Or.inr (Or.inr (Or.inl (e)))))))) | exact Or.inr (Or.inr (Or.inr (Or.inr (Or.inr (Or.inr (Or.inr (Or.inr (Or.inl (e))))))))) | exact Or.inr (Or.inr (Or.inr (Or.inr (Or.inr (Or.inr (Or.inr (Or.inr (Or.inr (Or.inl (e)))))))))) | exact Or.inr (Or.inr (Or.inr (Or.inr (Or.inr (Or.inr (Or.inr (Or.inr (Or.inr (Or.inr (Or.inl (e))))))))))) | exact Or.inr (Or.inr (Or.inr (Or.inr (Or.inr (Or.inr (Or.inr (Or.inr (Or.inr (Or.inr (Or.inr (Or.inl (e)))))))))))) | exact Or.inr (Or.inr (Or.inr (Or.inr (Or.inr (Or.inr (Or.inr (Or.inr (Or.inr (Or.inr (Or.inr (Or.inr (Or.inl (e))))))))))))) | exact Or.inr (Or.inr (Or.inr (Or.inr (Or.inr (Or.inr (Or.inr (Or.inr (Or.inr (Or.inr (Or.inr (Or.inr (Or.inr (Or.inl (e)))))))))))))) | exact Or.inr (Or.inr (Or.inr (Or.inr (Or.inr (Or.inr (Or.inr (Or.inr (Or.inr (Or.inr (Or.inr (Or.inr (Or.inr (Or.inr (Or.inr (Or.inr (Or.inl (e))))))))))))))))) | exact Or.inr (Or.inr (Or.inr (Or.inr (Or.inr (Or.inr (Or.inr (Or.inr (Or.inr (Or.inr (Or.inr (Or.inr (Or.inr (Or.inr (Or.inr (Or.inr (Or.inr (Or.inl (e)))))))))))))))))) | exact Or.inr (Or.inr (Or.inr (Or.inr (Or.inr (Or.inr (Or.inr (Or.inr (Or.inr (Or.inr (Or.inr (Or.inr (Or.inr (Or.inr (Or.inr (Or.inr (Or.inr (Or.inr (Or.inl (e))))))))))))))))))) | exact Or.inr (Or.inr (Or.inr (Or.inr (Or.inr (Or.inr (Or.inr (Or.inr (Or.inr (Or.inr (Or.inr (Or.inr (Or.inr (Or.inr (Or.inr (Or.inr (Or.inr (Or.inr (Or.inr (Or.inl (e)))))))))))))))))))) | exact Or.inr (Or.inr (Or.inr (Or.inr (Or.inr (Or.inr (Or.inr (Or.inr (Or.inr (Or.inr (Or.inr (Or.inr (Or.inr (Or.inr (Or.inr (Or.inr (Or.inr (Or.inr (Or.inr (Or.inr (Or.inl (e))))))))))))))))))))) | exact Or.inr (Or.inr (Or.inr (Or.inr (Or.inr (Or.inr (Or.inr (Or.inr (Or.inr (Or.inr (Or.inr (Or.inr (Or.inr (Or.inr (Or.inr (Or.inr (Or.inr (Or.inr (Or.inr (Or.inr (Or.inr (Or.inr (Or.inl (e))))))))))))))))))))))) | exact Or.inr (Or.inr (Or.inr (Or.inr (Or.inr (Or.inr (Or.inr (Or.inr (Or.inr (Or.inr (Or.inr (Or.inr (Or.inr (Or.inr (Or.inr (Or.inr (Or.inr (Or.inr (Or.inr (Or.inr (Or.inr (Or.inr (Or.inr (Or.inl (e)))))))))))))))))))))))) | exact Or.inr (Or.inr (Or.inr (Or.inr (Or.inr (Or.inr (Or.inr (Or.inr (Or.inr (Or.inr (Or.inr (Or.inr (Or.inr (Or.inr (Or.inr (Or.inr (Or.inr (Or.inr (Or.inr (Or.inr (Or.inr (Or.inr (Or.inr (Or.inr (e))))))))))))))))))))))))) (fun x k hx => by simp only [wJ_mGreet_done] at hx; rcases hx with e | e | e <;> first | exact Or.inl (e) | exact Or.inr (Or.inl (e)) | exact Or.inr (Or.inr (e))) (fun r14 h12 F5 => ?_)
    refine fe_it ?_ ?_
    · refine fe_it fe_no ?_
      refine fe_it ?_ fe_no
      refine fe_it ?_ fe_no
      refine fe_I F5 (Or.inr (Or.inr (Or.inr (Or.inr (Or.inr (Or.inr (Or.inr (Or.inr (Or.inr (Or.inr (Or.inr (Or.inr (Or.inr (Or.inr (Or.inr (Or.inl ((by first | (simp only [F5.r]; exact rfl) | simp only [F5.r])))))))))))))))))) (fun h18 F6 => ?_)
      exact fe_j F6 (fe_mGreet_works_b40_lp hk6 FU _ _ _ _ _) (fun x k hx => by simp only [wI_mGreet_works_b40, F5.r, F6.r] at hx; rcases hx with e | e | e | e | e | e | e | e | e | e | e | e | e | e | e | e | e | e | e | e | e | e | e | e | e <;> first | exact Or.inl (e) | exact Or.inr (Or.inl (e)) | exact Or.inr (Or.inr (Or.inl (e))) | exact Or.inr (Or.inr (Or.inr (Or.inl (e)))) | exact Or.inr (Or.inr (Or.inr (Or.inr (Or.inl (e))))) | exact Or.inr (Or.inr (Or.inr (Or.inr (Or.inr (Or.inl (e)))))) | exact Or.inr (Or.inr (Or.inr (Or.inr (Or.inr (Or.inr (Or.inl (e))))))) | exact Or.inr (Or.inr (Or.inr (Or.inr (Or.inr (Or.inr (Or.inr (Or.inl (e)))))))) | exact Or.inr (Or.inr (Or.inr (Or.inr (Or.inr (Or.inr (Or.inr (Or.inr (Or.inl (e))))))))) | exact Or.inr (Or.inr (Or.inr (Or.inr (Or.inr (Or.inr (Or.inr (Or.inr (Or.inr (Or.inl (e)))))))))) | exact Or.inr (Or.inr (Or.inr (Or.inr (Or.inr (Or.inr (Or.inr (Or.inr (Or.inr (Or.inr (Or.inl (e))))))))))) | exact Or.inr (Or.inr (Or.inr (Or.inr (Or.inr (Or.inr (Or.inr (Or.inr (Or.inr (Or.inr (Or.inr (Or.inl (e)))))))))))) | exact Or.inr (Or.inr (Or.inr (Or.inr (Or.inr (Or.inr (Or.inr (Or.inr (Or.inr (Or.inr (Or.inr (Or.inr (Or.inl (e))))))))))))) | exact Or.inr (Or.inr (Or.inr (Or.inr (Or.inr (Or.inr (Or.inr (Or.inr (Or.inr (Or.inr (Or.inr (Or.inr (Or.inr (Or.inl (e)))))))))))))) | exact Or.inr (Or.inr (Or.inr (Or.inr (Or.inr (Or.inr (Or.inr (Or.inr (Or.inr (Or.inr (Or.inr (Or.inr (Or.inr (Or.inr (Or.inl (e))))))))))))))) | exact Or.inr (Or.inr (Or.inr (Or.inr (Or.inr (Or.inr (Or.inr (Or.inr (Or.inr (Or.inr (Or.inr (Or.inr (Or.inr (Or.inr (Or.inr (Or.inl (e)))))))))))))))) | exact Or.inr (Or.inr (Or.inr (Or.inr (Or.inr (Or.inr (Or.inr (Or.inr (Or.inr (Or.inr (Or.inr (Or.inr (Or.inr (Or.inr (Or.inr (Or.inr (Or.inl (e))))))))))))))))) | exact Or.inr (Or.inr (Or.inr (Or.inr (Or.inr (Or.inr (Or.inr (Or.inr (Or.inr (Or.inr (Or.inr (Or.inr (Or.inr (Or.inr (Or.inr (Or.inr (Or.inr (Or.inl (e)))))))))))))))))) | exact Or.inr (Or.inr (Or.inr (Or.inr (Or.inr (Or.inr (Or.inr (Or.inr (Or.inr (Or.inr (Or.inr (Or.inr (Or.inr (Or.inr (Or.inr (Or.inr (Or.inr (Or.inr (Or.inl (e))))))))))))))))))) | exact Or.inr (Or.inr (Or.inr (Or.inr (Or.inr (Or.inr (Or.inr (Or.inr (Or.inr (Or.inr (Or.inr (Or.inr (Or.inr (Or.inr (Or.inr (Or.inr (Or.inr (Or.inr (Or.inr (Or.inl (e)))))))))))))))))))) | exact Or.inr (Or.inr (Or.inr (Or.inr (Or.inr (Or.inr (Or.inr (Or.inr (Or.inr (Or.inr (Or.inr (Or.inr (Or.inr (Or.inr (Or.inr (Or.inr (Or.inr (Or.inr (Or.inr (Or.inr (Or.inl (e))))))))))))))))))))) | exact Or.inr (Or.inr (Or.inr (Or.inr (Or.inr (Or.inr (Or.inr (Or.inr (Or.inr (Or.inr (Or.inr (Or.inr (Or.inr (Or.inr (Or.inr (Or.inr (Or.inr (Or.inr (Or.inr (Or.inr (Or.inr (Or.inl (e)))))))))))))))))))))) | exact Or.inr (Or.inr (Or.inr (Or.inr (Or.inr (Or.inr (Or.inr (Or.inr (Or.inr (Or.inr (Or.inr (Or.inr (Or.inr (Or.inr (Or.inr (Or.inr (Or.inr (Or.inr (Or.inr (Or.inr (Or.inr (Or.inr (Or.inl (e))))))))))))))))))))))) | exact Or.inr (Or.inr (Or.inr (Or.inr (Or.inr (Or.inr (Or.inr (Or.inr (Or.inr (Or.inr (Or.inr (Or.inr (Or.inr (Or.inr (Or.inr (Or.inr (Or.inr (Or.inr (Or.inr (Or.inr (Or.inr (Or.inr (Or.inr (Or.inl (e)))))))))))))))))))))))) | exact Or.inr (Or.inr (Or.inr (Or.inr (Or.inr (Or.inr (Or.inr (Or.inr (Or.inr (Or.inr (Or.inr (Or.inr (Or.inr (Or.inr (Or.inr (Or.inr (Or.inr (Or.inr (Or.inr (Or.inr (Or.inr (Or.inr (Or.inr (Or.inr (e))))))))))))))))))))))))) (fun x k hx => by simp only [wJ_mGreet_works_b40, F5.r, F6.r] at hx; rcases hx with e | e | e <;> first | exact Or.inl (e) | exact Or.inr (Or.inl (e)) | exact Or.inr (Or.inr (e)))
    · refine fe_v (fun y19 => ?_)
      exact fe_j F5 (hk6 _ _ _ _) (fun x k hx => by simp only [wI_mGreet_works_b6, F5.r] at hx; rcases hx with e | e | e | e | e | e | e | e | e | e | e | e | e | e | e | e | e | e | e | e | e | e | e | e | e <;> first | exact Or.inl (e) | exact Or.inr (Or.inl (e)) | exact Or.inr (Or.inr (Or.inl (e))) | exact Or.inr (Or.inr (Or.inr (Or.inl (e)))) | exact Or.inr (Or.inr (Or.inr (Or.inr (Or.inl (e))))) | exact Or.inr (Or.inr (Or.inr (Or.inr (Or.inr (Or.inl (e)))))) | exact Or.inr (Or.inr (Or.inr (Or.inr (Or.inr (Or.inr (Or.inl (e))))))) | exact Or.inr (Or.inr (Or.inr (Or.inr (Or.inr (Or.inr (Or.inr (Or.inl (e)))))))) | exact Or.inr (Or.inr (Or.inr (Or.inr (Or.inr (Or.inr (Or.inr (Or.inr (Or.inl (e))))))))) | exact Or.inr (Or.inr (Or.inr (Or.inr (Or.inr (Or.inr (Or.inr (Or.inr (Or.inr (Or.inl (e)))))))))) | exact Or.inr (Or.inr (Or.inr (Or.inr (Or.inr (Or.inr (Or.inr (Or.inr (Or.inr (Or.inr (Or.inl (e))))))))))) | exact Or.inr (Or.inr (Or.inr (Or.inr (Or.inr (Or.inr (Or.inr (Or.inr (Or.inr (Or.inr (Or.inr (Or.inl (e)))))))))))) | exact Or.inr (Or.inr (Or.inr (Or.inr (Or.inr (Or.inr (Or.inr (Or.inr (Or.inr (Or.inr (Or.inr (Or.inr (Or.inl (e))))))))))))) | exact Or.inr (Or.inr (Or.inr (Or.inr (Or.inr (Or.inr (Or.inr (Or.inr (Or.inr (Or.inr (Or.inr (Or.inr (Or.inr (Or.inl (e)))))))))))))) | exact Or.inr (Or.inr (Or.inr (Or.inr (Or.inr (Or.inr (Or.inr (Or.inr (Or.inr (Or.inr (Or.inr (Or.inr (Or.inr (Or.inr (Or.inl (e))))))))))))))) | exact Or.inr (Or.inr (Or.inr (Or.inr (Or.inr (Or.inr (Or.inr (Or.inr (Or.inr (Or.inr (Or.inr (Or.inr (Or.inr (Or.inr (Or.inr (Or.inl (e)))))))))))))))) | exact Or.inr (Or.inr (Or.inr (Or.inr (Or.inr (Or.inr (Or.inr (Or.inr (Or.inr (Or.inr (Or.inr (Or.inr (Or.inr (Or.inr (Or.inr (Or.inr (Or.inl (e))))))))))))))))) | exact Or.inr (Or.inr (Or.inr (Or.inr (Or.inr (Or.inr (Or.inr (Or.inr (Or.inr (Or.inr (Or.inr (Or.inr (Or.inr (Or.inr (Or.inr (Or.inr (Or.inr (Or.inl (e)))))))))))))))))) | exact Or.inr (Or.inr (Or.inr (Or.inr (Or.inr (Or.inr (Or.inr (Or.inr (Or.inr (Or.inr (Or.inr (Or.inr (Or.inr (Or.inr (Or.inr (Or.inr (Or.inr (Or.inr (Or.inl (e))))))))))))))))))) | exact Or.inr (Or.inr (Or.inr (Or.inr (Or.inr (Or.inr (Or.inr (Or.inr (Or.inr (Or.inr (Or.inr (Or.inr (Or.inr (Or.inr (Or.inr (Or.inr (Or.inr (Or.inr (Or.inr (Or.inl (e)))))))))))))))))))) | exact Or.inr (Or.inr (Or.inr (Or.inr (Or.inr (Or.inr (Or.inr (Or.inr (Or.inr (Or.inr (Or.inr (Or.inr (Or.inr (Or.inr (Or.inr (Or.inr (Or.inr (Or.inr (Or.inr (Or.inr (Or.inl (e))))))))))))))))))))) | exact Or.inr (Or.inr (Or.inr (Or.inr (Or.inr (Or.inr (Or.inr (Or.inr (Or.inr (Or.inr (Or.inr (Or.inr (Or.inr (Or.inr (Or.inr (Or.inr (Or.inr (Or.inr (Or.inr (Or.inr (Or.inr (Or.inl (e)))))))))))))))))))))) | exact Or.inr (Or.inr (Or.inr (Or.inr (Or.inr (Or.inr (Or.inr (Or.inr (Or.inr (Or.inr (Or.inr (Or.inr (Or.inr (Or.inr (Or.inr (Or.inr (Or.inr (Or.inr (Or.inr (Or.inr (Or.inr (Or.inr (Or.inl (e))))))))))))))))))))))) | exact Or.inr (Or.inr (Or.inr (Or.inr (Or.inr (Or.inr (Or.inr (Or.inr (Or.inr (Or.inr (Or.inr (Or.inr (Or.inr (Or.inr (Or.inr (Or.inr (Or.inr (Or.inr (Or.inr (Or.inr (Or.inr (Or.inr (Or.inr (Or.inl (e)))))))))))))))))))))))) | exact Or.inr (Or.inr (Or.inr (Or.inr (Or.inr (Or.inr (Or.inr (Or.inr (Or.inr (Or.inr (Or.inr (Or.inr (Or.inr (Or.inr (Or.inr (Or.inr (Or.inr (Or.inr (Or.inr (Or.inr (Or.inr (Or.inr (Or.inr (Or.inr (e))))))))))))))))))))))))) (fun x k hx => by simp only [wJ_mGreet_works_b6, F5.r] at hx; rcases hx with e | e | e <;> first | exact Or.inl (e) | exact Or.inr (Or.inl (e)) | exact Or.inr (Or.inr (e)))
theorem fe_mGreet_works_b6_lp (n : Nat) : ∀ (v0 : Nat) (v1 : Int) (v2 : Int) (h : Hp), Feo (wI_mGreet_works_b6 v0 v1 v2 h) (wJ_mGreet_works_b6 v0 v1 v2 h) h Prod.snd (f_mGreet_works_b6_lp n v0 v1 v2 h) := by
  induction n with
  | zero => intro v0 v1 v2 h; exact fe_no
  | succ n ih => intro v0 v1 v2 h; exact fe_mGreet_works_b6 ih v0 v1 v2 h
theorem fe_mGreet_works (v0 : Nat) (v1 : Int) (h : Hp) : Feo (wI_mGreet_works v0 v1 h) (wJ_mGreet_works v0 v1 h) h Prod.snd (f_mGreet_works v0 v1 h) := by
  unfold f_mGreet_works
  refine fe_b2 Fe.rf (fe_mGreet_lookAt _ _ _) (fun x k hx => False.elim hx) (fun x k hx => False.elim hx) (fun r3 h1 F1 => ?_)
  exact fe_j F1 (fe_mGreet_works_b6_lp FU _ _ _ _) (fun x k hx => by simp only [wI_mGreet_works_b6, F1.r] at hx; rcases hx with e | e | e | e | e | e | e | e | e | e | e | e | e | e | e | e | e | e | e | e | e | e | e | e | e <;> first | exact Or.inl (e) | exact Or.inr (Or.inl (e)) | exact Or.inr (Or.inr (Or.inl (e))) | exact Or.inr (Or.inr (Or.inr (Or.inl (e)))) | exact Or.inr (Or.inr (Or.inr (Or.inr (Or.inl (e))))) | exact Or.inr (Or.inr (Or.inr (Or.inr (Or.inr (Or.inl (e)))))) | exact Or.inr (Or.inr (Or.inr (Or.inr (Or.inr (Or.inr (Or.inl (e))))))) | exact Or.inr (Or.inr (Or.inr (Or.inr (Or.inr (Or.inr (Or.inr (Or.inl (e)))))))) | exact Or.inr (Or.inr (Or.inr (Or.inr (Or.inr (Or.inr (Or.inr (Or.inr (Or.inl (e))))))))) | exact Or.inr (Or.inr (Or.inr (Or.inr (Or.inr (Or.inr (Or.inr (Or.inr (Or.inr (Or.inl (e)))))))))) | exact Or.inr (Or.inr (Or.inr (Or.inr (Or.inr (Or.inr (Or.inr (Or.inr (Or.inr (Or.inr (Or.inl (e))))))))))) | exact Or.inr (Or.inr (Or.inr (Or.inr (Or.inr (Or.inr (Or.inr (Or.inr (Or.inr (Or.inr (Or.inr (Or.inl (e)))))))))))) | exact Or.inr (Or.inr (Or.inr (Or.inr (Or.inr (Or.inr (Or.inr (Or.inr (Or.inr (Or.inr (Or.inr (Or.inr (Or.inl (e))))))))))))) | exact Or.inr (Or.inr (Or.inr (Or.inr (Or.inr (Or.inr (Or.inr (Or.inr (Or.inr (Or.inr (Or.inr (Or.inr (Or.inr (Or.inl (e)))))))))))))) | exact Or.inr (Or.inr (Or.inr (Or.inr (Or.inr (Or.inr (Or.inr (Or.inr (Or.inr (Or.inr (Or.inr (Or.inr (Or.inr (Or.inr (Or.inl (e))))))))))))))) | exact Or.inr (Or.inr (Or.inr (Or.inr (Or.inr (Or.inr (Or.inr (Or.inr (Or.inr (Or.inr (Or.inr (Or.inr (Or.inr (Or.inr (Or.inr (Or.inl (e)))))))))))))))) | exact Or.inr (Or.inr (Or.inr (Or.inr (Or.inr (Or.inr (Or.inr (Or.inr (Or.inr (Or.inr (Or.inr (Or.inr (Or.inr (Or.inr (Or.inr (Or.inr (Or.inl (e))))))))))))))))) | exact Or.inr (Or.inr (Or.inr (Or.inr (Or.inr (Or.inr (Or.inr (Or.inr (Or.inr (Or.inr (Or.inr (Or.inr (Or.inr (Or.inr (Or.inr (Or.inr (Or.inr (Or.inl (e)))))))))))))))))) | exact Or.inr (Or.inr (Or.inr (Or.inr (Or.inr (Or.inr (Or.inr (Or.inr (Or.inr (Or.inr (Or.inr (Or.inr (Or.inr (Or.inr (Or.inr (Or.inr (Or.inr (Or.inr (Or.inl (e))))))))))))))))))) | exact Or.inr (Or.inr (Or.inr (Or.inr (Or.inr (Or.inr (Or.inr (Or.inr (Or.inr (Or.inr (Or.inr (Or.inr (Or.inr (Or.inr (Or.inr (Or.inr (Or.inr (Or.inr (Or.inr (Or.inl (e)))))))))))))))))))) | exact Or.inr (Or.inr (Or.inr (Or.inr (Or.inr (Or.inr (Or.inr (Or.inr (Or.inr (Or.inr (Or.inr (Or.inr (Or.inr (Or.inr (Or.inr (Or.inr (Or.inr (Or.inr (Or.inr (Or.inr (Or.inl (e))))))))))))))))))))) | exact Or.inr (Or.inr (Or.inr (Or.inr (Or.inr (Or.inr (Or.inr (Or.inr (Or.inr (Or.inr (Or.inr (Or.inr (Or.inr (Or.inr (Or.inr (Or.inr (Or.inr (Or.inr (Or.inr (Or.inr (Or.inr (Or.inl (e)))))))))))))))))))))) | exact Or.inr (Or.inr (Or.inr (Or.inr (Or.inr (Or.inr (Or.inr (Or.inr (Or.inr (Or.inr (Or.inr (Or.inr (Or.inr (Or.inr (Or.inr (Or.inr (Or.inr (Or.inr (Or.inr (Or.inr (Or.inr (Or.inr (Or.inl (e))))))))))))))))))))))) | exact Or.inr (Or.inr (Or.inr (Or.inr (Or.inr (Or.inr (Or.inr (Or.inr (Or.inr (Or.inr (Or.inr (Or.inr (Or.inr (Or.inr (Or.inr (Or.inr (Or.inr (Or.inr (Or.inr (Or.inr (Or.inr (Or.inr (Or.inr (Or.inl (e)))))))))))))))))))))))) | exact Or.inr (Or.inr (Or.inr (Or.inr (Or.inr (Or.inr (Or.inr (Or.inr (Or.inr (Or.inr (Or.inr (Or.inr (Or.inr (Or.inr (Or.inr (Or.inr (Or.inr (Or.inr (Or.inr (Or.inr (Or.inr (Or.inr (Or.inr (Or.inr (e))))))))))))))))))))))))) (fun x k hx => by simp only [wJ_mGreet_works_b6, F1.r] at hx; rcases hx with e | e | e <;> first | exact Or.inl (e) | exact Or.inr (Or.inl (e)) | exact Or.inr (Or.inr (e)))
def wI_mGreet_take_b6 (v0 : Nat) (v1 : Int) (v2 : Nat) (v3 : Int) (v4 : Int) (v5 : Int) (v6 : Int) (h : Hp) (x k : Nat) : Prop := x = (hR h (hR h v0 1) 9) ∨ (x = (hR h v0 1) ∧ k = 11) ∨ (x = (hR h v0 1) ∧ k = 13) ∨ x = (hR h v0 17) ∨ x = (hR h v0 19) ∨ x = (hR h v0 20) ∨ x = (hR h v0 21) ∨ x = (hR h v0 22) ∨ x = hR h (hR h v0 1) 10 ∨ x = hR h (hR h v0 1) 12 ∨ x = hR h (hR h v0 1) 14 ∨ x = hR h (hR h v0 1) 4 ∨ x = hR h (hR h v0 1) 8 ∨ x = hR h v0 10 ∨ x = hR h v0 11 ∨ x = hR h v0 12 ∨ x = hR h v0 13 ∨ x = hR h v0 15 ∨ x = hR h v0 9 ∨ (x = v0 ∧ k = 6) ∨ (x = v0 ∧ k = 7) ∨ (x = v0 ∧ k = 8) ∨ (x = v0 ∧ k = 14) ∨ (x = v0 ∧ k = 16) ∨ (x = v0 ∧ k = 18)
def wJ_mGreet_take_b6 (v0 : Nat) (v1 : Int) (v2 : Nat) (v3 : Int) (v4 : Int) (v5 : Int) (v6 : Int) (h : Hp) (x k : Nat) : Prop := x = hR h (hR h v0 1) 5 ∨ x = hR h (hR h v0 1) 6 ∨ x = hR h (hR h v0 1) 7
def wI_mGreet_take (v0 : Nat) (v1 : Int) (v2 : Nat) (v3 : Int) (v4 : Int) (h : Hp) (x k : Nat) : Prop := x = (hR h (hR h v0 1) 9) ∨ (x = (hR h v0 1) ∧ k = 11) ∨ (x = (hR h v0 1) ∧ k = 13) ∨ x = (hR h v0 17) ∨ x = (hR h v0 19) ∨ x = (hR h v0 20) ∨ x = (hR h v0 21) ∨ x = (hR h v0 22) ∨ x = hR h (hR h v0 1) 10 ∨ x = hR h (hR h v0 1) 12 ∨ x = hR h (hR h v0 1) 14 ∨ x = hR h (hR h v0 1) 4 ∨ x = hR h (hR h v0 1) 8 ∨ x = hR h v0 10 ∨ x = hR h v0 11 ∨ x = hR h v0 12 ∨ x = hR h v0 13 ∨ x = hR h v0 15 ∨ x = hR h v0 9 ∨ (x = v0 ∧ k = 6) ∨ (x = v0 ∧ k = 7) ∨ (x = v0 ∧ k = 8) ∨ (x = v0 ∧ k = 14) ∨ (x = v0 ∧ k = 16) ∨ (x = v0 ∧ k = 18)
def wJ_mGreet_take (v0 : Nat) (v1 : Int) (v2 : Nat) (v3 : Int) (v4 : Int) (h : Hp) (x k : Nat) : Prop := x = hR h (hR h v0 1) 5 ∨ x = hR h (hR h v0 1) 6 ∨ x = hR h (hR h v0 1) 7
theorem fe_mGreet_take_b6 {k6 : Nat → Int → Nat → Int → Int → Int → Int → Hp → Option (Int × Hp)} (hk6 : ∀ (v0 : Nat) (v1 : Int) (v2 : Nat) (v3 : Int) (v4 : Int) (v5 : Int) (v6 : Int) (h : Hp), Feo (wI_mGreet_take_b6 v0 v1 v2 v3 v4 v5 v6 h) (wJ_mGreet_take_b6 v0 v1 v2 v3 v4 v5 v6 h) h Prod.snd (k6 v0 v1 v2 v3 v4 v5 v6 h)) (v0 : Nat) (v1 : Int) (v2 : Nat) (v3 : Int) (v4 : Int) (v5 : Int) (v6 : Int) (h : Hp) : Feo (wI_mGreet_take_b6 v0 v1 v2 v3 v4 v5 v6 h) (wJ_mGreet_take_b6 v0 v1 v2 v3 v4 v5 v6 h) h Prod.snd (f_mGreet_take_b6 k6 v0 v1 v2 v3 v4 v5 v6 h) := by
  unfold f_mGreet_take_b6
  refine fe_it ?_ ?_
  · exact fe_so Fe.rf
  · refine fe_it ?_ ?_
    · exact fe_so Fe.rf
    · refine fe_it fe_no ?_
      refine fe_it ?_ fe_no
      refine fe_it fe_no ?_
      refine fe_it ?_ fe_no
      refine fe_it fe_no ?_
      refine fe_it ?_ fe_no
      refine fe_I Fe.rf (Or.inr (Or.inr (Or.inr (Or.inr (Or.inr (Or.inr (Or.inr (Or.inr (Or.inr (Or.inr (Or.inr (Or.inr (Or.inr (Or.inr (Or.inl (rfl)))))))))))))))) (fun h7 F1 => ?_)
      refine fe_it fe_no ?_
      refine fe_it ?_ fe_no
      refine fe_it ?_ fe_no
      refine fe_I F1 (Or.inr (Or.inr (Or.inr (Or.inr (Or.inr (Or.inr (Or.inr (Or.inr (Or.inr (Or.inr (Or.inr (Or.inr (Or.inr (Or.inr (Or.inr (Or.inl ((by first | (simp only [F1.r]; exact rfl) | simp only [F1.r])))))))))))))))))) (fun h11 F2 => ?_)
      refine fe_b2 F2 (fe_mGreet_works _ _ _) (fun x k hx => by simp only [wI_mGreet_works, F1.r, F2.r] at hx; rcases hx with e | e | e | e | e | e | e | e | e | e | e | e | e | e | e | e | e | e | e | e | e | e | e | e | e <;> first | exact Or.inl (e) | exact Or.inr (Or.inl (e)) | exact Or.inr (Or.inr (Or.inl (e))) | exact Or.inr (Or.inr (Or.inr (Or.inl (e)))) | exact Or.inr (Or.inr (Or.inr (Or.inr (Or.inl (e))))) | exact Or.inr (Or.inr (Or.inr (Or.inr (Or.inr (Or.inl (e)))))) | exact Or.inr (Or.inr (Or.inr (Or.inr (Or.inr (Or.inr (Or.inl (e))))))) | exact Or.inr (Or.inr (Or.inr (Or.inr (Or.inr (Or.inr (Or.inr (Or.inl (e)))))))) | exact Or.inr (Or.inr (Or.inr (Or.inr (Or.inr (Or.inr (Or.inr (Or.inr (Or.inl (e))))))))) | exact Or.inr (Or.inr (Or.inr (Or.inr (Or.inr (Or.inr (Or.inr (Or.inr (Or.inr (Or.inl (e)))))))))) | exact Or.inr (Or.inr (Or.inr (Or.inr (Or.inr (Or.inr (Or.inr (Or.inr (Or.inr (Or.inr (Or.inl (e))))))))))) | exact Or.inr (Or.inr (Or.inr (Or.inr (Or.inr (Or.inr (Or.inr (Or.inr (Or.inr (Or.inr (Or.inr (Or.inl (e)))))))))))) | exact Or.inr (Or.inr (Or.inr (Or.inr (Or.inr (Or.inr (Or.inr (Or.inr (Or.inr (Or.inr (Or.inr (Or.inr (Or.inl (e))))))))))))) | exact Or.inr (Or.inr (Or.inr (Or.inr (Or.inr (Or.inr (Or.inr (Or.inr (Or.inr (Or.inr (Or.inr (Or.inr (Or.inr (Or.inl (e)))))))))))))) | exact Or.inr (Or.inr (Or.inr (Or.inr (Or.inr (Or.inr (Or.inr (Or.inr (Or.inr (Or.inr (Or.inr (Or.inr (Or.inr (Or.inr (Or.inl (e))))))))))))))) | exact Or.inr (Or.inr (Or.inr (Or.inr (Or.inr (Or.inr (Or.inr (Or.inr (Or.inr (Or.inr (Or.inr (Or.inr (Or.inr (Or.inr (Or.inr (Or.inl (e)))))))))))))))) | exact Or.inr (Or.inr (Or.inr (Or.inr (Or.inr (Or.inr (Or.inr (Or.inr (Or.inr (Or.inr (Or.inr (Or.inr (Or.inr (Or.inr (Or.inr (Or.inr (Or.inl (e))))))))))))))))) | exact Or.inr (Or.inr (Or.inr (Or.inr (Or.inr (Or.inr (Or.inr (Or.inr (Or.inr (Or.inr (Or.inr (Or.inr (Or.inr (Or.inr (Or.inr (Or.inr (Or.inr (Or.inl (e)))))))))))))))))) | exact Or.inr (Or.inr (Or.inr (Or.inr (Or.inr (Or.inr (Or.inr (Or.inr (Or.inr (Or.inr (Or.inr (Or.inr (Or.inr (Or.inr (Or.inr (Or.inr (Or.inr (Or.inr (Or.inl (e))))))))))))))))))) | exact Or.inr (Or.inr (Or.inr (Or.inr (Or.inr (Or.inr (Or.inr (Or.inr (Or.inr (Or.inr (Or.inr (Or.inr (Or.inr (Or.inr (Or.inr (Or.inr (Or.inr (Or.inr (Or.inr (Or.inl (e)))))))))))))))))))) | exact Or.inr (Or.inr (Or.inr (Or.inr (Or.inr (Or.inr (Or.inr (Or.inr (Or.inr (Or.inr (Or.inr (Or.inr (Or.inr (Or.inr (Or.inr (Or.inr (Or.inr (Or.inr (Or.inr (Or.inr (Or.inl (e))))))))))))))))))))) | exact Or.inr (Or.inr (Or.inr (Or.inr (Or.inr (Or.inr (Or.inr (Or.inr (Or.inr (Or.inr (Or.inr (Or.inr (Or.inr (Or.inr (Or.inr (Or.inr (Or.inr (Or.inr (Or.inr (Or.inr (Or.inr (Or.inl (e)))))))))))))))))))))) | exact Or.inr (Or.inr (Or.inr (Or.inr (Or.inr (Or.inr (Or.inr (Or.inr (Or.inr (Or.inr (Or.inr (Or.inr (Or.inr (Or.inr (Or.inr (Or.inr (Or.inr (Or.inr (Or.inr (Or.inr (Or.inr (Or.inr (Or.inl (e))))))))))))))))))))))) | exact Or.inr (Or.inr (Or.inr (Or.inr (Or.inr (Or.inr (Or.inr (Or.inr (Or.inr (Or.inr (Or.inr (Or.inr (Or.inr (Or.inr (Or.inr (Or.inr (Or.inr (Or.inr (Or.inr (Or.inr (Or.inr (Or.inr (Or.inr (Or.inl (e)))))))))))))))))))))))) | exact Or.inr (Or.inr (Or.inr (Or.inr (Or.inr (Or.inr (Or.inr (Or.inr (Or.inr (Or.inr (Or.inr (Or.inr (Or.inr (Or.inr (Or.inr (Or.inr (Or.inr (Or.inr (Or.inr (Or.inr (Or.inr (Or.inr (Or.inr (Or.inr (e))))))))))))))))))))))))) (fun x k hx => by simp only [wJ_mGreet_works, F1.r, F2.r] at hx; rcases hx with e | e | e <;> first | exact Or.inl (e) | exact Or.inr (Or.inl (e)) | exact Or.inr (Or.inr (e))) (fun r14 h12 F3 => ?_)
      exact fe_j F3 (hk6 _ _ _ _ _ _ _ _) (fun x k hx => by simp only [wI_mGreet_take_b6, F1.r, F2.r, F3.r] at hx; rcases hx with e | e | e | e | e | e | e | e | e | e | e | e | e | e | e | e | e | e | e | e | e | e | e | e | e <;> first | exact Or.inl (e) | exact Or.inr (Or.inl (e)) | exact Or.inr (Or.inr (Or.inl (e))) | exact Or.inr (Or.inr (Or.inr (Or.inl (e)))) | exact Or.inr (Or.inr (Or.inr (Or.inr (Or.inl (e))))) | exact Or.inr (Or.inr (Or.inr (Or.inr (Or.inr (Or.inl (e)))))) | exact Or.inr (Or.inr (Or.inr (Or.inr (Or.inr (Or.inr (Or.inl (e))))))) | exact Or.inr (Or.inr (Or.inr (Or.inr (Or.inr (Or.inr (Or.inr (Or.inl (e)))))))) | exact Or.inr (Or.inr (Or.inr (Or.inr (Or.inr (Or.inr (Or.inr (Or.inr (Or.inl (e))))))))) | exact Or.inr (Or.inr (Or.inr (Or.inr (Or.inr (Or.inr (Or.inr (Or.inr (Or.inr (Or.inl (e)))))))))) | exact Or.inr (Or.inr (Or.inr (Or.inr (Or.inr (Or.inr (Or.inr (Or.inr (Or.inr (Or.inr (Or.inl (e))))))))))) | exact Or.inr (Or.inr (Or.inr (Or.inr (Or.inr (Or.inr (Or.inr (Or.inr (Or.inr (Or.inr (Or.inr (Or.inl (e)))))))))))) | exact Or.inr (Or.inr (Or.inr (Or.inr (Or.inr (Or.inr (Or.inr (Or.inr (Or.inr (Or.inr (Or.inr (Or.inr (Or.inl (e))))))))))))) | exact Or.inr (Or.inr (Or.inr (Or.inr (Or.inr (Or.inr (Or.inr (Or.inr (Or.inr (Or.inr (Or.inr (Or.inr (Or.inr (Or.inl (e)))))))))))))) | exact Or.inr (Or.inr (Or.inr (Or.inr (Or.inr (Or.inr (Or.inr (Or.inr (Or.inr (Or.inr (Or.inr (Or.inr (Or.inr (Or.inr (Or.inl (e))))))))))))))) | exact Or.inr (Or.inr (Or.inr (Or.inr (Or.inr (Or.inr (Or.inr (Or.inr (Or.inr (Or.inr (Or.inr (Or.inr (Or.inr (Or.inr (Or.inr (Or.inl (e)))))))))))))))) | exact Or.inr (Or.inr (Or.inr (Or.inr (Or.inr (Or.inr (Or.inr (Or.inr (Or.inr (Or.inr (Or.inr (Or.inr (Or.inr (Or.inr (Or.inr (Or.inr (Or.inl (e))))))))))))))))) | exact Or.inr (Or.inr (Or.inr (Or.inr (Or.inr (Or.inr (Or.inr (Or.inr (Or.inr (Or.inr (Or.inr (Or.inr (Or.inr (Or.inr (Or.inr (Or.inr (Or.inr (Or.inl (e)))))))))))))))))) | exact Or.inr (Or.inr (Or.inr (Or.inr (Or.inr (Or.inr (Or.inr (Or.inr (Or.inr (Or.inr (Or.inr (Or.inr (Or.inr (Or.inr (Or.inr (Or.inr (Or.inr (Or.inr (Or.inl (e))))))))))))))))))) | exact Or.inr (Or.inr (Or.inr (Or.inr (Or.inr (Or.inr (Or.inr (Or.inr (Or.inr (Or.inr (Or.inr (Or.inr (Or.inr (Or.inr (Or.inr (Or.inr (Or.inr (Or.inr (Or.inr (Or.inl (e)))))))))))))))))))) | exact Or.inr (Or.inr (Or.inr (Or.inr (Or.inr (Or.inr (Or.inr (Or.inr (Or.inr (Or.inr (Or.inr (Or.inr (Or.inr (Or.inr (Or.inr (Or.inr (Or.inr (Or.inr (Or.inr (Or.inr (Or.inl (e))))))))))))))))))))) | exact Or.inr (Or.inr (Or.inr (Or.inr (Or.inr (Or.inr (Or.inr (Or.inr (Or.inr (Or.inr (Or.inr (Or.inr (Or.inr (Or.inr (Or.inr (Or.inr (Or.inr (Or.inr (Or.inr (Or.inr (Or.inr (Or.inl (e)))))))))))))))))))))) | exact Or.inr (Or.inr (Or.inr (Or.inr (Or.inr (Or.inr (Or.inr (Or.inr (Or.inr (Or.inr (Or.inr (Or.inr (Or.inr (Or.inr (Or.inr (Or.inr (Or.inr (Or.inr (Or.inr (Or.inr (Or.inr (Or.inr (Or.inl (e))))))))))))))))))))))) | exact Or.inr (Or.inr (Or.inr (Or.inr (Or.inr (Or.inr (Or.inr (Or.inr (Or.inr (Or.inr (Or.inr (Or.inr (Or.inr (Or.inr (Or.inr (Or.inr (Or.inr (Or.inr (Or.inr (Or.inr (Or.inr (Or.inr (Or.inr (Or.inl (e)))))))))))))))))))))))) | exact Or.inr (Or.inr (Or.inr (Or.inr (Or.inr (Or.inr (Or.inr (Or.inr (Or.inr (Or.inr (Or.inr (Or.inr (Or.inr (Or.inr (Or.inr (Or.inr (Or.inr (Or.inr (Or.inr (Or.inr (Or.inr (Or.inr (Or.inr (Or.inr (e))))))))))))))))))))))))) (fun x k hx => by simp only [wJ_mGreet_take_b6, F1.r, F2.r, F3.r] at hx; rcases hx with e | e | e <;> first | exact Or.inl (e) | exact Or.inr (Or.inl (e)) | exact Or.inr (Or.inr (e)))
theorem fe_mGreet_take_b6_lp (n : Nat) : ∀ (v0 : Nat) (v1 : Int) (v2 : Nat) (v3 : Int) (v4 : Int) (v5 : Int) (v6 : Int) (h : Hp), Feo (wI_mGreet_take_b6 v0 v1 v2 v3 v4 v5 v6 h) (wJ_mGreet_take_b6 v0 v1 v2 v3 v4 v5 v6 h) h Prod.snd (f_mGreet_take_b6_lp n v0 v1 v2 v3 v4 v5 v6 h) := by
  induction n with
  | zero => intro v0 v1 v2 v3 v4 v5 v6 h; exact fe_no
  | succ n ih => intro v0 v1 v2 v3 v4 v5 v6 h; exact fe_mGreet_take_b6 ih v0 v1 v2 v3 v4 v5 v6 h
theorem fe_mGreet_take (v0 : Nat) (v1 : Int) (v2 : Nat) (v3 : Int) (v4 : Int) (h : Hp) : Feo (wI_mGreet_take v0 v1 v2 v3 v4 h) (wJ_mGreet_take v0 v1 v2 v3 v4 h) h Prod.snd (f_mGreet_take v0 v1 v2 v3 v4 h) := by
  unfold f_mGreet_take
  exact fe_j Fe.rf (fe_mGreet_take_b6_lp FU _ _ _ _ _ _ _ _) (fun x k hx => by simp only [wI_mGreet_take_b6] at hx; rcases hx with e | e | e | e | e | e | e | e | e | e | e | e | e | e | e | e | e | e | e | e | e | e | e | e | e <;> first | exact Or.inl (e) | exact Or.inr (Or.inl (e)) | exact Or.inr (Or.inr (Or.inl (e))) | exact Or.inr (Or.inr (Or.inr (Or.inl (e)))) | exact Or.inr (Or.inr (Or.inr (Or.inr (Or.inl (e))))) | exact Or.inr (Or.inr (Or.inr (Or.inr (Or.inr (Or.inl (e)))))) | exact Or.inr (Or.inr (Or.inr (Or.inr (Or.inr (Or.inr (Or.inl (e))))))) | exact Or.inr (Or.inr (Or.inr (Or.inr (Or.inr (Or.inr (Or.inr (Or.inl (e)))))))) | exact Or.inr (Or.inr (Or.inr (Or.inr (Or.inr (Or.inr (Or.inr (Or.inr (Or.inl (e))))))))) | exact Or.inr (Or.inr (Or.inr (Or.inr (Or.inr (Or.inr (Or.inr (Or.inr (Or.inr (Or.inl (e)))))))))) | exact Or.inr (Or.inr (Or.inr (Or.inr (Or.inr (Or.inr (Or.inr (Or.inr (Or.inr (Or.inr (Or.inl (e))))))))))) | exact Or.inr (Or.inr (Or.inr (Or.inr (Or.inr (Or.inr (Or.inr (Or.inr (Or.inr (Or.inr (Or.inr (Or.inl (e)))))))))))) | exact Or.inr (Or.inr (Or.inr (Or.inr (Or.inr (Or.inr (Or.inr (Or.inr (Or.inr (Or.inr (Or.inr (Or.inr (Or.inl (e))))))))))))) | exact Or.inr (Or.inr (Or.inr (Or.inr (Or.inr (Or.inr (Or.inr (Or.inr (Or.inr (Or.inr (Or.inr (Or.inr (Or.inr (Or.inl (e)))))))))))))) | exact Or.inr (Or.inr (Or.inr (Or.inr (Or.inr (Or.inr (Or.inr (Or.inr (Or.inr (Or.inr (Or.inr (Or.inr (Or.inr (Or.inr (Or.inl (e))))))))))))))) | exact Or.inr (Or.inr (Or.inr (Or.inr (Or.inr (Or.inr (Or.inr (Or.inr (Or.inr (Or.inr (Or.inr (Or.inr (Or.inr (Or.inr (Or.inr (Or.inl (e)))))))))))))))) | exact Or.inr (Or.inr (Or.inr (Or.inr (Or.inr (Or.inr (Or.inr (Or.inr (Or.inr (Or.inr (Or.inr (Or.inr (Or.inr (Or.inr (Or.inr (Or.inr (Or.inl (e))))))))))))))))) | exact Or.inr (Or.inr (Or.inr (Or.inr (Or.inr (Or.inr (Or.inr (Or.inr (Or.inr (Or.inr (Or.inr (Or.inr (Or.inr (Or.inr (Or.inr (Or.inr (Or.inr (Or.inl (e)))))))))))))))))) | exact Or.inr (Or.inr (Or.inr (Or.inr (Or.inr (Or.inr (Or.inr (Or.inr (Or.inr (Or.inr (Or.inr (Or.inr (Or.inr (Or.inr (Or.inr (Or.inr (Or.inr (Or.inr (Or.inl (e))))))))))))))))))) | exact Or.inr (Or.inr (Or.inr (Or.inr (Or.inr (Or.inr (Or.inr (Or.inr (Or.inr (Or.inr (Or.inr (Or.inr (Or.inr (Or.inr (Or.inr (Or.inr (Or.inr (Or.inr (Or.inr (Or.inl (e)))))))))))))))))))) | exact Or.inr (Or.inr (Or.inr (Or.inr (Or.inr (Or.inr (Or.inr (Or.inr (Or.inr (Or.inr (Or.inr (Or.inr (Or.inr (Or.inr (Or.inr (Or.inr (Or.inr (Or.inr (Or.inr (Or.inr (Or.inl (e))))))))))))))))))))) | exact Or.inr (Or.inr (Or.inr (Or.inr (Or.inr (Or.inr (Or.inr (Or.inr (Or.inr (Or.inr (Or.inr (Or.inr (Or.inr (Or.inr (Or.inr (Or.inr (Or.inr (Or.inr (Or.inr (Or.inr (Or.inr (Or.inl (e)))))))))))))))))))))) | exact Or.inr (Or.inr (Or.inr (Or.inr (Or.inr (Or.inr (Or.inr (Or.inr (Or.inr (Or.inr (Or.inr (Or.inr (Or.inr (Or.inr (Or.inr (Or.inr (Or.inr (Or.inr (Or.inr (Or.inr (Or.inr (Or.inr (Or.inl (e))))))))))))))))))))))) | exact Or.inr (Or.inr (Or.inr (Or.inr (Or.inr (Or.inr (Or.inr (Or.inr (Or.inr (Or.inr (Or.inr (Or.inr (Or.inr (Or.inr (Or.inr (Or.inr (Or.inr (Or.inr (Or.inr (Or.inr (Or.inr (Or.inr (Or.inr (Or.inl (e)))))))))))))))))))))))) | exact Or.inr (Or.inr (Or.inr (Or.inr (Or.inr (Or.inr (Or.inr (Or.inr (Or.inr (Or.inr (Or.inr (Or.inr (Or.inr (Or.inr (Or.inr (Or.inr (Or.inr (Or.inr (Or.inr (Or.inr (Or.inr (Or.inr (Or.inr (Or.inr (e))))))))))))))))))))))))) (fun x k hx => by simp only [wJ_mGreet_take_b6] at hx; rcases hx with e | e | e <;> first | exact Or.inl (e) | exact Or.inr (Or.inl (e)) | exact Or.inr (Or.inr (e)))
def wI_mSide_hasBytes_b27 (h : Hp) (x k : Nat) : Prop := False
def wJ_mSide_hasBytes_b27 (h : Hp) (x k : Nat) : Prop := False
def wI_mSide_hasBytes (v0 : Int) (h : Hp) (x k : Nat) : Prop := False
def wJ_mSide_hasBytes (v0 : Int) (h : Hp) (x k : Nat) : Prop := False
theorem fe_mSide_hasBytes_b27 (h : Hp) : Feo (wI_mSide_hasBytes_b27  h) (wJ_mSide_hasBytes_b27  h) h Prod.snd (f_mSide_hasBytes_b27  h) := by
  unfold f_mSide_hasBytes_b27
  exact fe_so Fe.rf
theorem fe_mSide_hasBytes (v0 : Int) (h : Hp) : Feo (wI_mSide_hasBytes v0 h) (wJ_mSide_hasBytes v0 h) h Prod.snd (f_mSide_hasBytes v0 h) := by
  unfold f_mSide_hasBytes
  refine fe_it ?_ ?_
  · exact fe_j Fe.rf (fe_mSide_hasBytes_b27 _) (fun x k hx => False.elim hx) (fun x k hx => False.elim hx)
  · refine fe_it ?_ ?_
    · exact fe_j Fe.rf (fe_mSide_hasBytes_b27 _) (fun x k hx => False.elim hx) (fun x k hx => False.elim hx)
    · refine fe_it ?_ ?_
      · exact fe_j Fe.rf (fe_mSide_hasBytes_b27 _) (fun x k hx => False.elim hx) (fun x k hx => False.elim hx)
      · refine fe_it ?_ ?_
        · exact fe_j Fe.rf (fe_mSide_hasBytes_b27 _) (fun x k hx => False.elim hx) (fun x k hx => False.elim hx)
        · refine fe_it ?_ ?_
          · exact fe_so Fe.rf
          · exact fe_j Fe.rf (fe_mSide_hasBytes_b27 _) (fun x k hx => False.elim hx) (fun x k hx => False.elim hx)
def wI_mStreams_know_b59 (v0 : Nat) (s0 : Nat) (s1 : Int) (s2 : Int) (h : Hp) (x k : Nat) : Prop := False
def wJ_mStreams_know_b59 (v0 : Nat) (s0 : Nat) (s1 : Int) (s2 : Int) (h : Hp) (x k : Nat) : Prop := x = s0
def wI_mStreams_know_b26 (v0 : Nat) (v1 : Int) (v2 : Int) (v3 : Int) (h : Hp) (x k : Nat) : Prop := False
def wJ_mStreams_know_b26 (v0 : Nat) (v1 : Int) (v2 : Int) (v3 : Int) (h : Hp) (x k : Nat) : Prop := x = (hR h v0 2)
def wI_mStreams_know (v0 : Nat) (v1 : Int) (v2 : Int) (v3 : Int) (h : Hp) (x k : Nat) : Prop := False
def wJ_mStreams_know (v0 : Nat) (v1 : Int) (v2 : Int) (v3 : Int) (h : Hp) (x k : Nat) : Prop := x = (hR h v0 2) ∨ x = hR h v0 1 ∨ x = hR h v0 2
theorem fe_mStreams_know_b59 (v0 : Nat) (s0 : Nat) (s1 : Int) (s2 : Int) (h : Hp) : Feo (wI_mStreams_know_b59 v0 s0 s1 s2 h) (wJ_mStreams_know_b59 v0 s0 s1 s2 h) h id (f_mStreams_know_b59 v0 s0 s1 s2 h) := by
  unfold f_mStreams_know_b59
  refine fe_it fe_no ?_
  refine fe_it ?_ fe_no
  refine fe_J Fe.rf (rfl) (fun h9 F1 => ?_)
  exact fe_so F1
theorem fe_mStreams_know_b26 (v0 : Nat) (v1 : Int) (v2 : Int) (v3 : Int) (h : Hp) : Feo (wI_mStreams_know_b26 v0 v1 v2 v3 h) (wJ_mStreams_know_b26 v0 v1 v2 v3 h) h id (f_mStreams_know_b26 v0 v1 v2 v3 h) := by
  unfold f_mStreams_know_b26
  refine fe_it ?_ ?_
  · exact fe_so Fe.rf
  · refine fe_it ?_ ?_
    · exact fe_j Fe.rf (fe_mStreams_know_b59 _ _ _ _ _) (fun x k hx => False.elim hx) (fun x k hx => by simp only [wJ_mStreams_know_b59] at hx; have e := hx; exact e)
    · exact fe_j Fe.rf (fe_mStreams_know_b59 _ _ _ _ _) (fun x k hx => False.elim hx) (fun x k hx => by simp only [wJ_mStreams_know_b59] at hx; have e := hx; exact e)
theorem fe_mStreams_know (v0 : Nat) (v1 : Int) (v2 : Int) (v3 : Int) (h : Hp) : Feo (wI_mStreams_know v0 v1 v2 v3 h) (wJ_mStreams_know v0 v1 v2 v3 h) h id (f_mStreams_know v0 v1 v2 v3 h) := by
  unfold f_mStreams_know
  refine fe_it fe_no ?_
  refine fe_it ?_ fe_no
  refine fe_J Fe.rf (Or.inr (Or.inl (rfl))) (fun h3 F1 => ?_)
  refine fe_it ?_ ?_
  · exact fe_j F1 (fe_mStreams_know_b26 _ _ _ _ _) (fun x k hx => False.elim hx) (fun x k hx => by simp only [wJ_mStreams_know_b26, F1.r] at hx; have e := hx; exact Or.inl (e))
  · refine fe_it fe_no ?_
    refine fe_it ?_ fe_no
    refine fe_J F1 (Or.inr (Or.inr ((by first | (simp only [F1.r]; exact rfl) | simp only [F1.r])))) (fun h6 F2 => ?_)
    exact fe_j F2 (fe_mStreams_know_b26 _ _ _ _ _) (fun x k hx => False.elim hx) (fun x k hx => by simp only [wJ_mStreams_know_b26, F1.r, F2.r] at hx; have e := hx; exact Or.inl (e))
def wI_mSide_confirm (v0 : Nat) (h : Hp) (x k : Nat) : Prop := (x = (hR h v0 4) ∧ k = 23) ∨ x = hR h (hR h v0 4) 11 ∨ x = hR h (hR h v0 4) 13 ∨ x = hR h (hR h v0 4) 17 ∨ x = hR h (hR h v0 4) 30 ∨ x = hR h (hR h v0 4) 35 ∨ x = hR h (hR h v0 4) 37 ∨ x = hR h v0 34 ∨ (x = hR h v0 4 ∧ k = 1) ∨ (x = hR h v0 4 ∧ k = 2)
def wJ_mSide_confirm (v0 : Nat) (h : Hp) (x k : Nat) : Prop := x = hR h (hR h v0 4) 33
theorem fe_mSide_confirm (v0 : Nat) (h : Hp) : Feo (wI_mSide_confirm v0 h) (wJ_mSide_confirm v0 h) h id (f_mSide_confirm v0 h) := by
  unfold f_mSide_confirm
  refine fe_it fe_no ?_
  refine fe_I Fe.rf (Or.inr (Or.inr (Or.inr (Or.inr (Or.inr (Or.inr (Or.inr (Or.inr (Or.inl (⟨rfl, rfl⟩)))))))))) (fun h2 F1 => ?_)
  refine fe_it fe_no ?_
  refine fe_I F1 (Or.inr (Or.inr (Or.inr (Or.inr (Or.inr (Or.inr (Or.inr (Or.inr (Or.inr (⟨(by first | (simp only [F1.r]; exact rfl) | simp only [F1.r]), rfl⟩)))))))))) (fun h4 F2 => ?_)
  refine fe_b1 F2 (fe_mSide_discard _ _ _) (fun x k hx => by simp only [wI_mSide_discard, F1.r, F2.r] at hx; rcases hx with e | e | e | e | e | e | e | e <;> first | exact Or.inl (e) | exact Or.inr (Or.inl (e)) | exact Or.inr (Or.inr (Or.inl (e))) | exact Or.inr (Or.inr (Or.inr (Or.inl (e)))) | exact Or.inr (Or.inr (Or.inr (Or.inr (Or.inl (e))))) | exact Or.inr (Or.inr (Or.inr (Or.inr (Or.inr (Or.inl (e)))))) | exact Or.inr (Or.inr (Or.inr (Or.inr (Or.inr (Or.inr (Or.inl (e))))))) | exact Or.inr (Or.inr (Or.inr (Or.inr (Or.inr (Or.inr (Or.inr (Or.inl (e))))))))) (fun x k hx => by simp only [wJ_mSide_discard, F1.r, F2.r] at hx; have e := hx; exact e) (fun h5 F3 => ?_)
  exact fe_so F3
def wI_mStreams_meant_b58 (v0 : Nat) (v1 : Int) (v2 : Int) (h : Hp) (x k : Nat) : Prop := False
def wJ_mStreams_meant_b58 (v0 : Nat) (v1 : Int) (v2 : Int) (h : Hp) (x k : Nat) : Prop := False
def wI_mStreams_meant_b32 (v0 : Nat) (v1 : Int) (v2 : Int) (v4 : Int) (h : Hp) (x k : Nat) : Prop := False
def wJ_mStreams_meant_b32 (v0 : Nat) (v1 : Int) (v2 : Int) (v4 : Int) (h : Hp) (x k : Nat) : Prop := False
def wI_mStreams_meant (v0 : Nat) (v1 : Int) (v2 : Int) (v4 : Int) (h : Hp) (x k : Nat) : Prop := False
def wJ_mStreams_meant (v0 : Nat) (v1 : Int) (v2 : Int) (v4 : Int) (h : Hp) (x k : Nat) : Prop := False
theorem fe_mStreams_meant_b58 (v0 : Nat) (v1 : Int) (v2 : Int) (h : Hp) : Feo (wI_mStreams_meant_b58 v0 v1 v2 h) (wJ_mStreams_meant_b58 v0 v1 v2 h) h Prod.snd (f_mStreams_meant_b58 v0 v1 v2 h) := by
  unfold f_mStreams_meant_b58
  refine fe_b2 Fe.rf (fe_mStreams_opens _ _ _) (fun x k hx => False.elim hx) (fun x k hx => False.elim hx) (fun r17 h15 F1 => ?_)
  refine fe_it ?_ ?_
  · exact fe_so F1
  · refine fe_b2 F1 (fe_mStreams_wayOf _ _) (fun x k hx => False.elim hx) (fun x k hx => False.elim hx) (fun r20 h18 F2 => ?_)
    refine fe_it fe_no ?_
    refine fe_it ?_ fe_no
    refine fe_it ?_ ?_
    · exact fe_so F2
    · exact fe_so F2
theorem fe_mStreams_meant_b32 (v0 : Nat) (v1 : Int) (v2 : Int) (v4 : Int) (h : Hp) : Feo (wI_mStreams_meant_b32 v0 v1 v2 v4 h) (wJ_mStreams_meant_b32 v0 v1 v2 v4 h) h Prod.snd (f_mStreams_meant_b32 v0 v1 v2 v4 h) := by
  unfold f_mStreams_meant_b32
  refine fe_it ?_ ?_
  · refine fe_b2 Fe.rf (fe_mStreams_receives _ _ _) (fun x k hx => False.elim hx) (fun x k hx => False.elim hx) (fun r11 h9 F1 => ?_)
    refine fe_it ?_ ?_
    · exact fe_j F1 (fe_mStreams_meant_b58 _ _ _ _) (fun x k hx => False.elim hx) (fun x k hx => False.elim hx)
    · exact fe_so F1
  · refine fe_b2 Fe.rf (fe_mStreams_sends _ _ _) (fun x k hx => False.elim hx) (fun x k hx => False.elim hx) (fun r14 h12 F2 => ?_)
    refine fe_it ?_ ?_
    · exact fe_j F2 (fe_mStreams_meant_b58 _ _ _ _) (fun x k hx => False.elim hx) (fun x k hx => False.elim hx)
    · exact fe_so F2
theorem fe_mStreams_meant (v0 : Nat) (v1 : Int) (v2 : Int) (v4 : Int) (h : Hp) : Feo (wI_mStreams_meant v0 v1 v2 v4 h) (wJ_mStreams_meant v0 v1 v2 v4 h) h Prod.snd (f_mStreams_meant v0 v1 v2 v4 h) := by
  unfold f_mStreams_meant
  refine fe_b2 Fe.rf (fe_mStreams_opens _ _ _) (fun x k hx => False.elim hx) (fun x k hx => False.elim hx) (fun r3 h1 F1 => ?_)
  refine fe_it ?_ ?_
  · exact fe_j F1 (fe_mStreams_meant_b32 _ _ _ _ _) (fun x k hx => False.elim hx) (fun x k hx => False.elim hx)
  · refine fe_it ?_ ?_
    · exact fe_so F1
    · refine fe_b2 F1 (fe_mStreams_at _ _ _) (fun x k hx => False.elim hx) (fun x k hx => False.elim hx) (fun r6 h4 F2 => ?_)
      refine fe_it fe_no ?_
      refine fe_it ?_ fe_no
      refine fe_it ?_ ?_
      · exact fe_j F2 (fe_mStreams_meant_b32 _ _ _ _ _) (fun x k hx => False.elim hx) (fun x k hx => False.elim hx)
      · exact fe_so F2
def wI_mStreams_received_b5 (v0 : Nat) (v1 : Int) (v2 : Int) (v4 : Int) (h : Hp) (x k : Nat) : Prop := False
def wJ_mStreams_received_b5 (v0 : Nat) (v1 : Int) (v2 : Int) (v4 : Int) (h : Hp) (x k : Nat) : Prop := False
def wI_mStreams_received (v0 : Nat) (v1 : Int) (h : Hp) (x k : Nat) : Prop := False
def wJ_mStreams_received (v0 : Nat) (v1 : Int) (h : Hp) (x k : Nat) : Prop := False
theorem fe_mStreams_received_b5 {k5 : Nat → Int → Int → Int → Hp → Option (Int × Hp)} (hk5 : ∀ (v0 : Nat) (v1 : Int) (v2 : Int) (v4 : Int) (h : Hp), Feo (wI_mStreams_received_b5 v0 v1 v2 v4 h) (wJ_mStreams_received_b5 v0 v1 v2 v4 h) h Prod.snd (k5 v0 v1 v2 v4 h)) (v0 : Nat) (v1 : Int) (v2 : Int) (v4 : Int) (h : Hp) : Feo (wI_mStreams_received_b5 v0 v1 v2 v4 h) (wJ_mStreams_received_b5 v0 v1 v2 v4 h) h Prod.snd (f_mStreams_received_b5 k5 v0 v1 v2 v4 h) := by
  unfold f_mStreams_received_b5
  refine fe_it ?_ ?_
  · exact fe_so Fe.rf
  · refine fe_b2 Fe.rf (fe_mStreams_at _ _ _) (fun x k hx => False.elim hx) (fun x k hx => False.elim hx) (fun r3 h1 F1 => ?_)
    refine fe_it fe_no ?_
    refine fe_it ?_ fe_no
    refine fe_v (fun y6 => ?_)
    exact fe_j F1 (hk5 _ _ _ _ _) (fun x k hx => False.elim hx) (fun x k hx => False.elim hx)
theorem fe_mStreams_received_b5_lp (n : Nat) : ∀ (v0 : Nat) (v1 : Int) (v2 : Int) (v4 : Int) (h : Hp), Feo (wI_mStreams_received_b5 v0 v1 v2 v4 h) (wJ_mStreams_received_b5 v0 v1 v2 v4 h) h Prod.snd (f_mStreams_received_b5_lp n v0 v1 v2 v4 h) := by
  induction n with
  | zero => intro v0 v1 v2 v4 h; exact fe_no
  | succ n ih => intro v0 v1 v2 v4 h; exact fe_mStreams_received_b5 ih v0 v1 v2 v4 h
theorem fe_mStreams_received (v0 : Nat) (v1 : Int) (h : Hp) : Feo (wI_mStreams_received v0 v1 h) (wJ_mStreams_received v0 v1 h) h Prod.snd (f_mStreams_received v0 v1 h) := by
  unfold f_mStreams_received
  exact fe_j Fe.rf (fe_mStreams_received_b5_lp FU _ _ _ _ _) (fun x k hx => False.elim hx) (fun x k hx => False.elim hx)
def wI_mStreams_reaches_b151 (v0 : Nat) (h : Hp) (x k : Nat) : Prop := False
def wJ_mStreams_reaches_b151 (v0 : Nat) (h : Hp) (x k : Nat) : Prop := False
def wI_mStreams_reaches_b124 (v0 : Nat) (v1 : Int) (v3 : Int) (v7 : Int) (s0 : Int) (h : Hp) (x k : Nat) : Prop := False
def wJ_mStreams_reaches_b124 (v0 : Nat) (v1 : Int) (v3 : Int) (v7 : Int) (s0 : Int) (h : Hp) (x k : Nat) : Prop := False
def wI_mStreams_reaches_b97 (v0 : Nat) (v1 : Int) (v3 : Int) (v6 : Int) (s0 : Int) (h : Hp) (x k : Nat) : Prop := False
def wJ_mStreams_reaches_b97 (v0 : Nat) (v1 : Int) (v3 : Int) (v6 : Int) (s0 : Int) (h : Hp) (x k : Nat) : Prop := False
def wI_mStreams_reaches_b71 (v0 : Nat) (v1 : Int) (v2 : Int) (v3 : Int) (v6 : Int) (h : Hp) (x k : Nat) : Prop := False
def wJ_mStreams_reaches_b71 (v0 : Nat) (v1 : Int) (v2 : Int) (v3 : Int) (v6 : Int) (h : Hp) (x k : Nat) : Prop := False
def wI_mStreams_reaches_b51 (v0 : Nat) (v1 : Int) (v2 : Int) (v3 : Int) (v5 : Int) (v6 : Int) (h : Hp) (x k : Nat) : Prop := False
def wJ_mStreams_reaches_b51 (v0 : Nat) (v1 : Int) (v2 : Int) (v3 : Int) (v5 : Int) (v6 : Int) (h : Hp) (x k : Nat) : Prop := False
def wI_mStreams_reaches (v0 : Nat) (v1 : Int) (v2 : Int) (v3 : Int) (v5 : Int) (h : Hp) (x k : Nat) : Prop := False
def wJ_mStreams_reaches (v0 : Nat) (v1 : Int) (v2 : Int) (v3 : Int) (v5 : Int) (h : Hp) (x k : Nat) : Prop := False
theorem fe_mStreams_reaches_b151 (v0 : Nat) (h : Hp) : Feo (wI_mStreams_reaches_b151 v0 h) (wJ_mStreams_reaches_b151 v0 h) h Prod.snd (f_mStreams_reaches_b151 v0 h) := by
  unfold f_mStreams_reaches_b151
  exact fe_so Fe.rf
theorem fe_mStreams_reaches_b124 (v0 : Nat) (v1 : Int) (v3 : Int) (v7 : Int) (s0 : Int) (h : Hp) : Feo (wI_mStreams_reaches_b124 v0 v1 v3 v7 s0 h) (wJ_mStreams_reaches_b124 v0 v1 v3 v7 s0 h) h Prod.snd (f_mStreams_reaches_b124 v0 v1 v3 v7 s0 h) := by
  unfold f_mStreams_reaches_b124
  refine fe_it ?_ ?_
  · exact fe_j Fe.rf (fe_mStreams_reaches_b151 _ _) (fun x k hx => False.elim hx) (fun x k hx => False.elim hx)
  · refine fe_b2 Fe.rf (fe_mStreams_received _ _ _) (fun x k hx => False.elim hx) (fun x k hx => False.elim hx) (fun r22 h20 F1 => ?_)
    refine fe_it fe_no ?_
    refine fe_it ?_ fe_no
    refine fe_it ?_ ?_
    · exact fe_so F1
    · exact fe_j F1 (fe_mStreams_reaches_b151 _ _) (fun x k hx => False.elim hx) (fun x k hx => False.elim hx)
theorem fe_mStreams_reaches_b97 (v0 : Nat) (v1 : Int) (v3 : Int) (v6 : Int) (s0 : Int) (h : Hp) : Feo (wI_mStreams_reaches_b97 v0 v1 v3 v6 s0 h) (wJ_mStreams_reaches_b97 v0 v1 v3 v6 s0 h) h Prod.snd (f_mStreams_reaches_b97 v0 v1 v3 v6 s0 h) := by
  unfold f_mStreams_reaches_b97
  refine fe_it fe_no ?_
  refine fe_it ?_ fe_no
  refine fe_it ?_ ?_
  · exact fe_j Fe.rf (fe_mStreams_reaches_b124 _ _ _ _ _ _) (fun x k hx => False.elim hx) (fun x k hx => False.elim hx)
  · refine fe_it ?_ fe_no
    exact fe_j Fe.rf (fe_mStreams_reaches_b124 _ _ _ _ _ _) (fun x k hx => False.elim hx) (fun x k hx => False.elim hx)
theorem fe_mStreams_reaches_b71 (v0 : Nat) (v1 : Int) (v2 : Int) (v3 : Int) (v6 : Int) (h : Hp) : Feo (wI_mStreams_reaches_b71 v0 v1 v2 v3 v6 h) (wJ_mStreams_reaches_b71 v0 v1 v2 v3 v6 h) h Prod.snd (f_mStreams_reaches_b71 v0 v1 v2 v3 v6 h) := by
  unfold f_mStreams_reaches_b71
  refine fe_it fe_no ?_
  refine fe_it ?_ fe_no
  refine fe_it ?_ ?_
  · refine fe_b2 Fe.rf (fe_mStreams_grantOf _ _ _ _) (fun x k hx => False.elim hx) (fun x k hx => False.elim hx) (fun r14 h12 F1 => ?_)
    exact fe_j F1 (fe_mStreams_reaches_b97 _ _ _ _ _ _) (fun x k hx => False.elim hx) (fun x k hx => False.elim hx)
  · refine fe_it fe_no ?_
    refine fe_it ?_ fe_no
    exact fe_j Fe.rf (fe_mStreams_reaches_b97 _ _ _ _ _ _) (fun x k hx => False.elim hx) (fun x k hx => False.elim hx)
theorem fe_mStreams_reaches_b51 (v0 : Nat) (v1 : Int) (v2 : Int) (v3 : Int) (v5 : Int) (v6 : Int) (h : Hp) : Feo (wI_mStreams_reaches_b51 v0 v1 v2 v3 v5 v6 h) (wJ_mStreams_reaches_b51 v0 v1 v2 v3 v5 v6 h) h Prod.snd (f_mStreams_reaches_b51 v0 v1 v2 v3 v5 v6 h) := by
  unfold f_mStreams_reaches_b51
  refine fe_it ?_ ?_
  · exact fe_j Fe.rf (fe_mStreams_reaches_b71 _ _ _ _ _ _) (fun x k hx => False.elim hx) (fun x k hx => False.elim hx)
  · refine fe_it fe_no ?_
    refine fe_it ?_ fe_no
    refine fe_it ?_ ?_
    · exact fe_j Fe.rf (fe_mStreams_reaches_b71 _ _ _ _ _ _) (fun x k hx => False.elim hx) (fun x k hx => False.elim hx)
    · exact fe_so Fe.rf
theorem fe_mStreams_reaches (v0 : Nat) (v1 : Int) (v2 : Int) (v3 : Int) (v5 : Int) (h : Hp) : Feo (wI_mStreams_reaches v0 v1 v2 v3 v5 h) (wJ_mStreams_reaches v0 v1 v2 v3 v5 h) h Prod.snd (f_mStreams_reaches v0 v1 v2 v3 v5 h) := by
  unfold f_mStreams_reaches
  refine fe_b2 Fe.rf (fe_mStreams_at _ _ _) (fun x k hx => False.elim hx) (fun x k hx => False.elim hx) (fun r3 h1 F1 => ?_)
  refine fe_it fe_no ?_
  refine fe_it ?_ fe_no
  refine fe_it ?_ ?_
  · exact fe_j F1 (fe_mStreams_reaches_b51 _ _ _ _ _ _ _) (fun x k hx => False.elim hx) (fun x k hx => False.elim hx)
  · refine fe_it ?_ fe_no
    refine fe_it ?_ ?_
    · exact fe_so F1
    · refine fe_it ?_ ?_
      · exact fe_j F1 (fe_mStreams_reaches_b51 _ _ _ _ _ _ _) (fun x k hx => False.elim hx) (fun x k hx => False.elim hx)
      · refine fe_it ?_ fe_no
        refine fe_it ?_ ?_
        · exact fe_j F1 (fe_mStreams_reaches_b51 _ _ _ _ _ _ _) (fun x k hx => False.elim hx) (fun x k hx => False.elim hx)
        · exact fe_so F1
def wI_mStreams_comesThere_b20 (v0 : Nat) (v1 : Int) (v2 : Int) (v3 : Int) (h : Hp) (x k : Nat) : Prop := x = hR h v0 12 ∨ x = hR h v0 5
def wJ_mStreams_comesThere_b20 (v0 : Nat) (v1 : Int) (v2 : Int) (v3 : Int) (h : Hp) (x k : Nat) : Prop := x = (hR h v0 13) ∨ x = hR h v0 33
def wI_mStreams_comesThere (v0 : Nat) (v1 : Int) (v2 : Int) (h : Hp) (x k : Nat) : Prop := x = hR h v0 12 ∨ x = hR h v0 5
def wJ_mStreams_comesThere (v0 : Nat) (v1 : Int) (v2 : Int) (h : Hp) (x k : Nat) : Prop := x = (hR h v0 13) ∨ x = hR h v0 33
theorem fe_mStreams_comesThere_b20 {k20 : Nat → Int → Int → Int → Hp → Option (Hp)} (hk20 : ∀ (v0 : Nat) (v1 : Int) (v2 : Int) (v3 : Int) (h : Hp), Feo (wI_mStreams_comesThere_b20 v0 v1 v2 v3 h) (wJ_mStreams_comesThere_b20 v0 v1 v2 v3 h) h id (k20 v0 v1 v2 v3 h)) (v0 : Nat) (v1 : Int) (v2 : Int) (v3 : Int) (h : Hp) : Feo (wI_mStreams_comesThere_b20 v0 v1 v2 v3 h) (wJ_mStreams_comesThere_b20 v0 v1 v2 v3 h) h id (f_mStreams_comesThere_b20 k20 v0 v1 v2 v3 h) := by
  unfold f_mStreams_comesThere_b20
  refine fe_it fe_no ?_
  refine fe_it ?_ fe_no
  refine fe_it ?_ ?_
  · exact fe_so Fe.rf
  · refine fe_it ?_ fe_no
    refine fe_b1 Fe.rf (fe_mStreams_begin _ _ _ _) (fun x k hx => by simp only [wI_mStreams_begin] at hx; have e := hx; exact Or.inl (e)) (fun x k hx => by simp only [wJ_mStreams_begin] at hx; rcases hx with e | e <;> first | exact Or.inl (e) | exact Or.inr (e)) (fun h11 F1 => ?_)
    refine fe_it fe_no ?_
    refine fe_it ?_ fe_no
    refine fe_it ?_ fe_no
    refine fe_I F1 (Or.inr ((by first | (simp only [F1.r]; exact rfl) | simp only [F1.r]))) (fun h16 F2 => ?_)
    exact fe_j F2 (hk20 _ _ _ _ _) (fun x k hx => by simp only [wI_mStreams_comesThere_b20, F1.r, F2.r] at hx; rcases hx with e | e <;> first | exact Or.inl (e) | exact Or.inr (e)) (fun x k hx => by simp only [wJ_mStreams_comesThere_b20, F1.r, F2.r] at hx; rcases hx with e | e <;> first | exact Or.inl (e) | exact Or.inr (e))
theorem fe_mStreams_comesThere_b20_lp (n : Nat) : ∀ (v0 : Nat) (v1 : Int) (v2 : Int) (v3 : Int) (h : Hp), Feo (wI_mStreams_comesThere_b20 v0 v1 v2 v3 h) (wJ_mStreams_comesThere_b20 v0 v1 v2 v3 h) h id (f_mStreams_comesThere_b20_lp n v0 v1 v2 v3 h) := by
  induction n with
  | zero => intro v0 v1 v2 v3 h; exact fe_no
  | succ n ih => intro v0 v1 v2 v3 h; exact fe_mStreams_comesThere_b20 ih v0 v1 v2 v3 h
theorem fe_mStreams_comesThere (v0 : Nat) (v1 : Int) (v2 : Int) (h : Hp) : Feo (wI_mStreams_comesThere v0 v1 v2 h) (wJ_mStreams_comesThere v0 v1 v2 h) h id (f_mStreams_comesThere v0 v1 v2 h) := by
  unfold f_mStreams_comesThere
  refine fe_b2 Fe.rf (fe_mStreams_wayOf _ _) (fun x k hx => False.elim hx) (fun x k hx => False.elim hx) (fun r3 h1 F1 => ?_)
  refine fe_v (fun y4 => ?_)
  refine fe_b2 F1 (fe_mStreams_opens _ _ _) (fun x k hx => False.elim hx) (fun x k hx => False.elim hx) (fun r7 h5 F2 => ?_)
  refine fe_it ?_ ?_
  · exact fe_j F2 (fe_mStreams_comesThere_b20_lp FU _ _ _ _ _) (fun x k hx => by simp only [wI_mStreams_comesThere_b20, F1.r, F2.r] at hx; rcases hx with e | e <;> first | exact Or.inl (e) | exact Or.inr (e)) (fun x k hx => by simp only [wJ_mStreams_comesThere_b20, F1.r, F2.r] at hx; rcases hx with e | e <;> first | exact Or.inl (e) | exact Or.inr (e))
  · exact fe_so F2
def wI_mStreams_greater (v0 : Int) (v2 : Int) (h : Hp) (x k : Nat) : Prop := False
def wJ_mStreams_greater (v0 : Int) (v2 : Int) (h : Hp) (x k : Nat) : Prop := False
theorem fe_mStreams_greater (v0 : Int) (v2 : Int) (h : Hp) : Feo (wI_mStreams_greater v0 v2 h) (wJ_mStreams_greater v0 v2 h) h Prod.snd (f_mStreams_greater v0 v2 h) := by
  unfold f_mStreams_greater
  refine fe_it ?_ ?_
  · exact fe_so Fe.rf
  · exact fe_so Fe.rf
def wI_mStreams_comes_b83 (v0 : Nat) (v3 : Int) (v4 : Int) (v6 : Int) (h : Hp) (x k : Nat) : Prop := x = hR h v0 49
def wJ_mStreams_comes_b83 (v0 : Nat) (v3 : Int) (v4 : Int) (v6 : Int) (h : Hp) (x k : Nat) : Prop := x = hR h v0 48
def wI_mStreams_comes (v0 : Nat) (v1 : Int) (v2 : Int) (v3 : Int) (v4 : Int) (h : Hp) (x k : Nat) : Prop := x = hR h v0 39 ∨ x = hR h v0 45 ∨ x = hR h v0 46 ∨ x = hR h v0 47 ∨ x = hR h v0 49
def wJ_mStreams_comes (v0 : Nat) (v1 : Int) (v2 : Int) (v3 : Int) (v4 : Int) (h : Hp) (x k : Nat) : Prop := x = hR h v0 48
theorem fe_mStreams_comes_b83 (v0 : Nat) (v3 : Int) (v4 : Int) (v6 : Int) (h : Hp) : Feo (wI_mStreams_comes_b83 v0 v3 v4 v6 h) (wJ_mStreams_comes_b83 v0 v3 v4 v6 h) h id (f_mStreams_comes_b83 v0 v3 v4 v6 h) := by
  unfold f_mStreams_comes_b83
  refine fe_it fe_no ?_
  refine fe_it ?_ fe_no
  refine fe_it ?_ ?_
  · refine fe_it ?_ fe_no
    refine fe_it ?_ fe_no
    refine fe_J Fe.rf (rfl) (fun h28 F1 => ?_)
    refine fe_it fe_no ?_
    refine fe_it ?_ fe_no
    refine fe_I F1 ((by first | (simp only [F1.r]; exact rfl) | simp only [F1.r])) (fun h31 F2 => ?_)
    exact fe_so F2
  · exact fe_so Fe.rf
theorem fe_mStreams_comes (v0 : Nat) (v1 : Int) (v2 : Int) (v3 : Int) (v4 : Int) (h : Hp) : Feo (wI_mStreams_comes v0 v1 v2 v3 v4 h) (wJ_mStreams_comes v0 v1 v2 v3 v4 h) h id (f_mStreams_comes v0 v1 v2 v3 v4 h) := by
  unfold f_mStreams_comes
  refine fe_b2 Fe.rf (fe_mStreams_at _ _ _) (fun x k hx => False.elim hx) (fun x k hx => False.elim hx) (fun r3 h1 F1 => ?_)
  refine fe_b2 F1 (fe_mStreams_pieceAt _ _ _ _) (fun x k hx => False.elim hx) (fun x k hx => False.elim hx) (fun r6 h4 F2 => ?_)
  refine fe_it ?_ ?_
  · exact fe_j F2 (fe_mStreams_comes_b83 _ _ _ _ _) (fun x k hx => by simp only [wI_mStreams_comes_b83, F1.r, F2.r] at hx; have e := hx; exact Or.inr (Or.inr (Or.inr (Or.inr (e))))) (fun x k hx => by simp only [wJ_mStreams_comes_b83, F1.r, F2.r] at hx; have e := hx; exact e)
  · refine fe_it fe_no ?_
    refine fe_it ?_ fe_no
    refine fe_v (fun y9 => ?_)
    refine fe_it ?_ fe_no
    refine fe_it ?_ fe_no
    refine fe_I F2 (Or.inr (Or.inl ((by first | (simp only [F1.r, F2.r]; exact rfl) | simp only [F1.r, F2.r])))) (fun h12 F3 => ?_)
    refine fe_it fe_no ?_
    refine fe_it ?_ fe_no
    refine fe_I F3 (Or.inr (Or.inr (Or.inl ((by first | (simp only [F1.r, F2.r, F3.r]; exact rfl) | simp only [F1.r, F2.r, F3.r]))))) (fun h15 F4 => ?_)
    refine fe_it fe_no ?_
    refine fe_it ?_ fe_no
    refine fe_it fe_no ?_
    refine fe_it ?_ fe_no
    refine fe_I F4 (Or.inr (Or.inr (Or.inr (Or.inl ((by first | (simp only [F1.r, F2.r, F3.r, F4.r]; exact rfl) | simp only [F1.r, F2.r, F3.r, F4.r])))))) (fun h20 F5 => ?_)
    refine fe_it fe_no ?_
    refine fe_it ?_ fe_no
    refine fe_I F5 (Or.inl ((by first | (simp only [F1.r, F2.r, F3.r, F4.r, F5.r]; exact rfl) | simp only [F1.r, F2.r, F3.r, F4.r, F5.r]))) (fun h23 F6 => ?_)
    exact fe_j F6 (fe_mStreams_comes_b83 _ _ _ _ _) (fun x k hx => by simp only [wI_mStreams_comes_b83, F1.r, F2.r, F3.r, F4.r, F5.r, F6.r] at hx; have e := hx; exact Or.inr (Or.inr (Or.inr (Or.inr (e))))) (fun x k hx => by simp only [wJ_mStreams_comes_b83, F1.r, F2.r, F3.r, F4.r, F5.r, F6.r] at hx; have e := hx; exact e)
def wI_mStreams_makeReady_b15 (v0 : Nat) (v1 : Int) (v2 : Int) (h : Hp) (x k : Nat) : Prop := x = hR h v0 30
def wJ_mStreams_makeReady_b15 (v0 : Nat) (v1 : Int) (v2 : Int) (h : Hp) (x k : Nat) : Prop := False
def wI_mStreams_makeReady (v0 : Nat) (v1 : Int) (h : Hp) (x k : Nat) : Prop := x = hR h v0 30
def wJ_mStreams_makeReady (v0 : Nat) (v1 : Int) (h : Hp) (x k : Nat) : Prop := False
theorem fe_mStreams_makeReady_b15 {k15 : Nat → Int → Int → Hp → Option (Hp)} (hk15 : ∀ (v0 : Nat) (v1 : Int) (v2 : Int) (h : Hp), Feo (wI_mStreams_makeReady_b15 v0 v1 v2 h) (wJ_mStreams_makeReady_b15 v0 v1 v2 h) h id (k15 v0 v1 v2 h)) (v0 : Nat) (v1 : Int) (v2 : Int) (h : Hp) : Feo (wI_mStreams_makeReady_b15 v0 v1 v2 h) (wJ_mStreams_makeReady_b15 v0 v1 v2 h) h id (f_mStreams_makeReady_b15 k15 v0 v1 v2 h) := by
  unfold f_mStreams_makeReady_b15
  refine fe_it ?_ ?_
  · exact fe_so Fe.rf
  · refine fe_it fe_no ?_
    refine fe_it ?_ fe_no
    refine fe_it fe_no ?_
    refine fe_it ?_ fe_no
    refine fe_it ?_ ?_
    · exact fe_so Fe.rf
    · refine fe_it ?_ fe_no
      refine fe_it ?_ fe_no
      refine fe_I Fe.rf (rfl) (fun h12 F1 => ?_)
      refine fe_it fe_no ?_
      refine fe_it ?_ fe_no
      refine fe_it ?_ ?_
      · exact fe_j F1 (hk15 _ _ _ _) (fun x k hx => by simp only [wI_mStreams_makeReady_b15, F1.r] at hx; have e := hx; exact e) (fun x k hx => False.elim hx)
      · refine fe_it ?_ fe_no
        refine fe_b2 F1 (fe_mStreams_pieceAt _ _ _ _) (fun x k hx => False.elim hx) (fun x k hx => False.elim hx) (fun r18 h16 F2 => ?_)
        exact fe_j F2 (hk15 _ _ _ _) (fun x k hx => by simp only [wI_mStreams_makeReady_b15, F1.r, F2.r] at hx; have e := hx; exact e) (fun x k hx => False.elim hx)
theorem fe_mStreams_makeReady_b15_lp (n : Nat) : ∀ (v0 : Nat) (v1 : Int) (v2 : Int) (h : Hp), Feo (wI_mStreams_makeReady_b15 v0 v1 v2 h) (wJ_mStreams_makeReady_b15 v0 v1 v2 h) h id (f_mStreams_makeReady_b15_lp n v0 v1 v2 h) := by
  induction n with
  | zero => intro v0 v1 v2 h; exact fe_no
  | succ n ih => intro v0 v1 v2 h; exact fe_mStreams_makeReady_b15 ih v0 v1 v2 h
theorem fe_mStreams_makeReady (v0 : Nat) (v1 : Int) (h : Hp) : Feo (wI_mStreams_makeReady v0 v1 h) (wJ_mStreams_makeReady v0 v1 h) h id (f_mStreams_makeReady v0 v1 h) := by
  unfold f_mStreams_makeReady
  refine fe_it fe_no ?_
  refine fe_it ?_ fe_no
  refine fe_b2 Fe.rf (fe_mStreams_pieceAt _ _ _ _) (fun x k hx => False.elim hx) (fun x k hx => False.elim hx) (fun r5 h3 F1 => ?_)
  exact fe_j F1 (fe_mStreams_makeReady_b15_lp FU _ _ _ _) (fun x k hx => by simp only [wI_mStreams_makeReady_b15, F1.r] at hx; have e := hx; exact e) (fun x k hx => False.elim hx)
def wI_mStreams_takeStream_b177 (v0 : Nat) (v1 : Int) (v5 : Int) (v6 : Int) (h : Hp) (x k : Nat) : Prop := x = hR h v0 30 ∨ x = hR h v0 38 ∨ x = hR h v0 6 ∨ x = hR h v0 7
def wJ_mStreams_takeStream_b177 (v0 : Nat) (v1 : Int) (v5 : Int) (v6 : Int) (h : Hp) (x k : Nat) : Prop := False
def wI_mStreams_takeStream_b135 (v0 : Nat) (v1 : Int) (v2 : Nat) (v3 : Int) (v5 : Int) (v6 : Int) (v9 : Int) (v10 : Int) (h : Hp) (x k : Nat) : Prop := x = hR h v0 30 ∨ x = hR h v0 38 ∨ x = hR h v0 39 ∨ x = hR h v0 45 ∨ x = hR h v0 46 ∨ x = hR h v0 47 ∨ x = hR h v0 49 ∨ x = hR h v0 6 ∨ x = hR h v0 7
def wJ_mStreams_takeStream_b135 (v0 : Nat) (v1 : Int) (v2 : Nat) (v3 : Int) (v5 : Int) (v6 : Int) (v9 : Int) (v10 : Int) (h : Hp) (x k : Nat) : Prop := x = hR h v0 48
def wI_mStreams_takeStream_b132 (v0 : Nat) (v1 : Int) (v2 : Nat) (v3 : Int) (v5 : Int) (v6 : Int) (v9 : Int) (h : Hp) (x k : Nat) : Prop := x = hR h v0 30 ∨ x = hR h v0 38 ∨ x = hR h v0 39 ∨ x = hR h v0 45 ∨ x = hR h v0 46 ∨ x = hR h v0 47 ∨ x = hR h v0 49 ∨ x = hR h v0 6 ∨ x = hR h v0 7
def wJ_mStreams_takeStream_b132 (v0 : Nat) (v1 : Int) (v2 : Nat) (v3 : Int) (v5 : Int) (v6 : Int) (v9 : Int) (h : Hp) (x k : Nat) : Prop := x = hR h v0 48
def wI_mStreams_takeStream_b67 (v0 : Nat) (v1 : Int) (v2 : Nat) (v3 : Int) (v5 : Int) (v6 : Int) (v7 : Int) (s0 : Nat) (s1 : Int) (s2 : Int) (s3 : Int) (s4 : Int) (h : Hp) (x k : Nat) : Prop := x = hR h v0 12 ∨ x = hR h v0 30 ∨ x = hR h v0 38 ∨ x = hR h v0 39 ∨ x = hR h v0 45 ∨ x = hR h v0 46 ∨ x = hR h v0 47 ∨ x = hR h v0 49 ∨ x = hR h v0 5 ∨ x = hR h v0 6 ∨ x = hR h v0 7
def wJ_mStreams_takeStream_b67 (v0 : Nat) (v1 : Int) (v2 : Nat) (v3 : Int) (v5 : Int) (v6 : Int) (v7 : Int) (s0 : Nat) (s1 : Int) (s2 : Int) (s3 : Int) (s4 : Int) (h : Hp) (x k : Nat) : Prop := x = (hR h v0 13) ∨ x = hR h v0 27 ∨ x = hR h v0 28 ∨ x = hR h v0 33 ∨ x = hR h v0 48
def wI_mStreams_takeStream (v0 : Nat) (v1 : Int) (v2 : Nat) (v3 : Int) (h : Hp) (x k : Nat) : Prop := x = hR h v0 12 ∨ x = hR h v0 30 ∨ x = hR h v0 38 ∨ x = hR h v0 39 ∨ x = hR h v0 45 ∨ x = hR h v0 46 ∨ x = hR h v0 47 ∨ x = hR h v0 49 ∨ x = hR h v0 5 ∨ x = hR h v0 6 ∨ x = hR h v0 7
def wJ_mStreams_takeStream (v0 : Nat) (v1 : Int) (v2 : Nat) (v3 : Int) (h : Hp) (x k : Nat) : Prop := x = (hR h v0 13) ∨ x = hR h v0 27 ∨ x = hR h v0 28 ∨ x = hR h v0 33 ∨ x = hR h v0 48
theorem fe_mStreams_takeStream_b177 (v0 : Nat) (v1 : Int) (v5 : Int) (v6 : Int) (h : Hp) : Feo (wI_mStreams_takeStream_b177 v0 v1 v5 v6 h) (wJ_mStreams_takeStream_b177 v0 v1 v5 v6 h) h Prod.snd (f_mStreams_takeStream_b177 v0 v1 v5 v6 h) := by
  unfold f_mStreams_takeStream_b177
  refine fe_b1 Fe.rf (fe_mStreams_makeReady _ _ _) (fun x k hx => by simp only [wI_mStreams_makeReady] at hx; have e := hx; exact Or.inl (e)) (fun x k hx => False.elim hx) (fun h32 F1 => ?_)
  refine fe_b1 F1 (fe_mStreams_looksOver _ _ _ _) (fun x k hx => by simp only [wI_mStreams_looksOver, F1.r] at hx; rcases hx with e | e | e <;> first | exact Or.inr (Or.inl (e)) | exact Or.inr (Or.inr (Or.inl (e))) | exact Or.inr (Or.inr (Or.inr (e)))) (fun x k hx => False.elim hx) (fun h34 F2 => ?_)
  exact fe_so F2
theorem fe_mStreams_takeStream_b135 {k135 : Nat → Int → Nat → Int → Int → Int → Int → Int → Hp → Option (Int × Hp)} (hk135 : ∀ (v0 : Nat) (v1 : Int) (v2 : Nat) (v3 : Int) (v5 : Int) (v6 : Int) (v9 : Int) (v10 : Int) (h : Hp), Feo (wI_mStreams_takeStream_b135 v0 v1 v2 v3 v5 v6 v9 v10 h) (wJ_mStreams_takeStream_b135 v0 v1 v2 v3 v5 v6 v9 v10 h) h Prod.snd (k135 v0 v1 v2 v3 v5 v6 v9 v10 h)) (v0 : Nat) (v1 : Int) (v2 : Nat) (v3 : Int) (v5 : Int) (v6 : Int) (v9 : Int) (v10 : Int) (h : Hp) : Feo (wI_mStreams_takeStream_b135 v0 v1 v2 v3 v5 v6 v9 v10 h) (wJ_mStreams_takeStream_b135 v0 v1 v2 v3 v5 v6 v9 v10 h) h Prod.snd (f_mStreams_takeStream_b135 k135 v0 v1 v2 v3 v5 v6 v9 v10 h) := by
  unfold f_mStreams_takeStream_b135
  refine fe_it ?_ ?_
  · exact fe_j Fe.rf (fe_mStreams_takeStream_b177 _ _ _ _ _) (fun x k hx => by simp only [wI_mStreams_takeStream_b177] at hx; rcases hx with e | e | e | e <;> first | exact Or.inl (e) | exact Or.inr (Or.inl (e)) | exact Or.inr (Or.inr (Or.inr (Or.inr (Or.inr (Or.inr (Or.inr (Or.inl (e)))))))) | exact Or.inr (Or.inr (Or.inr (Or.inr (Or.inr (Or.inr (Or.inr (Or.inr (e))))))))) (fun x k hx => False.elim hx)
  · refine fe_it ?_ ?_
    · exact fe_j Fe.rf (fe_mStreams_takeStream_b177 _ _ _ _ _) (fun x k hx => by simp only [wI_mStreams_takeStream_b177] at hx; rcases hx with e | e | e | e <;> first | exact Or.inl (e) | exact Or.inr (Or.inl (e)) | exact Or.inr (Or.inr (Or.inr (Or.inr (Or.inr (Or.inr (Or.inr (Or.inl (e)))))))) | exact Or.inr (Or.inr (Or.inr (Or.inr (Or.inr (Or.inr (Or.inr (Or.inr (e))))))))) (fun x k hx => False.elim hx)
    · refine fe_it fe_no ?_
      refine fe_it ?_ fe_no
      refine fe_b1 Fe.rf (fe_mStreams_comes _ _ _ _ _ _) (fun x k hx => by simp only [wI_mStreams_comes] at hx; rcases hx with e | e | e | e | e <;> first | exact Or.inr (Or.inr (Or.inl (e))) | exact Or.inr (Or.inr (Or.inr (Or.inl (e)))) | exact Or.inr (Or.inr (Or.inr (Or.inr (Or.inl (e))))) | exact Or.inr (Or.inr (Or.inr (Or.inr (Or.inr (Or.inl (e)))))) | exact Or.inr (Or.inr (Or.inr (Or.inr (Or.inr (Or.inr (Or.inl (e)))))))) (fun x k hx => by simp only [wJ_mStreams_comes] at hx; have e := hx; exact e) (fun h30 F1 => ?_)
      exact fe_j F1 (hk135 _ _ _ _ _ _ _ _ _) (fun x k hx => by simp only [wI_mStreams_takeStream_b135, F1.r] at hx; rcases hx with e | e | e | e | e | e | e | e | e <;> first | exact Or.inl (e) | exact Or.inr (Or.inl (e)) | exact Or.inr (Or.inr (Or.inl (e))) | exact Or.inr (Or.inr (Or.inr (Or.inl (e)))) | exact Or.inr (Or.inr (Or.inr (Or.inr (Or.inl (e))))) | exact Or.inr (Or.inr (Or.inr (Or.inr (Or.inr (Or.inl (e)))))) | exact Or.inr (Or.inr (Or.inr (Or.inr (Or.inr (Or.inr (Or.inl (e))))))) | exact Or.inr (Or.inr (Or.inr (Or.inr (Or.inr (Or.inr (Or.inr (Or.inl (e)))))))) | exact Or.inr (Or.inr (Or.inr (Or.inr (Or.inr (Or.inr (Or.inr (Or.inr (e))))))))) (fun x k hx => by simp only [wJ_mStreams_takeStream_b135, F1.r] at hx; have e := hx; exact e)
theorem fe_mStreams_takeStream_b135_lp (n : Nat) : ∀ (v0 : Nat) (v1 : Int) (v2 : Nat) (v3 : Int) (v5 : Int) (v6 : Int) (v9 : Int) (v10 : Int) (h : Hp), Feo (wI_mStreams_takeStream_b135 v0 v1 v2 v3 v5 v6 v9 v10 h) (wJ_mStreams_takeStream_b135 v0 v1 v2 v3 v5 v6 v9 v10 h) h Prod.snd (f_mStreams_takeStream_b135_lp n v0 v1 v2 v3 v5 v6 v9 v10 h) := by
  induction n with
  | zero => intro v0 v1 v2 v3 v5 v6 v9 v10 h; exact fe_no
  | succ n ih => intro v0 v1 v2 v3 v5 v6 v9 v10 h; exact fe_mStreams_takeStream_b135 ih v0 v1 v2 v3 v5 v6 v9 v10 h
theorem fe_mStreams_takeStream_b132 (v0 : Nat) (v1 : Int) (v2 : Nat) (v3 : Int) (v5 : Int) (v6 : Int) (v9 : Int) (h : Hp) : Feo (wI_mStreams_takeStream_b132 v0 v1 v2 v3 v5 v6 v9 h) (wJ_mStreams_takeStream_b132 v0 v1 v2 v3 v5 v6 v9 h) h Prod.snd (f_mStreams_takeStream_b132 v0 v1 v2 v3 v5 v6 v9 h) := by
  unfold f_mStreams_takeStream_b132
  exact fe_j Fe.rf (fe_mStreams_takeStream_b135_lp FU _ _ _ _ _ _ _ _ _) (fun x k hx => by simp only [wI_mStreams_takeStream_b135] at hx; rcases hx with e | e | e | e | e | e | e | e | e <;> first | exact Or.inl (e) | exact Or.inr (Or.inl (e)) | exact Or.inr (Or.inr (Or.inl (e))) | exact Or.inr (Or.inr (Or.inr (Or.inl (e)))) | exact Or.inr (Or.inr (Or.inr (Or.inr (Or.inl (e))))) | exact Or.inr (Or.inr (Or.inr (Or.inr (Or.inr (Or.inl (e)))))) | exact Or.inr (Or.inr (Or.inr (Or.inr (Or.inr (Or.inr (Or.inl (e))))))) | exact Or.inr (Or.inr (Or.inr (Or.inr (Or.inr (Or.inr (Or.inr (Or.inl (e)))))))) | exact Or.inr (Or.inr (Or.inr (Or.inr (Or.inr (Or.inr (Or.inr (Or.inr (e))))))))) (fun x k hx => by simp only [wJ_mStreams_takeStream_b135] at hx; have e := hx; exact e)
theorem fe_mStreams_takeStream_b67 (v0 : Nat) (v1 : Int) (v2 : Nat) (v3 : Int) (v5 : Int) (v6 : Int) (v7 : Int) (s0 : Nat) (s1 : Int) (s2 : Int) (s3 : Int) (s4 : Int) (h : Hp) : Feo (wI_mStreams_takeStream_b67 v0 v1 v2 v3 v5 v6 v7 s0 s1 s2 s3 s4 h) (wJ_mStreams_takeStream_b67 v0 v1 v2 v3 v5 v6 v7 s0 s1 s2 s3 s4 h) h Prod.snd (f_mStreams_takeStream_b67 v0 v1 v2 v3 v5 v6 v7 s0 s1 s2 s3 s4 h) := by
  unfold f_mStreams_takeStream_b67
  refine fe_it fe_no ?_
  refine fe_b2 Fe.rf (fe_mStreams_reaches _ _ _ _ _ _) (fun x k hx => False.elim hx) (fun x k hx => False.elim hx) (fun r12 h10 F1 => ?_)
  refine fe_it ?_ ?_
  · refine fe_b1 F1 (fe_mStreams_comesThere _ _ _ _) (fun x k hx => by simp only [wI_mStreams_comesThere, F1.r] at hx; rcases hx with e | e <;> first | exact Or.inl (e) | exact Or.inr (Or.inr (Or.inr (Or.inr (Or.inr (Or.inr (Or.inr (Or.inr (Or.inl (e)))))))))) (fun x k hx => by simp only [wJ_mStreams_comesThere, F1.r] at hx; rcases hx with e | e <;> first | exact Or.inl (e) | exact Or.inr (Or.inr (Or.inr (Or.inl (e))))) (fun h13 F2 => ?_)
    refine fe_b2 F2 (fe_mStreams_receiving _ _ _) (fun x k hx => False.elim hx) (fun x k hx => False.elim hx) (fun r17 h15 F3 => ?_)
    refine fe_it fe_no ?_
    refine fe_it ?_ fe_no
    refine fe_b2 F3 (fe_mStreams_greater _ _ _) (fun x k hx => False.elim hx) (fun x k hx => False.elim hx) (fun r22 h20 F4 => ?_)
    refine fe_it ?_ fe_no
    refine fe_J F4 (Or.inr (Or.inl ((by first | (simp only [F1.r, F2.r, F3.r, F4.r]; exact rfl) | simp only [F1.r, F2.r, F3.r, F4.r])))) (fun h24 F5 => ?_)
    refine fe_it ?_ ?_
    · exact fe_j F5 (fe_mStreams_takeStream_b132 _ _ _ _ _ _ _ _) (fun x k hx => by simp only [wI_mStreams_takeStream_b132, F1.r, F2.r, F3.r, F4.r, F5.r] at hx; rcases hx with e | e | e | e | e | e | e | e | e <;> first | exact Or.inr (Or.inl (e)) | exact Or.inr (Or.inr (Or.inl (e))) | exact Or.inr (Or.inr (Or.inr (Or.inl (e)))) | exact Or.inr (Or.inr (Or.inr (Or.inr (Or.inl (e))))) | exact Or.inr (Or.inr (Or.inr (Or.inr (Or.inr (Or.inl (e)))))) | exact Or.inr (Or.inr (Or.inr (Or.inr (Or.inr (Or.inr (Or.inl (e))))))) | exact Or.inr (Or.inr (Or.inr (Or.inr (Or.inr (Or.inr (Or.inr (Or.inl (e)))))))) | exact Or.inr (Or.inr (Or.inr (Or.inr (Or.inr (Or.inr (Or.inr (Or.inr (Or.inr (Or.inl (e)))))))))) | exact Or.inr (Or.inr (Or.inr (Or.inr (Or.inr (Or.inr (Or.inr (Or.inr (Or.inr (Or.inr (e))))))))))) (fun x k hx => by simp only [wJ_mStreams_takeStream_b132, F1.r, F2.r, F3.r, F4.r, F5.r] at hx; have e := hx; exact Or.inr (Or.inr (Or.inr (Or.inr (e)))))
    · refine fe_it fe_no ?_
      refine fe_it ?_ fe_no
      refine fe_J F5 (Or.inr (Or.inr (Or.inl ((by first | (simp only [F1.r, F2.r, F3.r, F4.r, F5.r]; exact rfl) | simp only [F1.r, F2.r, F3.r, F4.r, F5.r]))))) (fun h27 F6 => ?_)
      exact fe_j F6 (fe_mStreams_takeStream_b132 _ _ _ _ _ _ _ _) (fun x k hx => by simp only [wI_mStreams_takeStream_b132, F1.r, F2.r, F3.r, F4.r, F5.r, F6.r] at hx; rcases hx with e | e | e | e | e | e | e | e | e <;> first | exact Or.inr (Or.inl (e)) | exact Or.inr (Or.inr (Or.inl (e))) | exact Or.inr (Or.inr (Or.inr (Or.inl (e)))) | exact Or.inr (Or.inr (Or.inr (Or.inr (Or.inl (e))))) | exact Or.inr (Or.inr (Or.inr (Or.inr (Or.inr (Or.inl (e)))))) | exact Or.inr (Or.inr (Or.inr (Or.inr (Or.inr (Or.inr (Or.inl (e))))))) | exact Or.inr (Or.inr (Or.inr (Or.inr (Or.inr (Or.inr (Or.inr (Or.inl (e)))))))) | exact Or.inr (Or.inr (Or.inr (Or.inr (Or.inr (Or.inr (Or.inr (Or.inr (Or.inr (Or.inl (e)))))))))) | exact Or.inr (Or.inr (Or.inr (Or.inr (Or.inr (Or.inr (Or.inr (Or.inr (Or.inr (Or.inr (e))))))))))) (fun x k hx => by simp only [wJ_mStreams_takeStream_b132, F1.r, F2.r, F3.r, F4.r, F5.r, F6.r] at hx; have e := hx; exact Or.inr (Or.inr (Or.inr (Or.inr (e)))))
  · exact fe_so F1
theorem fe_mStreams_takeStream (v0 : Nat) (v1 : Int) (v2 : Nat) (v3 : Int) (h : Hp) : Feo (wI_mStreams_takeStream v0 v1 v2 v3 h) (wJ_mStreams_takeStream v0 v1 v2 v3 h) h Prod.snd (f_mStreams_takeStream v0 v1 v2 v3 h) := by
  unfold f_mStreams_takeStream
  refine fe_b2 Fe.rf (fe_mStreams_meant _ _ _ _ _) (fun x k hx => False.elim hx) (fun x k hx => False.elim hx) (fun r3 h1 F1 => ?_)
  refine fe_it ?_ ?_
  · refine fe_v (fun y4 => ?_)
    refine fe_b2 F1 (fe_mStreams_at _ _ _) (fun x k hx => False.elim hx) (fun x k hx => False.elim hx) (fun r7 h5 F2 => ?_)
    refine fe_v (fun y8 => ?_)
    refine fe_it ?_ ?_
    · exact fe_j F2 (fe_mStreams_takeStream_b67 _ _ _ _ _ _ _ _ _ _ _ _ _) (fun x k hx => by simp only [wI_mStreams_takeStream_b67, F1.r, F2.r] at hx; rcases hx with e | e | e | e | e | e | e | e | e | e | e <;> first | exact Or.inl (e) | exact Or.inr (Or.inl (e)) | exact Or.inr (Or.inr (Or.inl (e))) | exact Or.inr (Or.inr (Or.inr (Or.inl (e)))) | exact Or.inr (Or.inr (Or.inr (Or.inr (Or.inl (e))))) | exact Or.inr (Or.inr (Or.inr (Or.inr (Or.inr (Or.inl (e)))))) | exact Or.inr (Or.inr (Or.inr (Or.inr (Or.inr (Or.inr (Or.inl (e))))))) | exact Or.inr (Or.inr (Or.inr (Or.inr (Or.inr (Or.inr (Or.inr (Or.inl (e)))))))) | exact Or.inr (Or.inr (Or.inr (Or.inr (Or.inr (Or.inr (Or.inr (Or.inr (Or.inl (e))))))))) | exact Or.inr (Or.inr (Or.inr (Or.inr (Or.inr (Or.inr (Or.inr (Or.inr (Or.inr (Or.inl (e)))))))))) | exact Or.inr (Or.inr (Or.inr (Or.inr (Or.inr (Or.inr (Or.inr (Or.inr (Or.inr (Or.inr (e))))))))))) (fun x k hx => by simp only [wJ_mStreams_takeStream_b67, F1.r, F2.r] at hx; rcases hx with e | e | e | e | e <;> first | exact Or.inl (e) | exact Or.inr (Or.inl (e)) | exact Or.inr (Or.inr (Or.inl (e))) | exact Or.inr (Or.inr (Or.inr (Or.inl (e)))) | exact Or.inr (Or.inr (Or.inr (Or.inr (e)))))
    · exact fe_j F2 (fe_mStreams_takeStream_b67 _ _ _ _ _ _ _ _ _ _ _ _ _) (fun x k hx => by simp only [wI_mStreams_takeStream_b67, F1.r, F2.r] at hx; rcases hx with e | e | e | e | e | e | e | e | e | e | e <;> first | exact Or.inl (e) | exact Or.inr (Or.inl (e)) | exact Or.inr (Or.inr (Or.inl (e))) | exact Or.inr (Or.inr (Or.inr (Or.inl (e)))) | exact Or.inr (Or.inr (Or.inr (Or.inr (Or.inl (e))))) | exact Or.inr (Or.inr (Or.inr (Or.inr (Or.inr (Or.inl (e)))))) | exact Or.inr (Or.inr (Or.inr (Or.inr (Or.inr (Or.inr (Or.inl (e))))))) | exact Or.inr (Or.inr (Or.inr (Or.inr (Or.inr (Or.inr (Or.inr (Or.inl (e)))))))) | exact Or.inr (Or.inr (Or.inr (Or.inr (Or.inr (Or.inr (Or.inr (Or.inr (Or.inl (e))))))))) | exact Or.inr (Or.inr (Or.inr (Or.inr (Or.inr (Or.inr (Or.inr (Or.inr (Or.inr (Or.inl (e)))))))))) | exact Or.inr (Or.inr (Or.inr (Or.inr (Or.inr (Or.inr (Or.inr (Or.inr (Or.inr (Or.inr (e))))))))))) (fun x k hx => by simp only [wJ_mStreams_takeStream_b67, F1.r, F2.r] at hx; rcases hx with e | e | e | e | e <;> first | exact Or.inl (e) | exact Or.inr (Or.inl (e)) | exact Or.inr (Or.inr (Or.inl (e))) | exact Or.inr (Or.inr (Or.inr (Or.inl (e)))) | exact Or.inr (Or.inr (Or.inr (Or.inr (e)))))
  · exact fe_so F1
def wI_mStreams_takeReset (v0 : Nat) (v1 : Int) (h : Hp) (x k : Nat) : Prop := x = hR h v0 10 ∨ x = hR h v0 12 ∨ x = hR h v0 31 ∨ x = hR h v0 38 ∨ x = hR h v0 5 ∨ x = hR h v0 6 ∨ x = hR h v0 7
def wJ_mStreams_takeReset (v0 : Nat) (v1 : Int) (h : Hp) (x k : Nat) : Prop := x = (hR h v0 13) ∨ x = hR h v0 27 ∨ x = hR h v0 28 ∨ x = hR h v0 32 ∨ x = hR h v0 33 ∨ x = hR h v0 9
theorem fe_mStreams_takeReset (v0 : Nat) (v1 : Int) (h : Hp) : Feo (wI_mStreams_takeReset v0 v1 h) (wJ_mStreams_takeReset v0 v1 h) h Prod.snd (f_mStreams_takeReset v0 v1 h) := by
  unfold f_mStreams_takeReset
  refine fe_b2 Fe.rf (fe_mStreams_meant _ _ _ _ _) (fun x k hx => False.elim hx) (fun x k hx => False.elim hx) (fun r3 h1 F1 => ?_)
  refine fe_it ?_ ?_
  · refine fe_v (fun y4 => ?_)
    refine fe_b2 F1 (fe_mStreams_at _ _ _) (fun x k hx => False.elim hx) (fun x k hx => False.elim hx) (fun r7 h5 F2 => ?_)
    refine fe_b2 F2 (fe_mStreams_reaches _ _ _ _ _ _) (fun x k hx => False.elim hx) (fun x k hx => False.elim hx) (fun r10 h8 F3 => ?_)
    refine fe_it ?_ ?_
    · refine fe_b1 F3 (fe_mStreams_comesThere _ _ _ _) (fun x k hx => by simp only [wI_mStreams_comesThere, F1.r, F2.r, F3.r] at hx; rcases hx with e | e <;> first | exact Or.inr (Or.inl (e)) | exact Or.inr (Or.inr (Or.inr (Or.inr (Or.inl (e)))))) (fun x k hx => by simp only [wJ_mStreams_comesThere, F1.r, F2.r, F3.r] at hx; rcases hx with e | e <;> first | exact Or.inl (e) | exact Or.inr (Or.inr (Or.inr (Or.inr (Or.inl (e)))))) (fun h11 F4 => ?_)
      refine fe_b2 F4 (fe_mStreams_receiving _ _ _) (fun x k hx => False.elim hx) (fun x k hx => False.elim hx) (fun r15 h13 F5 => ?_)
      refine fe_it fe_no ?_
      refine fe_it ?_ fe_no
      refine fe_J F5 (Or.inr (Or.inl ((by first | (simp only [F1.r, F2.r, F3.r, F4.r, F5.r]; exact rfl) | simp only [F1.r, F2.r, F3.r, F4.r, F5.r])))) (fun h18 F6 => ?_)
      refine fe_it fe_no ?_
      refine fe_it ?_ fe_no
      refine fe_J F6 (Or.inr (Or.inr (Or.inl ((by first | (simp only [F1.r, F2.r, F3.r, F4.r, F5.r, F6.r]; exact rfl) | simp only [F1.r, F2.r, F3.r, F4.r, F5.r, F6.r]))))) (fun h21 F7 => ?_)
      refine fe_it ?_ ?_
      · refine fe_it fe_no ?_
        refine fe_it ?_ fe_no
        refine fe_I F7 (Or.inr (Or.inr (Or.inl ((by first | (simp only [F1.r, F2.r, F3.r, F4.r, F5.r, F6.r, F7.r]; exact rfl) | simp only [F1.r, F2.r, F3.r, F4.r, F5.r, F6.r, F7.r]))))) (fun h24 F8 => ?_)
        refine fe_it fe_no ?_
        refine fe_it ?_ fe_no
        refine fe_J F8 (Or.inr (Or.inr (Or.inr (Or.inl ((by first | (simp only [F1.r, F2.r, F3.r, F4.r, F5.r, F6.r, F7.r, F8.r]; exact rfl) | simp only [F1.r, F2.r, F3.r, F4.r, F5.r, F6.r, F7.r, F8.r])))))) (fun h27 F9 => ?_)
        refine fe_b1 F9 (fe_mStreams_growData _ _ _) (fun x k hx => by simp only [wI_mStreams_growData, F1.r, F2.r, F3.r, F4.r, F5.r, F6.r, F7.r, F8.r, F9.r] at hx; have e := hx; exact Or.inl (e)) (fun x k hx => by simp only [wJ_mStreams_growData, F1.r, F2.r, F3.r, F4.r, F5.r, F6.r, F7.r, F8.r, F9.r] at hx; have e := hx; exact Or.inr (Or.inr (Or.inr (Or.inr (Or.inr (e)))))) (fun h28 F10 => ?_)
        refine fe_b1 F10 (fe_mStreams_looksOver _ _ _ _) (fun x k hx => by simp only [wI_mStreams_looksOver, F1.r, F2.r, F3.r, F4.r, F5.r, F6.r, F7.r, F8.r, F9.r, F10.r] at hx; rcases hx with e | e | e <;> first | exact Or.inr (Or.inr (Or.inr (Or.inl (e)))) | exact Or.inr (Or.inr (Or.inr (Or.inr (Or.inr (Or.inl (e)))))) | exact Or.inr (Or.inr (Or.inr (Or.inr (Or.inr (Or.inr (e))))))) (fun x k hx => False.elim hx) (fun h30 F11 => ?_)
        exact fe_so F11
      · exact fe_so F7
    · exact fe_so F3
  · exact fe_so F1
def wI_mStreams_takeOther_b73 (v0 : Nat) (v1 : Int) (v3 : Int) (h : Hp) (x k : Nat) : Prop := False
def wJ_mStreams_takeOther_b73 (v0 : Nat) (v1 : Int) (v3 : Int) (h : Hp) (x k : Nat) : Prop := x = hR h v0 13
def wI_mStreams_takeOther_b20 (v0 : Nat) (v1 : Int) (s0 : Nat) (s1 : Int) (s2 : Int) (s3 : Int) (h : Hp) (x k : Nat) : Prop := x = hR h v0 12 ∨ x = hR h v0 16 ∨ x = hR h v0 17 ∨ x = hR h v0 5
def wJ_mStreams_takeOther_b20 (v0 : Nat) (v1 : Int) (s0 : Nat) (s1 : Int) (s2 : Int) (s3 : Int) (h : Hp) (x k : Nat) : Prop := x = (hR h v0 13) ∨ x = hR h v0 13 ∨ x = hR h v0 18 ∨ x = hR h v0 33
def wI_mStreams_takeOther (v0 : Nat) (v1 : Int) (h : Hp) (x k : Nat) : Prop := x = hR h v0 12 ∨ x = hR h v0 16 ∨ x = hR h v0 17 ∨ x = hR h v0 5
def wJ_mStreams_takeOther (v0 : Nat) (v1 : Int) (h : Hp) (x k : Nat) : Prop := x = (hR h v0 13) ∨ x = hR h v0 13 ∨ x = hR h v0 18 ∨ x = hR h v0 33
theorem fe_mStreams_takeOther_b73 (v0 : Nat) (v1 : Int) (v3 : Int) (h : Hp) : Feo (wI_mStreams_takeOther_b73 v0 v1 v3 h) (wJ_mStreams_takeOther_b73 v0 v1 v3 h) h Prod.snd (f_mStreams_takeOther_b73 v0 v1 v3 h) := by
  unfold f_mStreams_takeOther_b73
  refine fe_it ?_ ?_
  · exact fe_so Fe.rf
  · refine fe_b2 Fe.rf (fe_mStreams_at _ _ _) (fun x k hx => False.elim hx) (fun x k hx => False.elim hx) (fun r18 h16 F1 => ?_)
    refine fe_b2 F1 (fe_mStreams_at _ _ _) (fun x k hx => False.elim hx) (fun x k hx => False.elim hx) (fun r21 h19 F2 => ?_)
    refine fe_it fe_no ?_
    refine fe_it ?_ fe_no
    refine fe_b2 F2 (fe_mStreams_greater _ _ _) (fun x k hx => False.elim hx) (fun x k hx => False.elim hx) (fun r26 h24 F3 => ?_)
    refine fe_it fe_no ?_
    refine fe_it ?_ fe_no
    refine fe_J F3 (rfl) (fun h29 F4 => ?_)
    exact fe_so F4
theorem fe_mStreams_takeOther_b20 (v0 : Nat) (v1 : Int) (s0 : Nat) (s1 : Int) (s2 : Int) (s3 : Int) (h : Hp) : Feo (wI_mStreams_takeOther_b20 v0 v1 s0 s1 s2 s3 h) (wJ_mStreams_takeOther_b20 v0 v1 s0 s1 s2 s3 h) h Prod.snd (f_mStreams_takeOther_b20 v0 v1 s0 s1 s2 s3 h) := by
  unfold f_mStreams_takeOther_b20
  refine fe_it fe_no ?_
  refine fe_b2 Fe.rf (fe_mStreams_meant _ _ _ _ _) (fun x k hx => False.elim hx) (fun x k hx => False.elim hx) (fun r4 h2 F1 => ?_)
  refine fe_it ?_ ?_
  · refine fe_v (fun y5 => ?_)
    refine fe_b1 F1 (fe_mStreams_comesThere _ _ _ _) (fun x k hx => by simp only [wI_mStreams_comesThere, F1.r] at hx; rcases hx with e | e <;> first | exact Or.inl (e) | exact Or.inr (Or.inr (Or.inr (e)))) (fun x k hx => by simp only [wJ_mStreams_comesThere, F1.r] at hx; rcases hx with e | e <;> first | exact Or.inl (e) | exact Or.inr (Or.inr (Or.inr (e)))) (fun h6 F2 => ?_)
    refine fe_it ?_ ?_
    · exact fe_j F2 (fe_mStreams_takeOther_b73 _ _ _ _) (fun x k hx => False.elim hx) (fun x k hx => by simp only [wJ_mStreams_takeOther_b73, F1.r, F2.r] at hx; have e := hx; exact Or.inr (Or.inl (e)))
    · refine fe_b2 F2 (fe_mStreams_at _ _ _) (fun x k hx => False.elim hx) (fun x k hx => False.elim hx) (fun r10 h8 F3 => ?_)
      refine fe_b2 F3 (fe_mStreams_sending _ _ _) (fun x k hx => False.elim hx) (fun x k hx => False.elim hx) (fun r13 h11 F4 => ?_)
      refine fe_it ?_ ?_
      · exact fe_j F4 (fe_mStreams_takeOther_b73 _ _ _ _) (fun x k hx => False.elim hx) (fun x k hx => by simp only [wJ_mStreams_takeOther_b73, F1.r, F2.r, F3.r, F4.r] at hx; have e := hx; exact Or.inr (Or.inl (e)))
      · refine fe_b1 F4 (fe_mStreams_doReset _ _ _ _ _) (fun x k hx => by simp only [wI_mStreams_doReset, F1.r, F2.r, F3.r, F4.r] at hx; rcases hx with e | e <;> first | exact Or.inr (Or.inl (e)) | exact Or.inr (Or.inr (Or.inl (e)))) (fun x k hx => by simp only [wJ_mStreams_doReset, F1.r, F2.r, F3.r, F4.r] at hx; have e := hx; exact Or.inr (Or.inr (Or.inl (e)))) (fun h14 F5 => ?_)
        exact fe_j F5 (fe_mStreams_takeOther_b73 _ _ _ _) (fun x k hx => False.elim hx) (fun x k hx => by simp only [wJ_mStreams_takeOther_b73, F1.r, F2.r, F3.r, F4.r, F5.r] at hx; have e := hx; exact Or.inr (Or.inl (e)))
  · exact fe_so F1
theorem fe_mStreams_takeOther (v0 : Nat) (v1 : Int) (h : Hp) : Feo (wI_mStreams_takeOther v0 v1 h) (wJ_mStreams_takeOther v0 v1 h) h Prod.snd (f_mStreams_takeOther v0 v1 h) := by
  unfold f_mStreams_takeOther
  refine fe_it ?_ ?_
  · exact fe_j Fe.rf (fe_mStreams_takeOther_b20 _ _ _ _ _ _ _) (fun x k hx => by simp only [wI_mStreams_takeOther_b20] at hx; rcases hx with e | e | e | e <;> first | exact Or.inl (e) | exact Or.inr (Or.inl (e)) | exact Or.inr (Or.inr (Or.inl (e))) | exact Or.inr (Or.inr (Or.inr (e)))) (fun x k hx => by simp only [wJ_mStreams_takeOther_b20] at hx; rcases hx with e | e | e | e <;> first | exact Or.inl (e) | exact Or.inr (Or.inl (e)) | exact Or.inr (Or.inr (Or.inl (e))) | exact Or.inr (Or.inr (Or.inr (e))))
  · exact fe_j Fe.rf (fe_mStreams_takeOther_b20 _ _ _ _ _ _ _) (fun x k hx => by simp only [wI_mStreams_takeOther_b20] at hx; rcases hx with e | e | e | e <;> first | exact Or.inl (e) | exact Or.inr (Or.inl (e)) | exact Or.inr (Or.inr (Or.inl (e))) | exact Or.inr (Or.inr (Or.inr (e)))) (fun x k hx => by simp only [wJ_mStreams_takeOther_b20] at hx; rcases hx with e | e | e | e <;> first | exact Or.inl (e) | exact Or.inr (Or.inl (e)) | exact Or.inr (Or.inr (Or.inl (e))) | exact Or.inr (Or.inr (Or.inr (e))))
