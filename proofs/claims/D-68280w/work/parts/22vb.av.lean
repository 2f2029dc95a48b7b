/-! frames (gen/av.py) -/
theorem av_cSpans_cut_b123 {C : Nat → Prop} {k9 : Nat → Int → Int → Int → Int → Int → Hp → Option (Int × Hp)} (hk9 : ∀ (v0 : Nat) (v2 : Int) (v3 : Int) (v4 : Int) (v5 : Int) (v6 : Int) (h : Hp), Cl C h → C v0 → Ao (qI C h) (k9 v0 v2 v3 v4 v5 v6 h)) {v0 : Nat} {v2 : Int} {v3 : Int} {v4 : Int} {v5 : Int} {v7 : Int} {h : Hp} (c : Cl C h) (Cv0 : C v0) : Ao (qI C h) (f_cSpans_cut_b123 k9 v0 v2 v3 v4 v5 v7 h) := by
  unfold f_cSpans_cut_b123
  have F0 := Av.rf c
  exact ao_jI F0 (hk9 _ _ _ _ _ _ _ (F0.cl) Cv0)
theorem av_cSpans_cut_b119 {C : Nat → Prop} {k9 : Nat → Int → Int → Int → Int → Int → Hp → Option (Int × Hp)} (hk9 : ∀ (v0 : Nat) (v2 : Int) (v3 : Int) (v4 : Int) (v5 : Int) (v6 : Int) (h : Hp), Cl C h → C v0 → Ao (qI C h) (k9 v0 v2 v3 v4 v5 v6 h)) {v0 : Nat} {v2 : Int} {v3 : Int} {v4 : Int} {v6 : Int} {v7 : Int} {h : Hp} (c : Cl C h) (Cv0 : C v0) : Ao (qI C h) (f_cSpans_cut_b119 k9 v0 v2 v3 v4 v6 v7 h) := by
  unfold f_cSpans_cut_b119
  have F0 := Av.rf c
  exact ao_jI F0 (av_cSpans_cut_b123 hk9 (F0.cl) Cv0)
theorem av_cSpans_cut_b62 {C : Nat → Prop} {k9 : Nat → Int → Int → Int → Int → Int → Hp → Option (Int × Hp)} (hk9 : ∀ (v0 : Nat) (v2 : Int) (v3 : Int) (v4 : Int) (v5 : Int) (v6 : Int) (h : Hp), Cl C h → C v0 → Ao (qI C h) (k9 v0 v2 v3 v4 v5 v6 h)) {v0 : Nat} {v2 : Int} {v3 : Int} {v4 : Int} {v5 : Int} {v6 : Int} {v7 : Int} {s0 : Int} {h : Hp} (c : Cl C h) (Cv0 : C v0) : Ao (qI C h) (f_cSpans_cut_b62 k9 v0 v2 v3 v4 v5 v6 v7 s0 h) := by
  unfold f_cSpans_cut_b62
  have F0 := Av.rf c
  refine ao_it ?_ ?_
  · refine ao_it ao_no ?_
    refine ao_it ?_ ao_no
    refine ao_it ?_ ?_
    · exact ao_jI F0 (av_cSpans_cut_b119 hk9 (F0.cl) Cv0)
    · refine ao_b1 F0 (av_cSpans_trim (F0.cl) Cv0) (fun h11 F1 => ?_)
      exact ao_jI F1 (av_cSpans_cut_b119 hk9 (F1.cl) Cv0)
  · refine ao_b1 F0 (av_cSpans_release (F0.cl) Cv0) (fun h13 F2 => ?_)
    refine ao_it ?_ ?_
    · refine ao_it ao_no ?_
      refine ao_it ?_ ao_no
      refine ao_I F2 (F2.cl.r Cv0) (fun h17 F3 => ?_)
      exact ao_jI F3 (av_cSpans_cut_b123 hk9 (F3.cl) Cv0)
    · exact ao_jI F2 (av_cSpans_cut_b123 hk9 (F2.cl) Cv0)
theorem av_cSpans_cut_b61 {C : Nat → Prop} {k9 : Nat → Int → Int → Int → Int → Int → Hp → Option (Int × Hp)} (hk9 : ∀ (v0 : Nat) (v2 : Int) (v3 : Int) (v4 : Int) (v5 : Int) (v6 : Int) (h : Hp), Cl C h → C v0 → Ao (qI C h) (k9 v0 v2 v3 v4 v5 v6 h)) {v0 : Nat} {v2 : Int} {v3 : Int} {v4 : Int} {v5 : Int} {v6 : Int} {v7 : Int} {h : Hp} (c : Cl C h) (Cv0 : C v0) : Ao (qI C h) (f_cSpans_cut_b61 k9 v0 v2 v3 v4 v5 v6 v7 h) := by
  unfold f_cSpans_cut_b61
  have F0 := Av.rf c
  exact ao_jI F0 (av_cSpans_cut_b62 hk9 (F0.cl) Cv0)
theorem av_cSpans_cut_b9 {C : Nat → Prop} {k9 : Nat → Int → Int → Int → Int → Int → Hp → Option (Int × Hp)} (hk9 : ∀ (v0 : Nat) (v2 : Int) (v3 : Int) (v4 : Int) (v5 : Int) (v6 : Int) (h : Hp), Cl C h → C v0 → Ao (qI C h) (k9 v0 v2 v3 v4 v5 v6 h)) {v0 : Nat} {v2 : Int} {v3 : Int} {v4 : Int} {v5 : Int} {v6 : Int} {h : Hp} (c : Cl C h) (Cv0 : C v0) : Ao (qI C h) (f_cSpans_cut_b9 k9 v0 v2 v3 v4 v5 v6 h) := by
  unfold f_cSpans_cut_b9
  have F0 := Av.rf c
  refine ao_it ?_ ?_
  · exact ao_so F0
  · refine ao_it ao_no ?_
    refine ao_it ?_ ao_no
    refine ao_it ?_ ?_
    · exact ao_so F0
    · refine ao_it ao_no ?_
      refine ao_it ?_ ao_no
      refine ao_v (fun y5 => ?_)
      refine ao_it ?_ ao_no
      refine ao_it ?_ ?_
      · exact ao_jI F0 (av_cSpans_cut_b61 hk9 (F0.cl) Cv0)
      · refine ao_it ao_no ?_
        refine ao_it ?_ ao_no
        refine ao_it ?_ ?_
        · exact ao_jI F0 (av_cSpans_cut_b61 hk9 (F0.cl) Cv0)
        · exact ao_jI F0 (av_cSpans_cut_b62 hk9 (F0.cl) Cv0)
theorem av_cSpans_cut_b9_lp {C : Nat → Prop} (n : Nat) : ∀ {v0 : Nat} {v2 : Int} {v3 : Int} {v4 : Int} {v5 : Int} {v6 : Int} {h : Hp}, Cl C h → C v0 → Ao (qI C h) (f_cSpans_cut_b9_lp n v0 v2 v3 v4 v5 v6 h) := by
  induction n with
  | zero => intros; exact ao_no
  | succ n ih => intro v0 v2 v3 v4 v5 v6 h c Cv0; exact av_cSpans_cut_b9 (fun _ _ _ _ _ _ h => ih) c Cv0
theorem av_cSpans_cut {C : Nat → Prop} {v0 : Nat} {v1 : Int} {v2 : Int} {v3 : Int} {h : Hp} (c : Cl C h) (Cv0 : C v0) : Ao (qI C h) (f_cSpans_cut v0 v1 v2 v3 h) := by
  unfold f_cSpans_cut
  have F0 := Av.rf c
  exact ao_jI F0 (av_cSpans_cut_b9_lp FU (F0.cl) Cv0)
theorem av_cSpans_count_b4 {C : Nat → Prop} {k4 : Nat → Int → Int → Hp → Option (Int × Hp)} (hk4 : ∀ (v0 : Nat) (v2 : Int) (v3 : Int) (h : Hp), Cl C h → Ao (qI C h) (k4 v0 v2 v3 h)) {v0 : Nat} {v2 : Int} {v3 : Int} {h : Hp} (c : Cl C h) : Ao (qI C h) (f_cSpans_count_b4 k4 v0 v2 v3 h) := by
  unfold f_cSpans_count_b4
  have F0 := Av.rf c
  refine ao_it ?_ ?_
  · exact ao_so F0
  · refine ao_it ao_no ?_
    refine ao_it ?_ ao_no
    refine ao_it ao_no ?_
    refine ao_it ?_ ao_no
    refine ao_v (fun y5 => ?_)
    refine ao_it ao_no ?_
    refine ao_it ?_ ao_no
    refine ao_v (fun y8 => ?_)
    exact ao_jI F0 (hk4 _ _ _ _ (F0.cl))
theorem av_cSpans_count_b4_lp {C : Nat → Prop} (n : Nat) : ∀ {v0 : Nat} {v2 : Int} {v3 : Int} {h : Hp}, Cl C h → Ao (qI C h) (f_cSpans_count_b4_lp n v0 v2 v3 h) := by
  induction n with
  | zero => intros; exact ao_no
  | succ n ih => intro v0 v2 v3 h c; exact av_cSpans_count_b4 (fun _ _ _ h => ih) c
theorem av_cSpans_count {C : Nat → Prop} {v0 : Nat} {v1 : Int} {h : Hp} (c : Cl C h) : Ao (qI C h) (f_cSpans_count v0 v1 h) := by
  unfold f_cSpans_count
  have F0 := Av.rf c
  exact ao_jI F0 (av_cSpans_count_b4_lp FU (F0.cl))
theorem av_cHall_isGone_b186 {C : Nat → Prop} {v0 : Nat} {v1 : Nat} {v4 : Int} {h : Hp} (c : Cl C h) (Cv1 : C v1) : Ao (qV C h) (f_cHall_isGone_b186 v0 v1 v4 h) := by
  unfold f_cHall_isGone_b186
  have F0 := Av.rf c
  refine ao_it ?_ ?_
  · exact ao_so F0
  · refine ao_it ao_no ?_
    refine ao_it ?_ ?_
    · exact ao_so F0
    · refine ao_I F0 Cv1 (fun h43 F1 => ?_)
      exact ao_so F1
theorem av_cHall_isGone_b126 {C : Nat → Prop} {k126 : Nat → Nat → Int → Int → Int → Hp → Option (Hp)} (hk126 : ∀ (v0 : Nat) (v1 : Nat) (v3 : Int) (v4 : Int) (v6 : Int) (h : Hp), Cl C h → C v0 → C v1 → Ao (qV C h) (k126 v0 v1 v3 v4 v6 h)) {v0 : Nat} {v1 : Nat} {v3 : Int} {v4 : Int} {v6 : Int} {h : Hp} (c : Cl C h) (Cv0 : C v0) (Cv1 : C v1) : Ao (qV C h) (f_cHall_isGone_b126 k126 v0 v1 v3 v4 v6 h) := by
  unfold f_cHall_isGone_b126
  have F0 := Av.rf c
  refine ao_it ?_ ?_
  · exact ao_jV F0 (av_cHall_isGone_b186 (F0.cl) Cv1)
  · refine ao_it ?_ ?_
    · exact ao_jV F0 (av_cHall_isGone_b186 (F0.cl) Cv1)
    · refine ao_it ao_no ?_
      refine ao_it ao_no ?_
      refine ao_it ao_no ?_
      refine ao_it ?_ ao_no
      refine ao_it ao_no ?_
      refine ao_it ?_ ao_no
      refine ao_b2 F0 (av_cSpans_cut (F0.cl) (F0.cl.r Cv0)) (fun r36 h34 F1 => ?_)
      refine ao_I F1 Cv1 (fun h37 F2 => ?_)
      refine ao_it ao_no ?_
      refine ao_it ao_no ?_
      refine ao_it ?_ ao_no
      refine ao_v (fun y41 => ?_)
      exact ao_jV F2 (hk126 _ _ _ _ _ _ (F2.cl) Cv0 Cv1)
theorem av_cHall_isGone_b126_lp {C : Nat → Prop} (n : Nat) : ∀ {v0 : Nat} {v1 : Nat} {v3 : Int} {v4 : Int} {v6 : Int} {h : Hp}, Cl C h → C v0 → C v1 → Ao (qV C h) (f_cHall_isGone_b126_lp n v0 v1 v3 v4 v6 h) := by
  induction n with
  | zero => intros; exact ao_no
  | succ n ih => intro v0 v1 v3 v4 v6 h c Cv0 Cv1; exact av_cHall_isGone_b126 (fun _ _ _ _ _ h => ih) c Cv0 Cv1
theorem av_cHall_isGone_b120 {C : Nat → Prop} {v0 : Nat} {v1 : Nat} {v3 : Int} {v4 : Int} {h : Hp} (c : Cl C h) (Cv0 : C v0) (Cv1 : C v1) : Ao (qV C h) (f_cHall_isGone_b120 v0 v1 v3 v4 h) := by
  unfold f_cHall_isGone_b120
  have F0 := Av.rf c
  refine ao_it ao_no ?_
  refine ao_v (fun y27 => ?_)
  exact ao_jV F0 (av_cHall_isGone_b126_lp FU (F0.cl) Cv0 Cv1)
theorem av_cHall_isGone_b57 {C : Nat → Prop} {v0 : Nat} {v1 : Nat} {h : Hp} (c : Cl C h) (Cv1 : C v1) : Ao (qV C h) (f_cHall_isGone_b57 v0 v1 h) := by
  unfold f_cHall_isGone_b57
  have F0 := Av.rf c
  refine ao_it ao_no ?_
  refine ao_it ?_ ?_
  · exact ao_so F0
  · refine ao_it ?_ ?_
    · exact ao_so F0
    · refine ao_it ao_no ?_
      refine ao_b2 F0 (av_cSpans_count (F0.cl)) (fun r24 h22 F1 => ?_)
      refine ao_it ?_ ?_
      · exact ao_so F1
      · refine ao_I F1 Cv1 (fun h25 F2 => ?_)
        exact ao_so F2
theorem av_cHall_isGone_b47 {C : Nat → Prop} {v0 : Nat} {v1 : Nat} {v4 : Int} {h : Hp} (c : Cl C h) (Cv1 : C v1) : Ao (qV C h) (f_cHall_isGone_b47 v0 v1 v4 h) := by
  unfold f_cHall_isGone_b47
  have F0 := Av.rf c
  refine ao_it ?_ ?_
  · exact ao_jV F0 (av_cHall_isGone_b57 (F0.cl) Cv1)
  · refine ao_it ao_no ?_
    refine ao_I F0 Cv1 (fun h19 F1 => ?_)
    exact ao_jV F1 (av_cHall_isGone_b57 (F1.cl) Cv1)
theorem av_cHall_isGone {C : Nat → Prop} {v0 : Nat} {v1 : Nat} {v2 : Int} {v3 : Int} {v4 : Int} {v5 : Int} {h : Hp} (c : Cl C h) (Cv0 : C v0) (Cv1 : C v1) : Ao (qV C h) (f_cHall_isGone v0 v1 v2 v3 v4 v5 h) := by
  unfold f_cHall_isGone
  have F0 := Av.rf c
  refine ao_it ?_ ?_
  · refine ao_it ?_ ?_
    · exact ao_jV F0 (av_cHall_isGone_b120 (F0.cl) Cv0 Cv1)
    · refine ao_it ao_no ?_
      refine ao_it ao_no ?_
      refine ao_b2 F0 (av_cSpans_add (F0.cl) (F0.cl.r Cv0)) (fun r5 h3 F1 => ?_)
      refine ao_I F1 Cv1 (fun h6 F2 => ?_)
      exact ao_jV F2 (av_cHall_isGone_b120 (F2.cl) Cv0 Cv1)
  · refine ao_it ?_ ?_
    · exact ao_jV F0 (av_cHall_isGone_b47 (F0.cl) Cv1)
    · refine ao_it ao_no ?_
      refine ao_it ao_no ?_
      refine ao_b2 F0 (av_cSpans_add (F0.cl) (F0.cl.r Cv0)) (fun r11 h9 F3 => ?_)
      refine ao_I F3 Cv1 (fun h12 F4 => ?_)
      refine ao_it ao_no ?_
      refine ao_b2 F4 (av_cSpans_cut (F4.cl) (F4.cl.r Cv0)) (fun r16 h14 F5 => ?_)
      refine ao_I F5 Cv1 (fun h17 F6 => ?_)
      exact ao_jV F6 (av_cHall_isGone_b47 (F6.cl) Cv1)
theorem av_cHall_isLost_b222 {C : Nat → Prop} {v0 : Nat} {s0 : Nat} {s1 : Int} {h : Hp} (c : Cl C h) (Cs0 : C s0) : Ao (qV C h) (f_cHall_isLost_b222 v0 s0 s1 h) := by
  unfold f_cHall_isLost_b222
  have F0 := Av.rf c
  refine ao_it ao_no ?_
  refine ao_J F0 Cs0 (fun h28 F1 => ?_)
  exact ao_so F1
theorem av_cHall_isLost_b178 {C : Nat → Prop} {v0 : Nat} {v1 : Int} {v3 : Int} {h : Hp} (c : Cl C h) (Cv0 : C v0) : Ao (qV C h) (f_cHall_isLost_b178 v0 v1 v3 h) := by
  unfold f_cHall_isLost_b178
  have F0 := Av.rf c
  refine ao_it ao_no ?_
  refine ao_it ?_ ao_no
  refine ao_it ?_ ao_no
  refine ao_it ao_no ?_
  refine ao_it ?_ ?_
  · refine ao_it ?_ ao_no
    exact ao_jV F0 (av_cHall_isLost_b222 (F0.cl) (F0.cl.r (F0.cl.r Cv0)))
  · exact ao_jV F0 (av_cHall_isLost_b222 (F0.cl) (F0.cl.r (F0.cl.r Cv0)))
theorem av_cHall_isLost_b166 {C : Nat → Prop} {v0 : Nat} {v1 : Int} {v3 : Int} {h : Hp} (c : Cl C h) (Cv0 : C v0) : Ao (qV C h) (f_cHall_isLost_b166 v0 v1 v3 h) := by
  unfold f_cHall_isLost_b166
  have F0 := Av.rf c
  refine ao_it ?_ ?_
  · exact ao_jV F0 (av_cHall_isLost_b178 (F0.cl) Cv0)
  · refine ao_it ?_ ?_
    · exact ao_so F0
    · exact ao_jV F0 (av_cHall_isLost_b178 (F0.cl) Cv0)
theorem av_cHall_isLost_b133 {C : Nat → Prop} {v0 : Nat} {v1 : Int} {v2 : Int} {v3 : Int} {v5 : Int} {h : Hp} (c : Cl C h) (Cv0 : C v0) : Ao (qV C h) (f_cHall_isLost_b133 v0 v1 v2 v3 v5 h) := by
  unfold f_cHall_isLost_b133
  have F0 := Av.rf c
  refine ao_it ?_ ?_
  · exact ao_jV F0 (av_cHall_isLost_b166 (F0.cl) Cv0)
  · refine ao_it ao_no ?_
    refine ao_it ?_ ao_no
    refine ao_it ao_no ?_
    refine ao_it ?_ ?_
    · exact ao_jV F0 (av_cHall_isLost_b166 (F0.cl) Cv0)
    · refine ao_it ?_ ao_no
      refine ao_J F0 (F0.cl.r (F0.cl.r Cv0)) (fun h21 F1 => ?_)
      exact ao_jV F1 (av_cHall_isLost_b166 (F1.cl) Cv0)
theorem av_cHall_isLost_b111 {C : Nat → Prop} {v0 : Nat} {v1 : Int} {v2 : Int} {v3 : Int} {v5 : Int} {h : Hp} (c : Cl C h) (Cv0 : C v0) : Ao (qV C h) (f_cHall_isLost_b111 v0 v1 v2 v3 v5 h) := by
  unfold f_cHall_isLost_b111
  have F0 := Av.rf c
  refine ao_it ?_ ?_
  · exact ao_jV F0 (av_cHall_isLost_b133 (F0.cl) Cv0)
  · refine ao_it ?_ ?_
    · exact ao_jV F0 (av_cHall_isLost_b133 (F0.cl) Cv0)
    · refine ao_J F0 Cv0 (fun h16 F1 => ?_)
      exact ao_jV F1 (av_cHall_isLost_b133 (F1.cl) Cv0)
theorem av_cHall_isLost_b80 {C : Nat → Prop} {v0 : Nat} {v1 : Int} {v2 : Int} {v3 : Int} {v5 : Int} {h : Hp} (c : Cl C h) (Cv0 : C v0) : Ao (qV C h) (f_cHall_isLost_b80 v0 v1 v2 v3 v5 h) := by
  unfold f_cHall_isLost_b80
  have F0 := Av.rf c
  refine ao_it ao_no ?_
  refine ao_it ?_ ao_no
  refine ao_it ao_no ?_
  refine ao_it ?_ ?_
  · exact ao_jV F0 (av_cHall_isLost_b111 (F0.cl) Cv0)
  · refine ao_it ?_ ao_no
    refine ao_I F0 (F0.cl.r (F0.cl.r Cv0)) (fun h15 F1 => ?_)
    exact ao_jV F1 (av_cHall_isLost_b111 (F1.cl) Cv0)
theorem av_cHall_isLost_b68 {C : Nat → Prop} {v0 : Nat} {v1 : Int} {v2 : Int} {v3 : Int} {v5 : Int} {h : Hp} (c : Cl C h) (Cv0 : C v0) : Ao (qV C h) (f_cHall_isLost_b68 v0 v1 v2 v3 v5 h) := by
  unfold f_cHall_isLost_b68
  have F0 := Av.rf c
  refine ao_it ?_ ?_
  · exact ao_jV F0 (av_cHall_isLost_b80 (F0.cl) Cv0)
  · refine ao_it ?_ ?_
    · exact ao_jV F0 (av_cHall_isLost_b111 (F0.cl) Cv0)
    · exact ao_jV F0 (av_cHall_isLost_b80 (F0.cl) Cv0)
theorem av_cHall_isLost_b36 {C : Nat → Prop} {v0 : Nat} {v1 : Int} {v2 : Int} {v3 : Int} {v5 : Int} {h : Hp} (c : Cl C h) (Cv0 : C v0) : Ao (qV C h) (f_cHall_isLost_b36 v0 v1 v2 v3 v5 h) := by
  unfold f_cHall_isLost_b36
  have F0 := Av.rf c
  refine ao_it ?_ ?_
  · exact ao_jV F0 (av_cHall_isLost_b68 (F0.cl) Cv0)
  · refine ao_it ao_no ?_
    refine ao_it ?_ ao_no
    refine ao_it ao_no ?_
    refine ao_it ?_ ?_
    · exact ao_jV F0 (av_cHall_isLost_b68 (F0.cl) Cv0)
    · refine ao_it ?_ ao_no
      refine ao_I F0 (F0.cl.r (F0.cl.r Cv0)) (fun h10 F1 => ?_)
      exact ao_jV F1 (av_cHall_isLost_b68 (F1.cl) Cv0)
theorem av_cHall_isLost_b15 {C : Nat → Prop} {v0 : Nat} {v1 : Int} {v2 : Int} {v3 : Int} {v5 : Int} {h : Hp} (c : Cl C h) (Cv0 : C v0) : Ao (qV C h) (f_cHall_isLost_b15 v0 v1 v2 v3 v5 h) := by
  unfold f_cHall_isLost_b15
  have F0 := Av.rf c
  refine ao_it ?_ ?_
  · exact ao_jV F0 (av_cHall_isLost_b36 (F0.cl) Cv0)
  · refine ao_it ?_ ?_
    · exact ao_jV F0 (av_cHall_isLost_b36 (F0.cl) Cv0)
    · refine ao_I F0 Cv0 (fun h5 F1 => ?_)
      exact ao_jV F1 (av_cHall_isLost_b36 (F1.cl) Cv0)
theorem av_cHall_isLost {C : Nat → Prop} {v0 : Nat} {v1 : Int} {v2 : Int} {v3 : Int} {v5 : Int} {h : Hp} (c : Cl C h) (Cv0 : C v0) : Ao (qV C h) (f_cHall_isLost v0 v1 v2 v3 v5 h) := by
  unfold f_cHall_isLost
  have F0 := Av.rf c
  refine ao_it ?_ ?_
  · exact ao_jV F0 (av_cHall_isLost_b15 (F0.cl) Cv0)
  · refine ao_it ao_no ?_
    refine ao_it ?_ ao_no
    refine ao_it ao_no ?_
    refine ao_I F0 (F0.cl.r (F0.cl.r Cv0)) (fun h4 F1 => ?_)
    exact ao_jV F1 (av_cHall_isLost_b15 (F1.cl) Cv0)
theorem av_cHall_gone_b114 {C : Nat → Prop} {v0 : Nat} {v10 : Int} {v11 : Int} {h : Hp} (c : Cl C h) (Cv0 : C v0) : Ao (qV C h) (f_cHall_gone_b114 v0 v10 v11 h) := by
  unfold f_cHall_gone_b114
  have F0 := Av.rf c
  refine ao_b1 F0 (av_cHall_mayBeOver (F0.cl) Cv0) (fun h24 F1 => ?_)
  exact ao_so F1
theorem av_cHall_gone_b55 {C : Nat → Prop} {v0 : Nat} {v9 : Int} {v10 : Int} {v11 : Int} {s0 : Nat} {s1 : Nat} {s2 : Int} {s3 : Int} {s4 : Int} {h : Hp} (c : Cl C h) (Cv0 : C v0) (Cs0 : C s0) (Cs1 : C s1) : Ao (qV C h) (f_cHall_gone_b55 v0 v9 v10 v11 s0 s1 s2 s3 s4 h) := by
  unfold f_cHall_gone_b55
  have F0 := Av.rf c
  refine ao_it ao_no ?_
  refine ao_b1 F0 (av_cHall_isGone (F0.cl) Cs0 Cs1) (fun h20 F1 => ?_)
  refine ao_b1 F1 (av_cHall_mayBeOver (F1.cl) Cv0) (fun h22 F2 => ?_)
  exact ao_so F2
theorem av_cHall_gone_b14 {C : Nat → Prop} {v0 : Nat} {v1 : Int} {v2 : Int} {v4 : Int} {v6 : Int} {v7 : Int} {v9 : Int} {s0 : Int} {h : Hp} (c : Cl C h) (Cv0 : C v0) : Ao (qV C h) (f_cHall_gone_b14 v0 v1 v2 v4 v6 v7 v9 s0 h) := by
  unfold f_cHall_gone_b14
  have F0 := Av.rf c
  refine ao_it ?_ ?_
  · refine ao_it ?_ ?_
    · refine ao_it ?_ ?_
      · exact ao_so F0
      · refine ao_b1 F0 (av_cHall_isLost (F0.cl) Cv0) (fun h1 F1 => ?_)
        exact ao_so F1
    · refine ao_b2 F0 (av_cHall_isOver (F0.cl)) (fun r5 h3 F2 => ?_)
      refine ao_it ?_ ?_
      · refine ao_it ao_no ?_
        refine ao_it ?_ ao_no
        refine ao_it ao_no ?_
        refine ao_I F2 (F2.cl.r (F2.cl.r Cv0)) (fun h9 F3 => ?_)
        exact ao_jV F3 (av_cHall_gone_b114 (F3.cl) Cv0)
      · refine ao_it ao_no ?_
        refine ao_it ?_ ao_no
        refine ao_it ao_no ?_
        refine ao_I F2 (F2.cl.r (F2.cl.r Cv0)) (fun h13 F4 => ?_)
        exact ao_jV F4 (av_cHall_gone_b114 (F4.cl) Cv0)
  · refine ao_b2 F0 (av_cHall_isOver (F0.cl)) (fun r16 h14 F5 => ?_)
    refine ao_it ao_no ?_
    refine ao_it ?_ ao_no
    refine ao_it ?_ ?_
    · exact ao_jV F5 (av_cHall_gone_b55 (F5.cl) Cv0 Cv0 (F5.cl.r (F5.cl.r Cv0)))
    · exact ao_jV F5 (av_cHall_gone_b55 (F5.cl) Cv0 Cv0 (F5.cl.r (F5.cl.r Cv0)))
theorem av_cHall_gone {C : Nat → Prop} {v0 : Nat} {v1 : Int} {v2 : Int} {v4 : Int} {v6 : Int} {v7 : Int} {v9 : Int} {h : Hp} (c : Cl C h) (Cv0 : C v0) : Ao (qV C h) (f_cHall_gone v0 v1 v2 v4 v6 v7 v9 h) := by
  unfold f_cHall_gone
  have F0 := Av.rf c
  refine ao_it ?_ ?_
  · exact ao_jV F0 (av_cHall_gone_b14 (F0.cl) Cv0)
  · exact ao_jV F0 (av_cHall_gone_b14 (F0.cl) Cv0)
theorem av_cSide_gone_b194 {C : Nat → Prop} {k17 : Nat → Int → Int → Int → Nat → Int → Hp → Option (Hp)} (hk17 : ∀ (v0 : Nat) (v1 : Int) (v2 : Int) (v3 : Int) (v4 : Nat) (v5 : Int) (h : Hp), Cl C h → C v0 → Ao (qV C h) (k17 v0 v1 v2 v3 v4 v5 h)) {v0 : Nat} {v1 : Int} {v2 : Int} {v3 : Int} {v4 : Nat} {v5 : Int} {h : Hp} (c : Cl C h) (Cv0 : C v0) : Ao (qV C h) (f_cSide_gone_b194 k17 v0 v1 v2 v3 v4 v5 h) := by
  unfold f_cSide_gone_b194
  have F0 := Av.rf c
  exact ao_jV F0 (hk17 _ _ _ _ _ _ _ (F0.cl) Cv0)
theorem av_cSide_gone_b127 {C : Nat → Prop} {k17 : Nat → Int → Int → Int → Nat → Int → Hp → Option (Hp)} (hk17 : ∀ (v0 : Nat) (v1 : Int) (v2 : Int) (v3 : Int) (v4 : Nat) (v5 : Int) (h : Hp), Cl C h → C v0 → Ao (qV C h) (k17 v0 v1 v2 v3 v4 v5 h)) {v0 : Nat} {v1 : Int} {v2 : Int} {v3 : Int} {v4 : Nat} {v5 : Int} {s0 : Nat} {s1 : Int} {h : Hp} (c : Cl C h) (Cv0 : C v0) (Cs0 : C s0) : Ao (qV C h) (f_cSide_gone_b127 k17 v0 v1 v2 v3 v4 v5 s0 s1 h) := by
  unfold f_cSide_gone_b127
  have F0 := Av.rf c
  refine ao_it ao_no ?_
  refine ao_it ao_no ?_
  refine ao_I F0 Cs0 (fun h41 F1 => ?_)
  exact ao_jV F1 (av_cSide_gone_b194 hk17 (F1.cl) Cv0)
theorem av_cSide_gone_b122 {C : Nat → Prop} {k17 : Nat → Int → Int → Int → Nat → Int → Hp → Option (Hp)} (hk17 : ∀ (v0 : Nat) (v1 : Int) (v2 : Int) (v3 : Int) (v4 : Nat) (v5 : Int) (h : Hp), Cl C h → C v0 → Ao (qV C h) (k17 v0 v1 v2 v3 v4 v5 h)) {v0 : Nat} {v1 : Int} {v2 : Int} {v3 : Int} {v4 : Nat} {v5 : Int} {s0 : Nat} {h : Hp} (c : Cl C h) (Cv0 : C v0) (Cs0 : C s0) : Ao (qV C h) (f_cSide_gone_b122 k17 v0 v1 v2 v3 v4 v5 s0 h) := by
  unfold f_cSide_gone_b122
  have F0 := Av.rf c
  exact ao_jV F0 (av_cSide_gone_b127 hk17 (F0.cl) Cv0 Cs0)
theorem av_cSide_gone_b126 {C : Nat → Prop} {k17 : Nat → Int → Int → Int → Nat → Int → Hp → Option (Hp)} (hk17 : ∀ (v0 : Nat) (v1 : Int) (v2 : Int) (v3 : Int) (v4 : Nat) (v5 : Int) (h : Hp), Cl C h → C v0 → Ao (qV C h) (k17 v0 v1 v2 v3 v4 v5 h)) {v0 : Nat} {v1 : Int} {v2 : Int} {v3 : Int} {v4 : Nat} {v5 : Int} {s0 : Nat} {h : Hp} (c : Cl C h) (Cv0 : C v0) (Cs0 : C s0) : Ao (qV C h) (f_cSide_gone_b126 k17 v0 v1 v2 v3 v4 v5 s0 h) := by
  unfold f_cSide_gone_b126
  have F0 := Av.rf c
  exact ao_jV F0 (av_cSide_gone_b127 hk17 (F0.cl) Cv0 Cs0)
theorem av_cSide_gone_b100 {C : Nat → Prop} {k17 : Nat → Int → Int → Int → Nat → Int → Hp → Option (Hp)} (hk17 : ∀ (v0 : Nat) (v1 : Int) (v2 : Int) (v3 : Int) (v4 : Nat) (v5 : Int) (h : Hp), Cl C h → C v0 → Ao (qV C h) (k17 v0 v1 v2 v3 v4 v5 h)) {v0 : Nat} {v1 : Int} {v2 : Int} {v3 : Int} {v4 : Nat} {v5 : Int} {s0 : Nat} {s1 : Int} {h : Hp} (c : Cl C h) (Cv0 : C v0) (Cs0 : C s0) : Ao (qV C h) (f_cSide_gone_b100 k17 v0 v1 v2 v3 v4 v5 s0 s1 h) := by
  unfold f_cSide_gone_b100
  have F0 := Av.rf c
  refine ao_it ao_no ?_
  refine ao_it ao_no ?_
  refine ao_I F0 Cs0 (fun h38 F1 => ?_)
  refine ao_it ?_ ?_
  · exact ao_jV F1 (av_cSide_gone_b126 hk17 (F1.cl) Cv0 Cv0)
  · refine ao_it ?_ ?_
    · exact ao_jV F1 (av_cSide_gone_b122 hk17 (F1.cl) Cv0 Cv0)
    · refine ao_it ?_ ?_
      · exact ao_jV F1 (av_cSide_gone_b126 hk17 (F1.cl) Cv0 Cv0)
      · exact ao_jV F1 (av_cSide_gone_b122 hk17 (F1.cl) Cv0 Cv0)
theorem av_cSide_gone_b95 {C : Nat → Prop} {k17 : Nat → Int → Int → Int → Nat → Int → Hp → Option (Hp)} (hk17 : ∀ (v0 : Nat) (v1 : Int) (v2 : Int) (v3 : Int) (v4 : Nat) (v5 : Int) (h : Hp), Cl C h → C v0 → Ao (qV C h) (k17 v0 v1 v2 v3 v4 v5 h)) {v0 : Nat} {v1 : Int} {v2 : Int} {v3 : Int} {v4 : Nat} {v5 : Int} {s0 : Nat} {h : Hp} (c : Cl C h) (Cv0 : C v0) (Cs0 : C s0) : Ao (qV C h) (f_cSide_gone_b95 k17 v0 v1 v2 v3 v4 v5 s0 h) := by
  unfold f_cSide_gone_b95
  have F0 := Av.rf c
  exact ao_jV F0 (av_cSide_gone_b100 hk17 (F0.cl) Cv0 Cs0)
theorem av_cSide_gone_b17 {C : Nat → Prop} {k17 : Nat → Int → Int → Int → Nat → Int → Hp → Option (Hp)} (hk17 : ∀ (v0 : Nat) (v1 : Int) (v2 : Int) (v3 : Int) (v4 : Nat) (v5 : Int) (h : Hp), Cl C h → C v0 → Ao (qV C h) (k17 v0 v1 v2 v3 v4 v5 h)) {v0 : Nat} {v1 : Int} {v2 : Int} {v3 : Int} {v4 : Nat} {v5 : Int} {h : Hp} (c : Cl C h) (Cv0 : C v0) : Ao (qV C h) (f_cSide_gone_b17 k17 v0 v1 v2 v3 v4 v5 h) := by
  unfold f_cSide_gone_b17
  have F0 := Av.rf c
  refine ao_it ao_no ?_
  refine ao_b2 F0 (av_cCargo_end (F0.cl)) (fun r11 h9 F1 => ?_)
  refine ao_it ?_ ?_
  · exact ao_so F1
  · refine ao_it ao_no ?_
    refine ao_it ?_ ao_no
    refine ao_it ?_ ?_
    · refine ao_it ?_ ao_no
      refine ao_it ?_ ?_
      · refine ao_it ?_ ao_no
        refine ao_it ?_ ?_
        · exact ao_jV F1 (av_cSide_gone_b194 hk17 (F1.cl) Cv0)
        · refine ao_it ?_ ao_no
          refine ao_it ao_no ?_
          refine ao_it ?_ ao_no
          refine ao_it ao_no ?_
          refine ao_it ?_ ao_no
          refine ao_it ao_no ?_
          refine ao_it ?_ ao_no
          refine ao_it ao_no ?_
          refine ao_it ?_ ao_no
          refine ao_it ao_no ?_
          refine ao_b1 F1 (av_cHall_gone (F1.cl) (F1.cl.r Cv0)) (fun h26 F2 => ?_)
          exact ao_jV F2 (av_cSide_gone_b194 hk17 (F2.cl) Cv0)
      · refine ao_it ?_ ?_
        · exact ao_jV F1 (av_cSide_gone_b95 hk17 (F1.cl) Cv0 Cv0)
        · refine ao_it ?_ ?_
          · exact ao_jV F1 (av_cSide_gone_b100 hk17 (F1.cl) Cv0 Cv0)
          · exact ao_jV F1 (av_cSide_gone_b95 hk17 (F1.cl) Cv0 Cv0)
    · refine ao_it ao_no ?_
      refine ao_it ?_ ao_no
      refine ao_it ao_no ?_
      refine ao_it ?_ ao_no
      refine ao_it ao_no ?_
      refine ao_it ?_ ao_no
      refine ao_it ao_no ?_
      refine ao_b1 F1 (av_cCrypto_gone (F1.cl) (F1.cl.r (F1.cl.r Cv0))) (fun h35 F3 => ?_)
      exact ao_jV F3 (av_cSide_gone_b194 hk17 (F3.cl) Cv0)
theorem av_cSide_gone_b17_lp {C : Nat → Prop} (n : Nat) : ∀ {v0 : Nat} {v1 : Int} {v2 : Int} {v3 : Int} {v4 : Nat} {v5 : Int} {h : Hp}, Cl C h → C v0 → Ao (qV C h) (f_cSide_gone_b17_lp n v0 v1 v2 v3 v4 v5 h) := by
  induction n with
  | zero => intros; exact ao_no
  | succ n ih => intro v0 v1 v2 v3 v4 v5 h c Cv0; exact av_cSide_gone_b17 (fun _ _ _ _ _ _ h => ih) c Cv0
theorem av_cSide_gone {C : Nat → Prop} {v0 : Nat} {v1 : Int} {v2 : Int} {v3 : Int} {h : Hp} (c : Cl C h) (Cv0 : C v0) : Ao (qV C h) (f_cSide_gone v0 v1 v2 v3 h) := by
  unfold f_cSide_gone
  have F0 := Av.rf c
  refine ao_it ao_no ?_
  refine ao_it ?_ ao_no
  refine ao_m (F0.cl.r (F0.cl.r Cv0)) (fun y3 Cy3 => ?_)
  refine ao_it ao_no ?_
  refine ao_it ao_no ?_
  refine ao_it ?_ ao_no
  refine ao_v (fun y7 => ?_)
  exact ao_jV F0 (av_cSide_gone_b17_lp FU (F0.cl) Cv0)
theorem av_cSide_settle_b48 {C : Nat → Prop} {k48 : Nat → Int → Nat → Int → Hp → Option (Hp)} (hk48 : ∀ (v0 : Nat) (v1 : Int) (v2 : Nat) (v3 : Int) (h : Hp), Cl C h → C v0 → C v2 → Ao (qV C h) (k48 v0 v1 v2 v3 h)) {v0 : Nat} {v1 : Int} {v2 : Nat} {v3 : Int} {h : Hp} (c : Cl C h) (Cv0 : C v0) (Cv2 : C v2) : Ao (qV C h) (f_cSide_settle_b48 k48 v0 v1 v2 v3 h) := by
  unfold f_cSide_settle_b48
  have F0 := Av.rf c
  refine ao_it ?_ ?_
  · exact ao_so F0
  · refine ao_b1 F0 (av_cSide_gone (F0.cl) Cv0) (fun h22 F1 => ?_)
    refine ao_it ao_no ?_
    refine ao_it ao_no ?_
    refine ao_b2 F1 (av_cQueue_next (F1.cl) (F1.cl.r Cv2)) (fun r28 h26 F2 => ?_)
    exact ao_jV F2 (hk48 _ _ _ _ _ (F2.cl) Cv0 Cv2)
theorem av_cSide_settle_b48_lp {C : Nat → Prop} (n : Nat) : ∀ {v0 : Nat} {v1 : Int} {v2 : Nat} {v3 : Int} {h : Hp}, Cl C h → C v0 → C v2 → Ao (qV C h) (f_cSide_settle_b48_lp n v0 v1 v2 v3 h) := by
  induction n with
  | zero => intros; exact ao_no
  | succ n ih => intro v0 v1 v2 v3 h c Cv0 Cv2; exact av_cSide_settle_b48 (fun _ _ _ _ h => ih) c Cv0 Cv2
theorem av_cSide_settle_b18 {C : Nat → Prop} {k18 : Nat → Int → Nat → Int → Hp → Option (Hp)} (hk18 : ∀ (v0 : Nat) (v1 : Int) (v2 : Nat) (v3 : Int) (h : Hp), Cl C h → C v0 → C v2 → Ao (qV C h) (k18 v0 v1 v2 v3 h)) {v0 : Nat} {v1 : Int} {v2 : Nat} {v3 : Int} {h : Hp} (c : Cl C h) (Cv0 : C v0) (Cv2 : C v2) : Ao (qV C h) (f_cSide_settle_b18 k18 v0 v1 v2 v3 h) := by
  unfold f_cSide_settle_b18
  have F0 := Av.rf c
  refine ao_it ?_ ?_
  · refine ao_it ao_no ?_
    refine ao_it ao_no ?_
    refine ao_b2 F0 (av_cQueue_next (F0.cl) (F0.cl.r Cv2)) (fun r14 h12 F1 => ?_)
    exact ao_jV F1 (av_cSide_settle_b48_lp FU (F1.cl) Cv0 Cv2)
  · refine ao_b1 F0 (av_cSide_gone (F0.cl) Cv0) (fun h15 F2 => ?_)
    refine ao_it ao_no ?_
    refine ao_it ao_no ?_
    refine ao_b2 F2 (av_cQueue_next (F2.cl) (F2.cl.r Cv2)) (fun r21 h19 F3 => ?_)
    exact ao_jV F3 (hk18 _ _ _ _ _ (F3.cl) Cv0 Cv2)
theorem av_cSide_settle_b18_lp {C : Nat → Prop} (n : Nat) : ∀ {v0 : Nat} {v1 : Int} {v2 : Nat} {v3 : Int} {h : Hp}, Cl C h → C v0 → C v2 → Ao (qV C h) (f_cSide_settle_b18_lp n v0 v1 v2 v3 h) := by
  induction n with
  | zero => intros; exact ao_no
  | succ n ih => intro v0 v1 v2 v3 h c Cv0 Cv2; exact av_cSide_settle_b18 (fun _ _ _ _ h => ih) c Cv0 Cv2
theorem av_cSide_settle {C : Nat → Prop} {v0 : Nat} {v1 : Int} {h : Hp} (c : Cl C h) (Cv0 : C v0) : Ao (qV C h) (f_cSide_settle v0 v1 h) := by
  unfold f_cSide_settle
  have F0 := Av.rf c
  refine ao_it ao_no ?_
  refine ao_it ao_no ?_
  refine ao_it ?_ ao_no
  refine ao_m (F0.cl.r (F0.cl.r (F0.cl.r Cv0))) (fun y4 Cy4 => ?_)
  refine ao_it ao_no ?_
  refine ao_it ao_no ?_
  refine ao_b2 F0 (av_cQueue_next (F0.cl) (F0.cl.r Cy4)) (fun r9 h7 F2 => ?_)
  exact ao_jV F2 (av_cSide_settle_b18_lp FU (F2.cl) Cv0 Cy4)
theorem av_cSide_acknowledged_b114 {C : Nat → Prop} {v0 : Nat} {v1 : Int} {v3 : Int} {h : Hp} (c : Cl C h) (Cv0 : C v0) : Ao (qI C h) (f_cSide_acknowledged_b114 v0 v1 v3 h) := by
  unfold f_cSide_acknowledged_b114
  have F0 := Av.rf c
  refine ao_it ao_no ?_
  refine ao_I F0 (F0.cl.r Cv0) (fun h29 F1 => ?_)
  refine ao_b1 F1 (av_cSide_settle (F1.cl) Cv0) (fun h30 F2 => ?_)
  refine ao_it ?_ ?_
  · exact ao_so F2
  · exact ao_so F2
theorem av_cSide_acknowledged {C : Nat → Prop} {v0 : Nat} {v1 : Int} {h : Hp} (c : Cl C h) (Cv0 : C v0) : Ao (qI C h) (f_cSide_acknowledged v0 v1 h) := by
  unfold f_cSide_acknowledged
  have F0 := Av.rf c
  refine ao_it ao_no ?_
  refine ao_v (fun y2 => ?_)
  refine ao_it ao_no ?_
  refine ao_it ao_no ?_
  refine ao_it ?_ ao_no
  refine ao_it ao_no ?_
  refine ao_it ?_ ?_
  · refine ao_it ao_no ?_
    refine ao_it ao_no ?_
    refine ao_it ?_ ao_no
    refine ao_cJ F0 (F0.cl.r (F0.cl.r Cv0)) (fun h10 F2 => ?_)
    refine ao_it ao_no ?_
    refine ao_it ao_no ?_
    refine ao_it ao_no ?_
    refine ao_it ao_no ?_
    refine ao_it ?_ ao_no
    refine ao_cJ F2 (F2.cl.r (F2.cl.r Cv0)) (fun h16 F3 => ?_)
    refine ao_it ao_no ?_
    refine ao_I F3 (F3.cl.r Cv0) (fun h18 F4 => ?_)
    refine ao_it ao_no ?_
    refine ao_b2 F4 (av_cBook_isSent (F4.cl)) (fun r22 h20 F5 => ?_)
    refine ao_it ?_ ?_
    · exact ao_jI F5 (av_cSide_acknowledged_b114 (F5.cl) Cv0)
    · refine ao_it ao_no ?_
      refine ao_it ao_no ?_
      refine ao_b2 F5 (av_cBook_acknowledge (F5.cl) (F5.cl.r Cv0)) (fun r27 h25 F6 => ?_)
      exact ao_jI F6 (av_cSide_acknowledged_b114 (F6.cl) Cv0)
  · exact ao_so F0
theorem av_cCrypto_take_b21 {C : Nat → Prop} {k21 : Nat → Nat → Int → Hp → Option (Int × Hp)} (hk21 : ∀ (v0 : Nat) (v1 : Nat) (v2 : Int) (h : Hp), Cl C h → C v0 → Ao (qI C h) (k21 v0 v1 v2 h)) {v0 : Nat} {v1 : Nat} {v2 : Int} {h : Hp} (c : Cl C h) (Cv0 : C v0) : Ao (qI C h) (f_cCrypto_take_b21 k21 v0 v1 v2 h) := by
  unfold f_cCrypto_take_b21
  have F0 := Av.rf c
  refine ao_it ao_no ?_
  refine ao_it ?_ ?_
  · exact ao_so F0
  · refine ao_it ao_no ?_
    refine ao_it ?_ ao_no
    refine ao_it ao_no ?_
    refine ao_it ?_ ao_no
    refine ao_I F0 (F0.cl.r Cv0) (fun h7 F1 => ?_)
    refine ao_it ao_no ?_
    refine ao_it ?_ ao_no
    refine ao_I F1 (F1.cl.r Cv0) (fun h10 F2 => ?_)
    exact ao_jI F2 (hk21 _ _ _ _ (F2.cl) Cv0)
theorem av_cCrypto_take_b21_lp {C : Nat → Prop} (n : Nat) : ∀ {v0 : Nat} {v1 : Nat} {v2 : Int} {h : Hp}, Cl C h → C v0 → Ao (qI C h) (f_cCrypto_take_b21_lp n v0 v1 v2 h) := by
  induction n with
  | zero => intros; exact ao_no
  | succ n ih => intro v0 v1 v2 h c Cv0; exact av_cCrypto_take_b21 (fun _ _ _ h => ih) c Cv0
theorem av_cCrypto_take {C : Nat → Prop} {v0 : Nat} {v1 : Nat} {h : Hp} (c : Cl C h) (Cv0 : C v0) : Ao (qI C h) (f_cCrypto_take v0 v1 h) := by
  unfold f_cCrypto_take
  have F0 := Av.rf c
  refine ao_it ao_no ?_
  refine ao_it ?_ ?_
  · exact ao_jI F0 (av_cCrypto_take_b21_lp FU (F0.cl) Cv0)
  · exact ao_so F0
theorem av_cCrypto_more_b27 {C : Nat → Prop} {v0 : Nat} {v1 : Int} {h : Hp} (c : Cl C h) : Ao (qI C h) (f_cCrypto_more_b27 v0 v1 h) := by
  unfold f_cCrypto_more_b27
  have F0 := Av.rf c
  exact ao_so F0
theorem av_cCrypto_more_b5 {C : Nat → Prop} {k5 : Nat → Int → Hp → Option (Int × Hp)} (hk5 : ∀ (v0 : Nat) (v1 : Int) (h : Hp), Cl C h → Ao (qI C h) (k5 v0 v1 h)) {v0 : Nat} {v1 : Int} {h : Hp} (c : Cl C h) : Ao (qI C h) (f_cCrypto_more_b5 k5 v0 v1 h) := by
  unfold f_cCrypto_more_b5
  have F0 := Av.rf c
  refine ao_it ?_ ?_
  · exact ao_jI F0 (av_cCrypto_more_b27 (F0.cl))
  · refine ao_it ao_no ?_
    refine ao_it ?_ ao_no
    refine ao_it ?_ ?_
    · exact ao_jI F0 (av_cCrypto_more_b27 (F0.cl))
    · exact ao_jI F0 (hk5 _ _ _ (F0.cl))
theorem av_cCrypto_more_b5_lp {C : Nat → Prop} (n : Nat) : ∀ {v0 : Nat} {v1 : Int} {h : Hp}, Cl C h → Ao (qI C h) (f_cCrypto_more_b5_lp n v0 v1 h) := by
  induction n with
  | zero => intros; exact ao_no
  | succ n ih => intro v0 v1 h c; exact av_cCrypto_more_b5 (fun _ _ h => ih) c
theorem av_cCrypto_more {C : Nat → Prop} {v0 : Nat} {h : Hp} (c : Cl C h) : Ao (qI C h) (f_cCrypto_more v0 h) := by
  unfold f_cCrypto_more
  have F0 := Av.rf c
  refine ao_v (fun y1 => ?_)
  exact ao_jI F0 (av_cCrypto_more_b5_lp FU (F0.cl))
theorem av_cGreeting_levelOf {C : Nat → Prop} {v0 : Int} {h : Hp} (c : Cl C h) : Ao (qI C h) (f_cGreeting_levelOf v0 h) := by
  unfold f_cGreeting_levelOf
  have F0 := Av.rf c
  refine ao_it ?_ ?_
  · exact ao_so F0
  · exact ao_so F0
theorem av_cRow_clear {C : Nat → Prop} {v0 : Nat} {h : Hp} (c : Cl C h) (Cv0 : C v0) : Ao (qV C h) (f_cRow_clear v0 h) := by
  unfold f_cRow_clear
  have F0 := Av.rf c
  refine ao_I F0 Cv0 (fun h1 F1 => ?_)
  exact ao_so F1
theorem av_cGreeting_fails {C : Nat → Prop} {v0 : Nat} {v1 : Int} {h : Hp} (c : Cl C h) (Cv0 : C v0) : Ao (qI C h) (f_cGreeting_fails v0 v1 h) := by
  unfold f_cGreeting_fails
  have F0 := Av.rf c
  refine ao_I F0 Cv0 (fun h1 F1 => ?_)
  refine ao_I F1 Cv0 (fun h2 F2 => ?_)
  refine ao_it ao_no ?_
  refine ao_it ?_ ao_no
  refine ao_it ao_no ?_
  refine ao_b1 F2 (av_cRow_clear (F2.cl) (F2.cl.r (F2.cl.r Cv0))) (fun h6 F3 => ?_)
  refine ao_it ao_no ?_
  refine ao_it ?_ ao_no
  refine ao_it ao_no ?_
  refine ao_b1 F3 (av_cRow_clear (F3.cl) (F3.cl.r (F3.cl.r Cv0))) (fun h11 F4 => ?_)
  exact ao_so F4
theorem av_cGreeting_fits {C : Nat → Prop} {v0 : Int} {v1 : Int} {h : Hp} (c : Cl C h) : Ao (qI C h) (f_cGreeting_fits v0 v1 h) := by
  unfold f_cGreeting_fits
  have F0 := Av.rf c
  refine ao_it ?_ ?_
  · refine ao_it ?_ ?_
    · refine ao_it ?_ ?_
      · exact ao_so F0
      · exact ao_so F0
    · refine ao_it ?_ ?_
      · exact ao_so F0
      · exact ao_so F0
  · refine ao_it ?_ ?_
    · exact ao_so F0
    · refine ao_it ?_ ?_
      · exact ao_so F0
      · exact ao_so F0
theorem av_cGreeting_keep {C : Nat → Prop} {v0 : Nat} {v1 : Nat} {v2 : Int} {v3 : Int} {h : Hp} (c : Cl C h) (Cv0 : C v0) : Ao (qV C h) (f_cGreeting_keep v0 v1 v2 v3 h) := by
  unfold f_cGreeting_keep
  have F0 := Av.rf c
  refine ao_it ao_no ?_
  refine ao_it ao_no ?_
  refine ao_it ao_no ?_
  refine ao_it ?_ ao_no
  refine ao_cI F0 (F0.cl.r Cv0) (fun h5 F1 => ?_)
  refine ao_I F1 Cv0 (fun h6 F2 => ?_)
  exact ao_so F2
theorem av_cGreeting_digest {C : Nat → Prop} {v0 : Nat} {h : Hp} (c : Cl C h) (Cv0 : C v0) : Ao (qV C h) (f_cGreeting_digest v0 h) := by
  unfold f_cGreeting_digest
  have F0 := Av.rf c
  refine ao_it ao_no ?_
  refine ao_b1 F0 (av_cHash_begin (F0.cl) (F0.cl.r Cv0)) (fun h2 F1 => ?_)
  refine ao_it ao_no ?_
  refine ao_it ao_no ?_
  refine ao_b1 F1 (av_cHash_add (F1.cl) (F1.cl.r Cv0)) (fun h6 F2 => ?_)
  refine ao_it ao_no ?_
  refine ao_b1 F2 (av_cHash_end (F2.cl) (F2.cl.r Cv0) (F2.cl.r Cv0)) (fun h9 F3 => ?_)
  exact ao_so F3
theorem av_cGreeting_greetSecrets {C : Nat → Prop} {v0 : Nat} {h : Hp} (c : Cl C h) (Cv0 : C v0) : Ao (qV C h) (f_cGreeting_greetSecrets v0 h) := by
  unfold f_cGreeting_greetSecrets
  have F0 := Av.rf c
  refine ao_b1 F0 (av_cGreeting_digest (F0.cl) Cv0) (fun h1 F1 => ?_)
  refine ao_b1 F1 (av_cGreeting_mac (F1.cl) Cv0 (F1.cl.r Cv0)) (fun h3 F2 => ?_)
  refine ao_b1 F2 (av_cGreeting_secrets (F2.cl) Cv0) (fun h5 F3 => ?_)
  exact ao_so F3
theorem av_cGreeting_prove {C : Nat → Prop} {v0 : Nat} {v1 : Int} {h : Hp} (c : Cl C h) (Cv0 : C v0) : Ao (qV C h) (f_cGreeting_prove v0 v1 h) := by
  unfold f_cGreeting_prove
  have F0 := Av.rf c
  refine ao_b1 F0 (av_cGreeting_digest (F0.cl) Cv0) (fun h1 F1 => ?_)
  refine ao_it ao_no ?_
  refine ao_it ?_ ao_no
  refine ao_it ao_no ?_
  refine ao_b1 F1 (av_cStretch_label (F1.cl) (F1.cl.r Cv0) (F1.cl.r Cv0)) (fun h6 F2 => ?_)
  refine ao_b1 F2 (av_cGreeting_mac (F2.cl) Cv0 (F2.cl.r Cv0)) (fun h8 F3 => ?_)
  exact ao_so F3
theorem av_cGreeting_talkSecrets {C : Nat → Prop} {v0 : Nat} {h : Hp} (c : Cl C h) (Cv0 : C v0) : Ao (qV C h) (f_cGreeting_talkSecrets v0 h) := by
  unfold f_cGreeting_talkSecrets
  have F0 := Av.rf c
  refine ao_b1 F0 (av_cGreeting_digest (F0.cl) Cv0) (fun h1 F1 => ?_)
  refine ao_b1 F1 (av_cGreeting_mac (F1.cl) Cv0 (F1.cl.r Cv0)) (fun h3 F2 => ?_)
  refine ao_b1 F2 (av_cGreeting_secrets (F2.cl) Cv0) (fun h5 F3 => ?_)
  exact ao_so F3
theorem av_cGreeting_hello {C : Nat → Prop} {v0 : Nat} {v1 : Nat} {v2 : Int} {h : Hp} (c : Cl C h) (Cv0 : C v0) : Ao (qV C h) (f_cGreeting_hello v0 v1 v2 h) := by
  unfold f_cGreeting_hello
  have F0 := Av.rf c
  refine ao_it ao_no ?_
  refine ao_it ao_no ?_
  refine ao_b1 F0 (av_cRow_add (F0.cl) (F0.cl.r Cv0)) (fun h3 F1 => ?_)
  refine ao_b1 F1 (av_cGreeting_keep (F1.cl) Cv0) (fun h5 F2 => ?_)
  refine ao_b1 F2 (av_cGreeting_sends (F2.cl) Cv0) (fun h7 F3 => ?_)
  refine ao_b1 F3 (av_cGreeting_greetSecrets (F3.cl) Cv0) (fun h9 F4 => ?_)
  refine ao_b1 F4 (av_cGreeting_sends (F4.cl) Cv0) (fun h11 F5 => ?_)
  refine ao_b1 F5 (av_cGreeting_prove (F5.cl) Cv0) (fun h13 F6 => ?_)
  refine ao_b1 F6 (av_cGreeting_sends (F6.cl) Cv0) (fun h15 F7 => ?_)
  refine ao_b1 F7 (av_cGreeting_talkSecrets (F7.cl) Cv0) (fun h17 F8 => ?_)
  refine ao_I F8 Cv0 (fun h19 F9 => ?_)
  exact ao_so F9
theorem av_cGreeting_done_b14 {C : Nat → Prop} {k14 : Nat → Nat → Int → Int → Hp → Option (Hp)} (hk14 : ∀ (v0 : Nat) (v1 : Nat) (v2 : Int) (v3 : Int) (h : Hp), Cl C h → C v0 → Ao (qV C h) (k14 v0 v1 v2 v3 h)) {v0 : Nat} {v1 : Nat} {v2 : Int} {v3 : Int} {h : Hp} (c : Cl C h) (Cv0 : C v0) : Ao (qV C h) (f_cGreeting_done_b14 k14 v0 v1 v2 v3 h) := by
  unfold f_cGreeting_done_b14
  have F0 := Av.rf c
  refine ao_it ?_ ?_
  · refine ao_it ?_ ?_
    · refine ao_I F0 Cv0 (fun h3 F1 => ?_)
      refine ao_I F1 Cv0 (fun h4 F2 => ?_)
      refine ao_it ?_ ?_
      · refine ao_it ao_no ?_
        refine ao_it ao_no ?_
        refine ao_b1 F2 (av_cRow_add (F2.cl) (F2.cl.r Cv0)) (fun h7 F3 => ?_)
        refine ao_b1 F3 (av_cGreeting_talkSecrets (F3.cl) Cv0) (fun h9 F4 => ?_)
        refine ao_b1 F4 (av_cGreeting_prove (F4.cl) Cv0) (fun h11 F5 => ?_)
        refine ao_b1 F5 (av_cGreeting_sends (F5.cl) Cv0) (fun h13 F6 => ?_)
        exact ao_so F6
      · exact ao_so F2
    · refine ao_b2 F0 (av_cGreeting_fails (F0.cl) Cv0) (fun r17 h15 F7 => ?_)
      exact ao_so F7
  · refine ao_it ao_no ?_
    refine ao_it ?_ ao_no
    refine ao_it ao_no ?_
    refine ao_it ao_no ?_
    refine ao_it ?_ ao_no
    refine ao_v (fun y23 => ?_)
    exact ao_jV F0 (hk14 _ _ _ _ _ (F0.cl) Cv0)
theorem av_cGreeting_done_b14_lp {C : Nat → Prop} (n : Nat) : ∀ {v0 : Nat} {v1 : Nat} {v2 : Int} {v3 : Int} {h : Hp}, Cl C h → C v0 → Ao (qV C h) (f_cGreeting_done_b14_lp n v0 v1 v2 v3 h) := by
  induction n with
  | zero => intros; exact ao_no
  | succ n ih => intro v0 v1 v2 v3 h c Cv0; exact av_cGreeting_done_b14 (fun _ _ _ _ h => ih) c Cv0
theorem av_cGreeting_done {C : Nat → Prop} {v0 : Nat} {v1 : Nat} {h : Hp} (c : Cl C h) (Cv0 : C v0) : Ao (qV C h) (f_cGreeting_done v0 v1 h) := by
  unfold f_cGreeting_done
  have F0 := Av.rf c
  refine ao_b1 F0 (av_cGreeting_prove (F0.cl) Cv0) (fun h1 F1 => ?_)
  exact ao_jV F1 (av_cGreeting_done_b14_lp FU (F1.cl) Cv0)
theorem av_cGreeting_comes {C : Nat → Prop} {v0 : Nat} {v1 : Nat} {v2 : Int} {h : Hp} (c : Cl C h) (Cv0 : C v0) : Ao (qV C h) (f_cGreeting_comes v0 v1 v2 h) := by
  unfold f_cGreeting_comes
  have F0 := Av.rf c
  refine ao_it ?_ ?_
  · refine ao_b1 F0 (av_cGreeting_hello (F0.cl) Cv0) (fun h3 F1 => ?_)
    exact ao_so F1
  · refine ao_it ?_ ?_
    · refine ao_it ao_no ?_
      refine ao_it ao_no ?_
      refine ao_b1 F0 (av_cRow_add (F0.cl) (F0.cl.r Cv0)) (fun h9 F2 => ?_)
      refine ao_b1 F2 (av_cGreeting_greetSecrets (F2.cl) Cv0) (fun h11 F3 => ?_)
      refine ao_I F3 Cv0 (fun h13 F4 => ?_)
      exact ao_so F4
    · refine ao_it ?_ ?_
      · refine ao_it ao_no ?_
        refine ao_it ao_no ?_
        refine ao_b1 F0 (av_cRow_add (F0.cl) (F0.cl.r Cv0)) (fun h18 F5 => ?_)
        refine ao_b1 F5 (av_cGreeting_keep (F5.cl) Cv0) (fun h20 F6 => ?_)
        refine ao_I F6 Cv0 (fun h22 F7 => ?_)
        exact ao_so F7
      · refine ao_b1 F0 (av_cGreeting_done (F0.cl) Cv0) (fun h23 F8 => ?_)
        exact ao_so F8
theorem av_cGreeting_take_b64 {C : Nat → Prop} {v0 : Nat} {h : Hp} (c : Cl C h) (Cv0 : C v0) : Ao (qI C h) (f_cGreeting_take_b64 v0 h) := by
  unfold f_cGreeting_take_b64
  have F0 := Av.rf c
  refine ao_b2 F0 (av_cGreeting_fails (F0.cl) Cv0) (fun r33 h31 F1 => ?_)
  exact ao_so F1
theorem av_cGreeting_take_b194 {C : Nat → Prop} {k17 : Nat → Int → Nat → Nat → Int → Int → Hp → Option (Int × Hp)} (hk17 : ∀ (v0 : Nat) (v1 : Int) (v2 : Nat) (v5 : Nat) (v6 : Int) (v7 : Int) (h : Hp), Cl C h → C v0 → C v5 → Ao (qI C h) (k17 v0 v1 v2 v5 v6 v7 h)) {v0 : Nat} {v1 : Int} {v2 : Nat} {v5 : Nat} {v6 : Int} {v7 : Int} {h : Hp} (c : Cl C h) (Cv0 : C v0) (Cv5 : C v5) : Ao (qI C h) (f_cGreeting_take_b194 k17 v0 v1 v2 v5 v6 v7 h) := by
  unfold f_cGreeting_take_b194
  have F0 := Av.rf c
  refine ao_it ?_ ?_
  · refine ao_it ao_no ?_
    refine ao_b1 F0 (av_cRow_add (F0.cl) Cv5) (fun h29 F1 => ?_)
    exact ao_jI F1 (hk17 _ _ _ _ _ _ _ (F1.cl) Cv0 Cv5)
  · exact ao_so F0
theorem av_cGreeting_take_b157 {C : Nat → Prop} {k17 : Nat → Int → Nat → Nat → Int → Int → Hp → Option (Int × Hp)} (hk17 : ∀ (v0 : Nat) (v1 : Int) (v2 : Nat) (v5 : Nat) (v6 : Int) (v7 : Int) (h : Hp), Cl C h → C v0 → C v5 → Ao (qI C h) (k17 v0 v1 v2 v5 v6 v7 h)) {v0 : Nat} {v1 : Int} {v2 : Nat} {v5 : Nat} {v6 : Int} {v7 : Int} {v8 : Int} {h : Hp} (c : Cl C h) (Cv0 : C v0) (Cv5 : C v5) : Ao (qI C h) (f_cGreeting_take_b157 k17 v0 v1 v2 v5 v6 v7 v8 h) := by
  unfold f_cGreeting_take_b157
  have F0 := Av.rf c
  refine ao_it ao_no ?_
  refine ao_it ?_ ?_
  · exact ao_jI F0 (av_cGreeting_take_b194 hk17 (F0.cl) Cv0 Cv5)
  · refine ao_it ?_ ?_
    · exact ao_jI F0 (av_cGreeting_take_b194 hk17 (F0.cl) Cv0 Cv5)
    · refine ao_b1 F0 (av_cGreeting_comes (F0.cl) Cv0) (fun h24 F1 => ?_)
      refine ao_b1 F1 (av_cRow_clear (F1.cl) Cv5) (fun h26 F2 => ?_)
      exact ao_jI F2 (hk17 _ _ _ _ _ _ _ (F2.cl) Cv0 Cv5)
theorem av_cGreeting_take_b126 {C : Nat → Prop} {k17 : Nat → Int → Nat → Nat → Int → Int → Hp → Option (Int × Hp)} (hk17 : ∀ (v0 : Nat) (v1 : Int) (v2 : Nat) (v5 : Nat) (v6 : Int) (v7 : Int) (h : Hp), Cl C h → C v0 → C v5 → Ao (qI C h) (k17 v0 v1 v2 v5 v6 v7 h)) {v0 : Nat} {v1 : Int} {v2 : Nat} {v5 : Nat} {v6 : Int} {v7 : Int} {s0 : Int} {h : Hp} (c : Cl C h) (Cv0 : C v0) (Cv5 : C v5) : Ao (qI C h) (f_cGreeting_take_b126 k17 v0 v1 v2 v5 v6 v7 s0 h) := by
  unfold f_cGreeting_take_b126
  have F0 := Av.rf c
  refine ao_it ao_no ?_
  refine ao_it ?_ ?_
  · exact ao_jI F0 (av_cGreeting_take_b157 hk17 (F0.cl) Cv0 Cv5)
  · refine ao_b2 F0 (av_cGreeting_fits (F0.cl)) (fun r19 h17 F1 => ?_)
    refine ao_it ?_ ?_
    · exact ao_jI F1 (av_cGreeting_take_b157 hk17 (F1.cl) Cv0 Cv5)
    · refine ao_b2 F1 (av_cGreeting_fails (F1.cl) Cv0) (fun r22 h20 F2 => ?_)
      exact ao_so F2
theorem av_cGreeting_take_b72 {C : Nat → Prop} {k17 : Nat → Int → Nat → Nat → Int → Int → Hp → Option (Int × Hp)} (hk17 : ∀ (v0 : Nat) (v1 : Int) (v2 : Nat) (v5 : Nat) (v6 : Int) (v7 : Int) (h : Hp), Cl C h → C v0 → C v5 → Ao (qI C h) (k17 v0 v1 v2 v5 v6 v7 h)) {v0 : Nat} {v1 : Int} {v2 : Nat} {v5 : Nat} {v6 : Int} {v7 : Int} {h : Hp} (c : Cl C h) (Cv0 : C v0) (Cv5 : C v5) : Ao (qI C h) (f_cGreeting_take_b72 k17 v0 v1 v2 v5 v6 v7 h) := by
  unfold f_cGreeting_take_b72
  have F0 := Av.rf c
  refine ao_it ao_no ?_
  refine ao_it ?_ ?_
  · refine ao_it ao_no ?_
    refine ao_it ?_ ao_no
    refine ao_it ?_ ao_no
    refine ao_it ?_ ao_no
    exact ao_jI F0 (av_cGreeting_take_b126 hk17 (F0.cl) Cv0 Cv5)
  · exact ao_jI F0 (av_cGreeting_take_b126 hk17 (F0.cl) Cv0 Cv5)
theorem av_cGreeting_take_b17 {C : Nat → Prop} {k17 : Nat → Int → Nat → Nat → Int → Int → Hp → Option (Int × Hp)} (hk17 : ∀ (v0 : Nat) (v1 : Int) (v2 : Nat) (v5 : Nat) (v6 : Int) (v7 : Int) (h : Hp), Cl C h → C v0 → C v5 → Ao (qI C h) (k17 v0 v1 v2 v5 v6 v7 h)) {v0 : Nat} {v1 : Int} {v2 : Nat} {v5 : Nat} {v6 : Int} {v7 : Int} {h : Hp} (c : Cl C h) (Cv0 : C v0) (Cv5 : C v5) : Ao (qI C h) (f_cGreeting_take_b17 k17 v0 v1 v2 v5 v6 v7 h) := by
  unfold f_cGreeting_take_b17
  have F0 := Av.rf c
  refine ao_it ?_ ?_
  · exact ao_so F0
  · refine ao_it ao_no ?_
    refine ao_it ?_ ?_
    · exact ao_jI F0 (av_cGreeting_take_b72 hk17 (F0.cl) Cv0 Cv5)
    · refine ao_it ?_ ?_
      · exact ao_jI F0 (av_cGreeting_take_b64 (F0.cl) Cv0)
      · refine ao_b2 F0 (av_cGreeting_levelOf (F0.cl)) (fun r8 h6 F1 => ?_)
        refine ao_it ?_ ?_
        · exact ao_jI F1 (av_cGreeting_take_b64 (F1.cl) Cv0)
        · refine ao_it ao_no ?_
          refine ao_it ?_ ao_no
          refine ao_it ?_ ?_
          · exact ao_jI F1 (av_cGreeting_take_b72 hk17 (F1.cl) Cv0 Cv5)
          · exact ao_jI F1 (av_cGreeting_take_b64 (F1.cl) Cv0)
theorem av_cGreeting_take_b17_lp {C : Nat → Prop} (n : Nat) : ∀ {v0 : Nat} {v1 : Int} {v2 : Nat} {v5 : Nat} {v6 : Int} {v7 : Int} {h : Hp}, Cl C h → C v0 → C v5 → Ao (qI C h) (f_cGreeting_take_b17_lp n v0 v1 v2 v5 v6 v7 h) := by
  induction n with
  | zero => intros; exact ao_no
  | succ n ih => intro v0 v1 v2 v5 v6 v7 h c Cv0 Cv5; exact av_cGreeting_take_b17 (fun _ _ _ _ _ _ h => ih) c Cv0 Cv5
theorem av_cGreeting_take {C : Nat → Prop} {v0 : Nat} {v1 : Int} {v2 : Nat} {v3 : Int} {v4 : Int} {h : Hp} (c : Cl C h) (Cv0 : C v0) : Ao (qI C h) (f_cGreeting_take v0 v1 v2 v3 v4 h) := by
  unfold f_cGreeting_take
  have F0 := Av.rf c
  refine ao_it ao_no ?_
  refine ao_it ?_ ao_no
  refine ao_m (F0.cl.r (F0.cl.r Cv0)) (fun y3 Cy3 => ?_)
  refine ao_v (fun y4 => ?_)
  exact ao_jI F0 (av_cGreeting_take_b17_lp FU (F0.cl) Cv0 Cy3)
theorem av_cParameters_isAnswer_b21 {C : Nat → Prop} {h : Hp} (c : Cl C h) : Ao (qI C h) (f_cParameters_isAnswer_b21  h) := by
  unfold f_cParameters_isAnswer_b21
  have F0 := Av.rf c
  exact ao_so F0
theorem av_cParameters_isAnswer {C : Nat → Prop} {v0 : Int} {h : Hp} (c : Cl C h) : Ao (qI C h) (f_cParameters_isAnswer v0 h) := by
  unfold f_cParameters_isAnswer
  have F0 := Av.rf c
  refine ao_it ?_ ?_
  · exact ao_jI F0 (av_cParameters_isAnswer_b21 (F0.cl))
  · refine ao_it ?_ ?_
    · exact ao_jI F0 (av_cParameters_isAnswer_b21 (F0.cl))
    · refine ao_it ?_ ?_
      · exact ao_jI F0 (av_cParameters_isAnswer_b21 (F0.cl))
      · refine ao_it ?_ ?_
        · exact ao_so F0
        · exact ao_jI F0 (av_cParameters_isAnswer_b21 (F0.cl))
theorem av_cParameters_fits_b78 {C : Nat → Prop} {v1 : Int} {h : Hp} (c : Cl C h) : Ao (qI C h) (f_cParameters_fits_b78 v1 h) := by
  unfold f_cParameters_fits_b78
  have F0 := Av.rf c
  refine ao_it ?_ ?_
  · exact ao_so F0
  · exact ao_so F0
theorem av_cParameters_fits {C : Nat → Prop} {v0 : Int} {v1 : Int} {h : Hp} (c : Cl C h) : Ao (qI C h) (f_cParameters_fits v0 v1 h) := by
  unfold f_cParameters_fits
  have F0 := Av.rf c
  refine ao_it ?_ ?_
  · refine ao_it ?_ ?_
    · exact ao_so F0
    · exact ao_so F0
  · refine ao_it ?_ ?_
    · exact ao_so F0
    · refine ao_it ?_ ?_
      · exact ao_so F0
      · refine ao_it ?_ ?_
        · exact ao_so F0
        · refine ao_it ?_ ?_
          · exact ao_so F0
          · refine ao_it ?_ ?_
            · exact ao_jI F0 (av_cParameters_fits_b78 (F0.cl))
            · refine ao_it ?_ ?_
              · exact ao_jI F0 (av_cParameters_fits_b78 (F0.cl))
              · refine ao_it ?_ ?_
                · refine ao_it ?_ ?_
                  · exact ao_so F0
                  · exact ao_so F0
                · refine ao_it ?_ ?_
                  · refine ao_it ?_ ?_
                    · exact ao_so F0
                    · exact ao_so F0
                  · refine ao_it ?_ ?_
                    · exact ao_so F0
                    · refine ao_it ?_ ?_
                      · exact ao_so F0
                      · refine ao_it ?_ ?_
                        · refine ao_it ?_ ?_
                          · exact ao_so F0
                          · exact ao_so F0
                        · exact ao_so F0
theorem av_cParameters_one_b240 {C : Nat → Prop} {v0 : Nat} {v1 : Nat} {v5 : Int} {v6 : Int} {h : Hp} (c : Cl C h) (Cv1 : C v1) : Ao (qI C h) (f_cParameters_one_b240 v0 v1 v5 v6 h) := by
  unfold f_cParameters_one_b240
  have F0 := Av.rf c
  refine ao_it ao_no ?_
  refine ao_I F0 Cv1 (fun h38 F1 => ?_)
  refine ao_it ?_ ?_
  · exact ao_so F1
  · exact ao_so F1
theorem av_cParameters_one_b121 {C : Nat → Prop} {v0 : Nat} {v1 : Nat} {v3 : Int} {v5 : Int} {s0 : Int} {h : Hp} (c : Cl C h) (Cv1 : C v1) : Ao (qI C h) (f_cParameters_one_b121 v0 v1 v3 v5 s0 h) := by
  unfold f_cParameters_one_b121
  have F0 := Av.rf c
  refine ao_it ao_no ?_
  refine ao_b2 F0 (av_cBytes_pass (F0.cl) Cv1) (fun r42 h40 F1 => ?_)
  exact ao_jI F1 (av_cParameters_one_b240 (F1.cl) Cv1)
theorem av_cParameters_one_b154 {C : Nat → Prop} {v0 : Nat} {v1 : Nat} {v3 : Int} {v5 : Int} {s0 : Int} {h : Hp} (c : Cl C h) (Cv1 : C v1) : Ao (qI C h) (f_cParameters_one_b154 v0 v1 v3 v5 s0 h) := by
  unfold f_cParameters_one_b154
  have F0 := Av.rf c
  refine ao_it ao_no ?_
  refine ao_b2 F0 (av_cBytes_pass (F0.cl) Cv1) (fun r46 h44 F1 => ?_)
  exact ao_jI F1 (av_cParameters_one_b240 (F1.cl) Cv1)
theorem av_cParameters_one_b106 {C : Nat → Prop} {v0 : Nat} {v1 : Nat} {v3 : Int} {v5 : Int} {h : Hp} (c : Cl C h) (Cv1 : C v1) : Ao (qI C h) (f_cParameters_one_b106 v0 v1 v3 v5 h) := by
  unfold f_cParameters_one_b106
  have F0 := Av.rf c
  exact ao_jI F0 (av_cParameters_one_b121 (F0.cl) Cv1)
theorem av_cParameters_one_b238 {C : Nat → Prop} {v0 : Nat} {v1 : Nat} {v5 : Int} {s0 : Int} {h : Hp} (c : Cl C h) (Cv1 : C v1) : Ao (qI C h) (f_cParameters_one_b238 v0 v1 v5 s0 h) := by
  unfold f_cParameters_one_b238
  have F0 := Av.rf c
  exact ao_jI F0 (av_cParameters_one_b240 (F0.cl) Cv1)
theorem av_cParameters_one_b237 {C : Nat → Prop} {v0 : Nat} {v1 : Nat} {v5 : Int} {h : Hp} (c : Cl C h) (Cv1 : C v1) : Ao (qI C h) (f_cParameters_one_b237 v0 v1 v5 h) := by
  unfold f_cParameters_one_b237
  have F0 := Av.rf c
  exact ao_jI F0 (av_cParameters_one_b238 (F0.cl) Cv1)
theorem av_cParameters_one_b214 {C : Nat → Prop} {v0 : Nat} {v1 : Nat} {v2 : Int} {v5 : Int} {v6 : Int} {s0 : Nat} {s1 : Int} {s2 : Int} {h : Hp} (c : Cl C h) (Cv1 : C v1) (Cs0 : C s0) : Ao (qI C h) (f_cParameters_one_b214 v0 v1 v2 v5 v6 s0 s1 s2 h) := by
  unfold f_cParameters_one_b214
  have F0 := Av.rf c
  refine ao_it ao_no ?_
  refine ao_it ?_ ao_no
  refine ao_J F0 Cs0 (fun h31 F1 => ?_)
  refine ao_it ?_ ?_
  · exact ao_jI F1 (av_cParameters_one_b237 (F1.cl) Cv1)
  · refine ao_it ao_no ?_
    refine ao_it ?_ ao_no
    refine ao_b2 F1 (av_cParameters_fits (F1.cl)) (fun r36 h34 F2 => ?_)
    refine ao_it ?_ ?_
    · exact ao_jI F2 (av_cParameters_one_b237 (F2.cl) Cv1)
    · exact ao_jI F2 (av_cParameters_one_b238 (F2.cl) Cv1)
theorem av_cParameters_one_b194 {C : Nat → Prop} {v0 : Nat} {v1 : Nat} {v2 : Int} {v5 : Int} {s0 : Int} {h : Hp} (c : Cl C h) (Cv0 : C v0) (Cv1 : C v1) : Ao (qI C h) (f_cParameters_one_b194 v0 v1 v2 v5 s0 h) := by
  unfold f_cParameters_one_b194
  have F0 := Av.rf c
  refine ao_it ?_ ?_
  · exact ao_jI F0 (av_cParameters_one_b214 (F0.cl) Cv1 (F0.cl.r Cv0))
  · refine ao_it ao_no ?_
    refine ao_b2 F0 (av_cBytes_number (F0.cl) Cv1) (fun r28 h26 F1 => ?_)
    exact ao_jI F1 (av_cParameters_one_b214 (F1.cl) Cv1 (F0.cl.r Cv0))
theorem av_cParameters_one_b193 {C : Nat → Prop} {v0 : Nat} {v1 : Nat} {v2 : Int} {v5 : Int} {h : Hp} (c : Cl C h) (Cv0 : C v0) (Cv1 : C v1) : Ao (qI C h) (f_cParameters_one_b193 v0 v1 v2 v5 h) := by
  unfold f_cParameters_one_b193
  have F0 := Av.rf c
  exact ao_jI F0 (av_cParameters_one_b194 (F0.cl) Cv0 Cv1)
theorem av_cParameters_one_b25 {C : Nat → Prop} {v0 : Nat} {v1 : Nat} {v2 : Int} {v3 : Int} {h : Hp} (c : Cl C h) (Cv0 : C v0) (Cv1 : C v1) : Ao (qI C h) (f_cParameters_one_b25 v0 v1 v2 v3 h) := by
  unfold f_cParameters_one_b25
  have F0 := Av.rf c
  refine ao_it ao_no ?_
  refine ao_it ?_ ao_no
  refine ao_I F0 (F0.cl.r Cv0) (fun h8 F1 => ?_)
  refine ao_it ao_no ?_
  refine ao_it ao_no ?_
  refine ao_it ?_ ao_no
  refine ao_I F1 (F1.cl.r Cv0) (fun h12 F2 => ?_)
  refine ao_v (fun y13 => ?_)
  refine ao_b2 F2 (av_cParameters_isBytes (F2.cl)) (fun r16 h14 F4 => ?_)
  refine ao_it ?_ ?_
  · refine ao_it ?_ ?_
    · refine ao_it ?_ ?_
      · exact ao_jI F4 (av_cParameters_one_b193 (F4.cl) Cv0 Cv1)
      · refine ao_it ao_no ?_
        refine ao_it ?_ ao_no
        refine ao_it ?_ ?_
        · exact ao_jI F4 (av_cParameters_one_b193 (F4.cl) Cv0 Cv1)
        · exact ao_jI F4 (av_cParameters_one_b194 (F4.cl) Cv0 Cv1)
    · refine ao_it ao_no ?_
      refine ao_it ?_ ao_no
      refine ao_J F4 (F4.cl.r Cv0) (fun h21 F5 => ?_)
      refine ao_it ?_ ?_
      · exact ao_jI F5 (av_cParameters_one_b154 (F5.cl) Cv1)
      · exact ao_jI F5 (av_cParameters_one_b154 (F5.cl) Cv1)
  · refine ao_it ao_no ?_
    refine ao_it ?_ ao_no
    refine ao_J F4 (F4.cl.r Cv0) (fun h24 F6 => ?_)
    refine ao_it ?_ ?_
    · refine ao_it ?_ ?_
      · refine ao_it ?_ ?_
        · exact ao_jI F6 (av_cParameters_one_b121 (F6.cl) Cv1)
        · exact ao_jI F6 (av_cParameters_one_b121 (F6.cl) Cv1)
      · refine ao_it ?_ ?_
        · exact ao_jI F6 (av_cParameters_one_b106 (F6.cl) Cv1)
        · refine ao_it ?_ ?_
          · exact ao_jI F6 (av_cParameters_one_b106 (F6.cl) Cv1)
          · exact ao_jI F6 (av_cParameters_one_b121 (F6.cl) Cv1)
    · refine ao_it ?_ ?_
      · exact ao_jI F6 (av_cParameters_one_b121 (F6.cl) Cv1)
      · exact ao_jI F6 (av_cParameters_one_b121 (F6.cl) Cv1)
theorem av_cParameters_one {C : Nat → Prop} {v0 : Nat} {v1 : Nat} {v2 : Int} {v3 : Int} {v4 : Int} {h : Hp} (c : Cl C h) (Cv0 : C v0) (Cv1 : C v1) : Ao (qI C h) (f_cParameters_one v0 v1 v2 v3 v4 h) := by
  unfold f_cParameters_one
  have F0 := Av.rf c
  refine ao_it ao_no ?_
  refine ao_it ?_ ao_no
  refine ao_it ?_ ?_
  · refine ao_b2 F0 (av_cParameters_isAnswer (F0.cl)) (fun r5 h3 F1 => ?_)
    refine ao_it ?_ ?_
    · exact ao_jI F1 (av_cParameters_one_b25 (F1.cl) Cv0 Cv1)
    · refine ao_it ?_ ?_
      · exact ao_jI F1 (av_cParameters_one_b25 (F1.cl) Cv0 Cv1)
      · exact ao_so F1
  · exact ao_so F0
theorem av_cParameters_read_b130 {C : Nat → Prop} {k16 : Nat → Nat → Int → Int → Hp → Option (Int × Hp)} (hk16 : ∀ (v0 : Nat) (v1 : Nat) (v2 : Int) (v3 : Int) (h : Hp), Cl C h → C v0 → C v1 → Ao (qI C h) (k16 v0 v1 v2 v3 h)) {v0 : Nat} {v1 : Nat} {v2 : Int} {v3 : Int} {h : Hp} (c : Cl C h) (Cv0 : C v0) (Cv1 : C v1) : Ao (qI C h) (f_cParameters_read_b130 k16 v0 v1 v2 v3 h) := by
  unfold f_cParameters_read_b130
  have F0 := Av.rf c
  exact ao_jI F0 (hk16 _ _ _ _ _ (F0.cl) Cv0 Cv1)
theorem av_cParameters_read_b89 {C : Nat → Prop} {k16 : Nat → Nat → Int → Int → Hp → Option (Int × Hp)} (hk16 : ∀ (v0 : Nat) (v1 : Nat) (v2 : Int) (v3 : Int) (h : Hp), Cl C h → C v0 → C v1 → Ao (qI C h) (k16 v0 v1 v2 v3 h)) {v0 : Nat} {v1 : Nat} {v2 : Int} {v3 : Int} {v4 : Int} {v5 : Int} {v7 : Int} {s0 : Nat} {s1 : Int} {h : Hp} (c : Cl C h) (Cv0 : C v0) (Cv1 : C v1) (Cs0 : C s0) : Ao (qI C h) (f_cParameters_read_b89 k16 v0 v1 v2 v3 v4 v5 v7 s0 s1 h) := by
  unfold f_cParameters_read_b89
  have F0 := Av.rf c
  refine ao_it ao_no ?_
  refine ao_I F0 Cs0 (fun h23 F1 => ?_)
  refine ao_it ?_ ?_
  · refine ao_it ?_ ?_
    · refine ao_it ao_no ?_
      refine ao_b2 F1 (av_cBytes_pass (F1.cl) Cv1) (fun r27 h25 F2 => ?_)
      exact ao_jI F2 (av_cParameters_read_b130 hk16 (F2.cl) Cv0 Cv1)
    · exact ao_jI F1 (av_cParameters_read_b130 hk16 (F1.cl) Cv0 Cv1)
  · refine ao_I F1 Cv0 (fun h28 F3 => ?_)
    exact ao_so F3
theorem av_cParameters_read_b60 {C : Nat → Prop} {k16 : Nat → Nat → Int → Int → Hp → Option (Int × Hp)} (hk16 : ∀ (v0 : Nat) (v1 : Nat) (v2 : Int) (v3 : Int) (h : Hp), Cl C h → C v0 → C v1 → Ao (qI C h) (k16 v0 v1 v2 v3 h)) {v0 : Nat} {v1 : Nat} {v2 : Int} {v3 : Int} {v4 : Int} {v5 : Int} {v7 : Int} {s0 : Nat} {h : Hp} (c : Cl C h) (Cv0 : C v0) (Cv1 : C v1) (Cs0 : C s0) : Ao (qI C h) (f_cParameters_read_b60 k16 v0 v1 v2 v3 v4 v5 v7 s0 h) := by
  unfold f_cParameters_read_b60
  have F0 := Av.rf c
  exact ao_jI F0 (av_cParameters_read_b89 hk16 (F0.cl) Cv0 Cv1 Cs0)
theorem av_cParameters_read_b16 {C : Nat → Prop} {k16 : Nat → Nat → Int → Int → Hp → Option (Int × Hp)} (hk16 : ∀ (v0 : Nat) (v1 : Nat) (v2 : Int) (v3 : Int) (h : Hp), Cl C h → C v0 → C v1 → Ao (qI C h) (k16 v0 v1 v2 v3 h)) {v0 : Nat} {v1 : Nat} {v2 : Int} {v3 : Int} {h : Hp} (c : Cl C h) (Cv0 : C v0) (Cv1 : C v1) : Ao (qI C h) (f_cParameters_read_b16 k16 v0 v1 v2 v3 h) := by
  unfold f_cParameters_read_b16
  have F0 := Av.rf c
  refine ao_it ao_no ?_
  refine ao_b2 F0 (av_cBytes_left (F0.cl)) (fun r8 h6 F1 => ?_)
  refine ao_it ?_ ?_
  · exact ao_so F1
  · refine ao_v (fun y9 => ?_)
    refine ao_b2 F1 (av_cBytes_number (F1.cl) Cv1) (fun r12 h10 F3 => ?_)
    refine ao_b2 F3 (av_cBytes_number (F3.cl) Cv1) (fun r15 h13 F4 => ?_)
    refine ao_it ?_ ?_
    · exact ao_jI F4 (av_cParameters_read_b60 hk16 (F4.cl) Cv0 Cv1 Cv0)
    · refine ao_b2 F4 (av_cBytes_left (F4.cl)) (fun r18 h16 F5 => ?_)
      refine ao_it ?_ ?_
      · refine ao_it ?_ ?_
        · exact ao_jI F5 (av_cParameters_read_b89 hk16 (F5.cl) Cv0 Cv1 Cv0)
        · refine ao_b2 F5 (av_cParameters_one (F5.cl) Cv0 Cv1) (fun r21 h19 F6 => ?_)
          exact ao_jI F6 (av_cParameters_read_b89 hk16 (F6.cl) Cv0 Cv1 Cv0)
      · exact ao_jI F5 (av_cParameters_read_b60 hk16 (F5.cl) Cv0 Cv1 Cv0)
theorem av_cParameters_read_b16_lp {C : Nat → Prop} (n : Nat) : ∀ {v0 : Nat} {v1 : Nat} {v2 : Int} {v3 : Int} {h : Hp}, Cl C h → C v0 → C v1 → Ao (qI C h) (f_cParameters_read_b16_lp n v0 v1 v2 v3 h) := by
  induction n with
  | zero => intros; exact ao_no
  | succ n ih => intro v0 v1 v2 v3 h c Cv0 Cv1; exact av_cParameters_read_b16 (fun _ _ _ _ h => ih) c Cv0 Cv1
theorem av_cParameters_read {C : Nat → Prop} {v0 : Nat} {v1 : Nat} {v2 : Int} {h : Hp} (c : Cl C h) (Cv0 : C v0) (Cv1 : C v1) : Ao (qI C h) (f_cParameters_read v0 v1 v2 h) := by
  unfold f_cParameters_read
  have F0 := Av.rf c
  refine ao_b1 F0 (av_cParameters_forget (F0.cl) Cv0) (fun h1 F1 => ?_)
  refine ao_I F1 Cv0 (fun h3 F2 => ?_)
  refine ao_I F2 Cv0 (fun h4 F3 => ?_)
  exact ao_jI F3 (av_cParameters_read_b16_lp FU (F3.cl) Cv0 Cv1)
theorem av_cSide_isName_b76 {C : Nat → Prop} {k25 : Nat → Int → Int → Int → Int → Hp → Option (Int × Hp)} (hk25 : ∀ (v0 : Nat) (v1 : Int) (v2 : Int) (v3 : Int) (v4 : Int) (h : Hp), Cl C h → Ao (qI C h) (k25 v0 v1 v2 v3 v4 h)) {v0 : Nat} {v1 : Int} {v2 : Int} {v4 : Int} {s0 : Int} {h : Hp} (c : Cl C h) : Ao (qI C h) (f_cSide_isName_b76 k25 v0 v1 v2 v4 s0 h) := by
  unfold f_cSide_isName_b76
  have F0 := Av.rf c
  exact ao_jI F0 (hk25 _ _ _ _ _ _ (F0.cl))
theorem av_cSide_isName_b25 {C : Nat → Prop} {k25 : Nat → Int → Int → Int → Int → Hp → Option (Int × Hp)} (hk25 : ∀ (v0 : Nat) (v1 : Int) (v2 : Int) (v3 : Int) (v4 : Int) (h : Hp), Cl C h → Ao (qI C h) (k25 v0 v1 v2 v3 v4 h)) {v0 : Nat} {v1 : Int} {v2 : Int} {v3 : Int} {v4 : Int} {h : Hp} (c : Cl C h) : Ao (qI C h) (f_cSide_isName_b25 k25 v0 v1 v2 v3 v4 h) := by
  unfold f_cSide_isName_b25
  have F0 := Av.rf c
  refine ao_it ?_ ?_
  · refine ao_it ?_ ao_no
    exact ao_so F0
  · refine ao_it ?_ ?_
    · refine ao_it ?_ ao_no
      exact ao_so F0
    · refine ao_it ao_no ?_
      refine ao_it ao_no ?_
      refine ao_it ao_no ?_
      refine ao_it ?_ ao_no
      refine ao_it ao_no ?_
      refine ao_it ?_ ao_no
      refine ao_it ao_no ?_
      refine ao_it ?_ ao_no
      refine ao_it ?_ ?_
      · exact ao_jI F0 (av_cSide_isName_b76 hk25 (F0.cl))
      · exact ao_jI F0 (av_cSide_isName_b76 hk25 (F0.cl))
theorem av_cSide_isName_b25_lp {C : Nat → Prop} (n : Nat) : ∀ {v0 : Nat} {v1 : Int} {v2 : Int} {v3 : Int} {v4 : Int} {h : Hp}, Cl C h → Ao (qI C h) (f_cSide_isName_b25_lp n v0 v1 v2 v3 v4 h) := by
  induction n with
  | zero => intros; exact ao_no
  | succ n ih => intro v0 v1 v2 v3 v4 h c; exact av_cSide_isName_b25 (fun _ _ _ _ _ h => ih) c
theorem av_cSide_isName_b21 {C : Nat → Prop} {v0 : Nat} {v1 : Int} {v2 : Int} {s0 : Int} {h : Hp} (c : Cl C h) : Ao (qI C h) (f_cSide_isName_b21 v0 v1 v2 s0 h) := by
  unfold f_cSide_isName_b21
  have F0 := Av.rf c
  exact ao_jI F0 (av_cSide_isName_b25_lp FU (F0.cl))
theorem av_cSide_isName {C : Nat → Prop} {v0 : Nat} {v1 : Int} {v2 : Int} {h : Hp} (c : Cl C h) : Ao (qI C h) (f_cSide_isName v0 v1 v2 h) := by
  unfold f_cSide_isName
  have F0 := Av.rf c
  refine ao_it ao_no ?_
  refine ao_it ao_no ?_
  refine ao_it ?_ ao_no
  refine ao_it ?_ ?_
  · exact ao_jI F0 (av_cSide_isName_b21 (F0.cl))
  · exact ao_jI F0 (av_cSide_isName_b21 (F0.cl))
theorem av_cHall_limits {C : Nat → Prop} {v0 : Nat} {v1 : Int} {v3 : Int} {v5 : Int} {v7 : Int} {v9 : Int} {v11 : Int} {h : Hp} (c : Cl C h) (Cv0 : C v0) : Ao (qV C h) (f_cHall_limits v0 v1 v3 v5 v7 v9 v11 h) := by
  unfold f_cHall_limits
  have F0 := Av.rf c
  refine ao_it ao_no ?_
  refine ao_it ?_ ao_no
  refine ao_J F0 (F0.cl.r Cv0) (fun h3 F1 => ?_)
  refine ao_it ao_no ?_
  refine ao_it ?_ ao_no
  refine ao_J F1 (F1.cl.r Cv0) (fun h6 F2 => ?_)
  refine ao_it ao_no ?_
  refine ao_it ?_ ao_no
  refine ao_J F2 (F2.cl.r Cv0) (fun h9 F3 => ?_)
  refine ao_J F3 Cv0 (fun h10 F4 => ?_)
  refine ao_it ao_no ?_
  refine ao_it ?_ ao_no
  refine ao_it ao_no ?_
  refine ao_J F4 (F4.cl.r (F4.cl.r Cv0)) (fun h14 F5 => ?_)
  refine ao_it ao_no ?_
  refine ao_it ?_ ao_no
  refine ao_it ao_no ?_
  refine ao_J F5 (F5.cl.r (F5.cl.r Cv0)) (fun h18 F6 => ?_)
  exact ao_so F6
theorem av_cSide_learn_b83 {C : Nat → Prop} {v0 : Nat} {h : Hp} (c : Cl C h) (Cv0 : C v0) : Ao (qI C h) (f_cSide_learn_b83 v0 h) := by
  unfold f_cSide_learn_b83
  have F0 := Av.rf c
  refine ao_it ao_no ?_
  refine ao_m (F0.cl.r (F0.cl.r Cv0)) (fun y17 Cy17 => ?_)
  refine ao_it ao_no ?_
  refine ao_it ?_ ao_no
  refine ao_it ?_ ao_no
  refine ao_it ?_ ao_no
  refine ao_it ?_ ao_no
  refine ao_it ?_ ao_no
  refine ao_it ?_ ao_no
  refine ao_it ao_no ?_
  refine ao_b1 F0 (av_cHall_limits (F0.cl) (F0.cl.r Cv0)) (fun h26 F2 => ?_)
  exact ao_so F2
theorem av_cSide_learn_b47 {C : Nat → Prop} {v0 : Nat} {s0 : Nat} {s1 : Nat} {s2 : Int} {h : Hp} (c : Cl C h) (Cv0 : C v0) (Cs0 : C s0) (Cs1 : C s1) : Ao (qI C h) (f_cSide_learn_b47 v0 s0 s1 s2 h) := by
  unfold f_cSide_learn_b47
  have F0 := Av.rf c
  refine ao_it ao_no ?_
  refine ao_b2 F0 (av_cParameters_read (F0.cl) Cs0 Cs1) (fun r9 h7 F1 => ?_)
  refine ao_it ?_ ?_
  · exact ao_so F1
  · refine ao_b2 F1 (av_cSide_isName (F1.cl)) (fun r12 h10 F2 => ?_)
    refine ao_it ?_ ?_
    · refine ao_it ?_ ?_
      · exact ao_jI F2 (av_cSide_learn_b83 (F2.cl) Cv0)
      · refine ao_b2 F2 (av_cSide_isName (F2.cl)) (fun r15 h13 F3 => ?_)
        refine ao_it ?_ ?_
        · exact ao_jI F3 (av_cSide_learn_b83 (F3.cl) Cv0)
        · exact ao_so F3
    · exact ao_so F2
theorem av_cSide_learn {C : Nat → Prop} {v0 : Nat} {h : Hp} (c : Cl C h) (Cv0 : C v0) : Ao (qI C h) (f_cSide_learn v0 h) := by
  unfold f_cSide_learn
  have F0 := Av.rf c
  refine ao_I F0 Cv0 (fun h1 F1 => ?_)
  refine ao_it ao_no ?_
  refine ao_it ao_no ?_
  refine ao_b1 F1 (av_cBytes_over (F1.cl) (F1.cl.r Cv0) (F1.cl.r (F1.cl.r Cv0))) (fun h4 F2 => ?_)
  refine ao_it ?_ ?_
  · exact ao_jI F2 (av_cSide_learn_b47 (F2.cl) Cv0 (F2.cl.r Cv0) (F2.cl.r Cv0))
  · exact ao_jI F2 (av_cSide_learn_b47 (F2.cl) Cv0 (F2.cl.r Cv0) (F2.cl.r Cv0))
theorem av_cSide_confirm {C : Nat → Prop} {v0 : Nat} {h : Hp} (c : Cl C h) (Cv0 : C v0) : Ao (qV C h) (f_cSide_confirm v0 h) := by
  unfold f_cSide_confirm
  have F0 := Av.rf c
  refine ao_it ao_no ?_
  refine ao_I F0 (F0.cl.r Cv0) (fun h2 F1 => ?_)
  refine ao_it ao_no ?_
  refine ao_I F1 (F1.cl.r Cv0) (fun h4 F2 => ?_)
  refine ao_b1 F2 (av_cSide_discard (F2.cl) Cv0) (fun h5 F3 => ?_)
  exact ao_so F3
theorem av_cSide_follow_b107 {C : Nat → Prop} {v0 : Nat} {h : Hp} (c : Cl C h) (Cv0 : C v0) : Ao (qV C h) (f_cSide_follow_b107 v0 h) := by
  unfold f_cSide_follow_b107
  have F0 := Av.rf c
  refine ao_it ao_no ?_
  refine ao_it ?_ ?_
  · exact ao_so F0
  · refine ao_it ?_ ?_
    · refine ao_I F0 Cv0 (fun h21 F1 => ?_)
      refine ao_b1 F1 (av_cSide_arm (F1.cl) Cv0) (fun h22 F2 => ?_)
      refine ao_it ?_ ?_
      · exact ao_so F2
      · refine ao_I F2 Cv0 (fun h24 F3 => ?_)
        refine ao_b1 F3 (av_cSide_confirm (F3.cl) Cv0) (fun h25 F4 => ?_)
        exact ao_so F4
    · exact ao_so F0
theorem av_cSide_follow_b41 {C : Nat → Prop} {v0 : Nat} {h : Hp} (c : Cl C h) (Cv0 : C v0) : Ao (qV C h) (f_cSide_follow_b41 v0 h) := by
  unfold f_cSide_follow_b41
  have F0 := Av.rf c
  refine ao_it ao_no ?_
  refine ao_it ?_ ?_
  · refine ao_it ?_ ?_
    · exact ao_jV F0 (av_cSide_follow_b107 (F0.cl) Cv0)
    · refine ao_it ?_ ?_
      · exact ao_jV F0 (av_cSide_follow_b107 (F0.cl) Cv0)
      · refine ao_b2 F0 (av_cSide_learn (F0.cl) Cv0) (fun r15 h13 F1 => ?_)
        refine ao_it ?_ ?_
        · exact ao_jV F1 (av_cSide_follow_b107 (F1.cl) Cv0)
        · refine ao_b1 F1 (av_cSide_close (F1.cl) Cv0) (fun h16 F2 => ?_)
          exact ao_so F2
  · refine ao_b1 F0 (av_cSide_close (F0.cl) Cv0) (fun h18 F3 => ?_)
    exact ao_so F3
theorem av_cSide_follow {C : Nat → Prop} {v0 : Nat} {h : Hp} (c : Cl C h) (Cv0 : C v0) : Ao (qV C h) (f_cSide_follow v0 h) := by
  unfold f_cSide_follow
  have F0 := Av.rf c
  refine ao_it ao_no ?_
  refine ao_it ao_no ?_
  refine ao_it ?_ ao_no
  refine ao_it ?_ ?_
  · exact ao_jV F0 (av_cSide_follow_b41 (F0.cl) Cv0)
  · refine ao_it ao_no ?_
    refine ao_it ?_ ao_no
    refine ao_it ?_ ?_
    · exact ao_jV F0 (av_cSide_follow_b41 (F0.cl) Cv0)
    · refine ao_it ao_no ?_
      refine ao_it ao_no ?_
      refine ao_it ?_ ao_no
      refine ao_it ao_no ?_
      refine ao_it ?_ ?_
      · exact ao_jV F0 (av_cSide_follow_b41 (F0.cl) Cv0)
      · refine ao_b1 F0 (av_cSide_arm (F0.cl) Cv0) (fun h10 F1 => ?_)
        exact ao_jV F1 (av_cSide_follow_b41 (F1.cl) Cv0)
theorem av_cSide_greets {C : Nat → Prop} {v0 : Nat} {v1 : Int} {h : Hp} (c : Cl C h) (Cv0 : C v0) : Ao (qI C h) (f_cSide_greets v0 v1 h) := by
  unfold f_cSide_greets
  have F0 := Av.rf c
  refine ao_it ?_ ?_
  · refine ao_it ao_no ?_
    refine ao_it ?_ ao_no
    refine ao_m (F0.cl.r (F0.cl.r Cv0)) (fun y3 Cy3 => ?_)
    refine ao_it ao_no ?_
    refine ao_b2 F0 (av_cCrypto_take (F0.cl) Cy3) (fun r7 h5 F2 => ?_)
    refine ao_it ?_ ?_
    · refine ao_b2 F2 (av_cCrypto_more (F2.cl)) (fun r10 h8 F3 => ?_)
      refine ao_it ?_ ?_
      · exact ao_so F3
      · refine ao_v (fun y11 => ?_)
        refine ao_I F3 Cy3 (fun h12 F5 => ?_)
        refine ao_it ao_no ?_
        refine ao_b2 F5 (av_cGreeting_take (F5.cl) (F5.cl.r Cv0)) (fun r16 h14 F6 => ?_)
        refine ao_b1 F6 (av_cSide_follow (F6.cl) Cv0) (fun h17 F7 => ?_)
        exact ao_so F7
    · exact ao_so F2
  · refine ao_it ao_no ?_
    refine ao_it ?_ ?_
    · exact ao_so F0
    · exact ao_so F0
theorem av_cSide_drains_b24 {C : Nat → Prop} {v0 : Nat} {v1 : Nat} {s0 : Nat} {s1 : Int} {h : Hp} (c : Cl C h) (Cv0 : C v0) (Cs0 : C s0) : Ao (qV C h) (f_cSide_drains_b24 v0 v1 s0 s1 h) := by
  unfold f_cSide_drains_b24
  have F0 := Av.rf c
  refine ao_it ao_no ?_
  refine ao_it ao_no ?_
  refine ao_I F0 Cs0 (fun h5 F1 => ?_)
  refine ao_it ao_no ?_
  refine ao_b2 F1 (av_cSide_patience (F1.cl)) (fun r9 h7 F2 => ?_)
  refine ao_I F2 Cv0 (fun h10 F3 => ?_)
  exact ao_so F3
theorem av_cSide_drains {C : Nat → Prop} {v0 : Nat} {v1 : Nat} {h : Hp} (c : Cl C h) (Cv0 : C v0) : Ao (qV C h) (f_cSide_drains v0 v1 h) := by
  unfold f_cSide_drains
  have F0 := Av.rf c
  refine ao_I F0 Cv0 (fun h1 F1 => ?_)
  refine ao_it ao_no ?_
  refine ao_it ?_ ?_
  · exact ao_jV F1 (av_cSide_drains_b24 (F1.cl) Cv0 Cv0)
  · exact ao_jV F1 (av_cSide_drains_b24 (F1.cl) Cv0 Cv0)
theorem av_cHall_allowed_b70 {C : Nat → Prop} {v0 : Nat} {h : Hp} (c : Cl C h) : Ao (qI C h) (f_cHall_allowed_b70 v0 h) := by
  unfold f_cHall_allowed_b70
  have F0 := Av.rf c
  exact ao_so F0
theorem av_cHall_allowed_b58 {C : Nat → Prop} {v0 : Nat} {v1 : Int} {v4 : Int} {s0 : Int} {h : Hp} (c : Cl C h) (Cv0 : C v0) : Ao (qI C h) (f_cHall_allowed_b58 v0 v1 v4 s0 h) := by
  unfold f_cHall_allowed_b58
  have F0 := Av.rf c
  refine ao_it ?_ ?_
  · exact ao_jI F0 (av_cHall_allowed_b70 (F0.cl))
  · refine ao_it ?_ ?_
    · refine ao_b2 F0 (av_cHall_isOwn (F0.cl)) (fun r16 h14 F1 => ?_)
      refine ao_it ?_ ?_
      · exact ao_so F1
      · refine ao_b2R F1 (av_cHall_way (F1.cl) Cv0) (fun r19 h17 F2 Cr19 => ?_)
        refine ao_it ao_no ?_
        refine ao_it ?_ ?_
        · exact ao_so F2
        · exact ao_so F2
    · exact ao_jI F0 (av_cHall_allowed_b70 (F0.cl))
theorem av_cHall_allowed_b53 {C : Nat → Prop} {v0 : Nat} {v1 : Int} {v4 : Int} {h : Hp} (c : Cl C h) (Cv0 : C v0) : Ao (qI C h) (f_cHall_allowed_b53 v0 v1 v4 h) := by
  unfold f_cHall_allowed_b53
  have F0 := Av.rf c
  exact ao_jI F0 (av_cHall_allowed_b58 (F0.cl) Cv0)
theorem av_cHall_allowed_b35 {C : Nat → Prop} {v0 : Nat} {v1 : Int} {v3 : Int} {s0 : Int} {h : Hp} (c : Cl C h) (Cv0 : C v0) : Ao (qI C h) (f_cHall_allowed_b35 v0 v1 v3 s0 h) := by
  unfold f_cHall_allowed_b35
  have F0 := Av.rf c
  refine ao_b2 F0 (av_cHall_isOneWay (F0.cl)) (fun r10 h8 F1 => ?_)
  refine ao_it ?_ ?_
  · exact ao_jI F1 (av_cHall_allowed_b53 (F1.cl) Cv0)
  · refine ao_b2 F1 (av_cHall_isOwn (F1.cl)) (fun r13 h11 F2 => ?_)
    refine ao_it ?_ ?_
    · exact ao_jI F2 (av_cHall_allowed_b58 (F2.cl) Cv0)
    · exact ao_jI F2 (av_cHall_allowed_b53 (F2.cl) Cv0)
theorem av_cHall_allowed {C : Nat → Prop} {v0 : Nat} {v1 : Int} {v3 : Int} {h : Hp} (c : Cl C h) (Cv0 : C v0) : Ao (qI C h) (f_cHall_allowed v0 v1 v3 h) := by
  unfold f_cHall_allowed
  have F0 := Av.rf c
  refine ao_b2 F0 (av_cHall_isOwn (F0.cl)) (fun r3 h1 F1 => ?_)
  refine ao_it ?_ ?_
  · exact ao_jI F1 (av_cHall_allowed_b35 (F1.cl) Cv0)
  · refine ao_b2R F1 (av_cHall_way (F1.cl) Cv0) (fun r6 h4 F2 Cr6 => ?_)
    refine ao_it ao_no ?_
    refine ao_it ?_ ?_
    · exact ao_jI F2 (av_cHall_allowed_b35 (F2.cl) Cv0)
    · exact ao_jI F2 (av_cHall_allowed_b35 (F2.cl) Cv0)
theorem av_cHall_fits_b141 {C : Nat → Prop} {v0 : Nat} {h : Hp} (c : Cl C h) : Ao (qI C h) (f_cHall_fits_b141 v0 h) := by
  unfold f_cHall_fits_b141
  have F0 := Av.rf c
  exact ao_so F0
theorem av_cHall_fits_b107 {C : Nat → Prop} {v0 : Nat} {v2 : Int} {v6 : Int} {s0 : Int} {h : Hp} (c : Cl C h) : Ao (qI C h) (f_cHall_fits_b107 v0 v2 v6 s0 h) := by
  unfold f_cHall_fits_b107
  have F0 := Av.rf c
  refine ao_it ?_ ?_
  · exact ao_jI F0 (av_cHall_fits_b141 (F0.cl))
  · refine ao_it ?_ ?_
    · exact ao_so F0
    · exact ao_jI F0 (av_cHall_fits_b141 (F0.cl))
theorem av_cHall_fits_b82 {C : Nat → Prop} {v0 : Nat} {v1 : Int} {v2 : Int} {v5 : Nat} {v6 : Int} {h : Hp} (c : Cl C h) : Ao (qI C h) (f_cHall_fits_b82 v0 v1 v2 v5 v6 h) := by
  unfold f_cHall_fits_b82
  have F0 := Av.rf c
  refine ao_it ?_ ?_
  · refine ao_it ao_no ?_
    exact ao_jI F0 (av_cHall_fits_b107 (F0.cl))
  · refine ao_b2 F0 (av_cHall_rule (F0.cl)) (fun r9 h7 F1 => ?_)
    refine ao_it ao_no ?_
    refine ao_it ?_ ao_no
    exact ao_jI F1 (av_cHall_fits_b107 (F1.cl))
theorem av_cHall_fits_b66 {C : Nat → Prop} {v0 : Nat} {v1 : Int} {v2 : Int} {v4 : Int} {v5 : Nat} {v6 : Int} {h : Hp} (c : Cl C h) : Ao (qI C h) (f_cHall_fits_b66 v0 v1 v2 v4 v5 v6 h) := by
  unfold f_cHall_fits_b66
  have F0 := Av.rf c
  refine ao_it ?_ ?_
  · exact ao_jI F0 (av_cHall_fits_b82 (F0.cl))
  · refine ao_it ?_ ?_
    · exact ao_jI F0 (av_cHall_fits_b82 (F0.cl))
    · exact ao_so F0
theorem av_cHall_fits_b38 {C : Nat → Prop} {v0 : Nat} {v1 : Int} {v2 : Int} {v4 : Int} {v5 : Nat} {v6 : Int} {s0 : Int} {h : Hp} (c : Cl C h) : Ao (qI C h) (f_cHall_fits_b38 v0 v1 v2 v4 v5 v6 s0 h) := by
  unfold f_cHall_fits_b38
  have F0 := Av.rf c
  refine ao_it ?_ ?_
  · exact ao_jI F0 (av_cHall_fits_b66 (F0.cl))
  · refine ao_it ?_ ?_
    · exact ao_so F0
    · refine ao_it ?_ ?_
      · exact ao_jI F0 (av_cHall_fits_b66 (F0.cl))
      · refine ao_it ?_ ?_
        · exact ao_so F0
        · exact ao_jI F0 (av_cHall_fits_b66 (F0.cl))
theorem av_cHall_fits_b22 {C : Nat → Prop} {v0 : Nat} {v1 : Int} {v2 : Int} {v4 : Int} {v5 : Nat} {s0 : Int} {h : Hp} (c : Cl C h) : Ao (qI C h) (f_cHall_fits_b22 v0 v1 v2 v4 v5 s0 h) := by
  unfold f_cHall_fits_b22
  have F0 := Av.rf c
  refine ao_it ?_ ?_
  · refine ao_it ao_no ?_
    exact ao_jI F0 (av_cHall_fits_b38 (F0.cl))
  · exact ao_jI F0 (av_cHall_fits_b38 (F0.cl))
theorem av_cHall_fits {C : Nat → Prop} {v0 : Nat} {v1 : Int} {v2 : Int} {v4 : Int} {h : Hp} (c : Cl C h) : Ao (qI C h) (f_cHall_fits v0 v1 v2 v4 h) := by
  unfold f_cHall_fits
  have F0 := Av.rf c
  refine ao_it ao_no ?_
  refine ao_it ?_ ao_no
  refine ao_v (fun y3 => ?_)
  refine ao_it ?_ ?_
  · refine ao_it ao_no ?_
    exact ao_jI F0 (av_cHall_fits_b22 (F0.cl))
  · exact ao_jI F0 (av_cHall_fits_b22 (F0.cl))
theorem av_cHall_come_b7 {C : Nat → Prop} {k7 : Nat → Int → Nat → Hp → Option (Hp)} (hk7 : ∀ (v0 : Nat) (v1 : Int) (v2 : Nat) (h : Hp), Cl C h → C v0 → C v2 → Ao (qV C h) (k7 v0 v1 v2 h)) {v0 : Nat} {v1 : Int} {v2 : Nat} {h : Hp} (c : Cl C h) (Cv0 : C v0) (Cv2 : C v2) : Ao (qV C h) (f_cHall_come_b7 k7 v0 v1 v2 h) := by
  unfold f_cHall_come_b7
  have F0 := Av.rf c
  refine ao_it ao_no ?_
  refine ao_it ?_ ?_
  · exact ao_so F0
  · refine ao_b1 F0 (av_cHall_begin (F0.cl) Cv0) (fun h5 F1 => ?_)
    refine ao_I F1 Cv2 (fun h7 F2 => ?_)
    exact ao_jV F2 (hk7 _ _ _ _ (F2.cl) Cv0 Cv2)
theorem av_cHall_come_b7_lp {C : Nat → Prop} (n : Nat) : ∀ {v0 : Nat} {v1 : Int} {v2 : Nat} {h : Hp}, Cl C h → C v0 → C v2 → Ao (qV C h) (f_cHall_come_b7_lp n v0 v1 v2 h) := by
  induction n with
  | zero => intros; exact ao_no
  | succ n ih => intro v0 v1 v2 h c Cv0 Cv2; exact av_cHall_come_b7 (fun _ _ _ h => ih) c Cv0 Cv2
theorem av_cHall_come {C : Nat → Prop} {v0 : Nat} {v1 : Int} {h : Hp} (c : Cl C h) (Cv0 : C v0) : Ao (qV C h) (f_cHall_come v0 v1 h) := by
  unfold f_cHall_come
  have F0 := Av.rf c
  refine ao_b2R F0 (av_cHall_way (F0.cl) Cv0) (fun r3 h1 F1 Cr3 => ?_)
  exact ao_jV F1 (av_cHall_come_b7_lp FU (F1.cl) Cv0 Cr3)
theorem av_cHall_reach {C : Nat → Prop} {v0 : Nat} {v1 : Nat} {v2 : Int} {h : Hp} (c : Cl C h) (Cv0 : C v0) (Cv1 : C v1) : Ao (qV C h) (f_cHall_reach v0 v1 v2 h) := by
  unfold f_cHall_reach
  have F0 := Av.rf c
  refine ao_it ao_no ?_
  refine ao_I F0 Cv0 (fun h2 F1 => ?_)
  refine ao_I F1 Cv1 (fun h3 F2 => ?_)
  exact ao_so F2
theorem av_jArrays_copyOf_ABI {C : Nat → Prop} {v0 : Nat} {v1 : Int} {h : Hp} (c : Cl C h) : Ao (qR C h) (f_jArrays_copyOf_ABI v0 v1 h) := by
  unfold f_jArrays_copyOf_ABI
  have F0 := Av.rf c
  refine ao_it ao_no ?_
  refine ao_it ?_ ?_
  · refine ao_it ?_ ao_no
    refine ao_nw F0 (fun h3 F1 => ?_)
    refine ao_m (F0.cl.n) (fun y5 Cy5 => ?_)
    refine ao_it ?_ ao_no
    refine ao_cI F1 Cy5 (fun h8 F3 => ?_)
    exact ao_so ⟨F3, Cy5⟩
  · exact ao_no
theorem av_jArrays_copyOf_AJI {C : Nat → Prop} {v0 : Nat} {v1 : Int} {h : Hp} (c : Cl C h) : Ao (qR C h) (f_jArrays_copyOf_AJI v0 v1 h) := by
  unfold f_jArrays_copyOf_AJI
  have F0 := Av.rf c
  refine ao_it ao_no ?_
  refine ao_it ?_ ?_
  · refine ao_it ?_ ao_no
    refine ao_nw F0 (fun h3 F1 => ?_)
    refine ao_m (F0.cl.n) (fun y5 Cy5 => ?_)
    refine ao_it ?_ ao_no
    refine ao_cJ F1 Cy5 (fun h8 F3 => ?_)
    exact ao_so ⟨F3, Cy5⟩
  · exact ao_no
theorem av_cBlocks_make_b118 {C : Nat → Prop} {v0 : Nat} {v1 : Int} {v2 : Int} {v3 : Int} {h : Hp} (c : Cl C h) (Cv0 : C v0) : Ao (qI C h) (f_cBlocks_make_b118 v0 v1 v2 v3 h) := by
  unfold f_cBlocks_make_b118
  have F0 := Av.rf c
  refine ao_it ao_no ?_
  refine ao_it ?_ ao_no
  refine ao_J F0 (F0.cl.r Cv0) (fun h26 F1 => ?_)
  refine ao_it ao_no ?_
  refine ao_it ?_ ao_no
  refine ao_I F1 (F1.cl.r Cv0) (fun h29 F2 => ?_)
  refine ao_it ao_no ?_
  refine ao_it ?_ ao_no
  refine ao_I F2 (F2.cl.r Cv0) (fun h32 F3 => ?_)
  exact ao_so F3
theorem av_cBlocks_make_b106 {C : Nat → Prop} {v0 : Nat} {v1 : Int} {v2 : Int} {h : Hp} (c : Cl C h) (Cv0 : C v0) : Ao (qI C h) (f_cBlocks_make_b106 v0 v1 v2 h) := by
  unfold f_cBlocks_make_b106
  have F0 := Av.rf c
  refine ao_I F0 Cv0 (fun h22 F1 => ?_)
  refine ao_v (fun y23 => ?_)
  exact ao_jI F1 (av_cBlocks_make_b118 (F1.cl) Cv0)
theorem av_cBlocks_make {C : Nat → Prop} {v0 : Nat} {v1 : Int} {v2 : Int} {h : Hp} (c : Cl C h) (Cv0 : C v0) : Ao (qI C h) (f_cBlocks_make v0 v1 v2 h) := by
  unfold f_cBlocks_make
  have F0 := Av.rf c
  refine ao_v (fun y1 => ?_)
  refine ao_it ?_ ?_
  · refine ao_it ao_no ?_
    refine ao_it ?_ ?_
    · exact ao_jI F0 (av_cBlocks_make_b106 (F0.cl) Cv0)
    · refine ao_b2R F0 (av_jArrays_copyOf_ABI (F0.cl)) (fun r5 h3 F2 Cr5 => ?_)
      refine ao_R F2 Cv0 Cr5 (fun h6 F3 => ?_)
      refine ao_b2R F3 (av_jArrays_copyOf_AJI (F3.cl)) (fun r9 h7 F4 Cr9 => ?_)
      refine ao_R F4 Cv0 Cr9 (fun h10 F5 => ?_)
      refine ao_b2R F5 (av_jArrays_copyOf_AII (F5.cl)) (fun r13 h11 F6 Cr13 => ?_)
      refine ao_R F6 Cv0 Cr13 (fun h14 F7 => ?_)
      refine ao_b2R F7 (av_jArrays_copyOf_AII (F7.cl)) (fun r17 h15 F8 Cr17 => ?_)
      refine ao_R F8 Cv0 Cr17 (fun h18 F9 => ?_)
      exact ao_jI F9 (av_cBlocks_make_b106 (F9.cl) Cv0)
  · refine ao_it ao_no ?_
    refine ao_it ?_ ao_no
    refine ao_I F0 Cv0 (fun h21 F10 => ?_)
    exact ao_jI F10 (av_cBlocks_make_b118 (F10.cl) Cv0)
theorem av_cBlocks_block_b60 {C : Nat → Prop} {v0 : Nat} {v1 : Nat} {v2 : Int} {v3 : Int} {v4 : Int} {h : Hp} (c : Cl C h) (Cv0 : C v0) (Cv1 : C v1) : Ao (qI C h) (f_cBlocks_block_b60 v0 v1 v2 v3 v4 h) := by
  unfold f_cBlocks_block_b60
  have F0 := Av.rf c
  refine ao_b2 F0 (av_cBlocks_make (F0.cl) Cv0) (fun r12 h10 F1 => ?_)
  refine ao_it ?_ ?_
  · refine ao_it ao_no ?_
    refine ao_it ?_ ao_no
    refine ao_I F1 (F1.cl.r Cv0) (fun h15 F2 => ?_)
    exact ao_so F2
  · refine ao_it ao_no ?_
    refine ao_I F1 Cv1 (fun h17 F3 => ?_)
    exact ao_so F3
theorem av_cBlocks_block_b40 {C : Nat → Prop} {v0 : Nat} {v1 : Nat} {v2 : Int} {v3 : Int} {v4 : Int} {h : Hp} (c : Cl C h) (Cv0 : C v0) (Cv1 : C v1) : Ao (qI C h) (f_cBlocks_block_b40 v0 v1 v2 v3 v4 h) := by
  unfold f_cBlocks_block_b40
  have F0 := Av.rf c
  refine ao_it ?_ ?_
  · exact ao_jI F0 (av_cBlocks_block_b60 (F0.cl) Cv0 Cv1)
  · refine ao_it ao_no ?_
    refine ao_it ?_ ao_no
    refine ao_it ?_ ?_
    · exact ao_jI F0 (av_cBlocks_block_b60 (F0.cl) Cv0 Cv1)
    · exact ao_so F0
theorem av_cBlocks_block_b8 {C : Nat → Prop} {k8 : Nat → Nat → Int → Int → Int → Hp → Option (Int × Hp)} (hk8 : ∀ (v0 : Nat) (v1 : Nat) (v2 : Int) (v3 : Int) (v4 : Int) (h : Hp), Cl C h → C v0 → C v1 → Ao (qI C h) (k8 v0 v1 v2 v3 v4 h)) {v0 : Nat} {v1 : Nat} {v2 : Int} {v3 : Int} {v4 : Int} {h : Hp} (c : Cl C h) (Cv0 : C v0) (Cv1 : C v1) : Ao (qI C h) (f_cBlocks_block_b8 k8 v0 v1 v2 v3 v4 h) := by
  unfold f_cBlocks_block_b8
  have F0 := Av.rf c
  refine ao_it ?_ ?_
  · exact ao_jI F0 (av_cBlocks_block_b40 (F0.cl) Cv0 Cv1)
  · refine ao_it ao_no ?_
    refine ao_it ?_ ao_no
    refine ao_it ?_ ?_
    · exact ao_jI F0 (av_cBlocks_block_b40 (F0.cl) Cv0 Cv1)
    · refine ao_it ao_no ?_
      refine ao_it ?_ ao_no
      refine ao_v (fun y7 => ?_)
      exact ao_jI F0 (hk8 _ _ _ _ _ _ (F0.cl) Cv0 Cv1)
theorem av_cBlocks_block_b8_lp {C : Nat → Prop} (n : Nat) : ∀ {v0 : Nat} {v1 : Nat} {v2 : Int} {v3 : Int} {v4 : Int} {h : Hp}, Cl C h → C v0 → C v1 → Ao (qI C h) (f_cBlocks_block_b8_lp n v0 v1 v2 v3 v4 h) := by
  induction n with
  | zero => intros; exact ao_no
  | succ n ih => intro v0 v1 v2 v3 v4 h c Cv0 Cv1; exact av_cBlocks_block_b8 (fun _ _ _ _ _ h => ih) c Cv0 Cv1
theorem av_cBlocks_block {C : Nat → Prop} {v0 : Nat} {v1 : Nat} {v2 : Int} {h : Hp} (c : Cl C h) (Cv0 : C v0) (Cv1 : C v1) : Ao (qI C h) (f_cBlocks_block v0 v1 v2 h) := by
  unfold f_cBlocks_block
  have F0 := Av.rf c
  refine ao_it ao_no ?_
  refine ao_v (fun y2 => ?_)
  exact ao_jI F0 (av_cBlocks_block_b8_lp FU (F0.cl) Cv0 Cv1)
theorem av_cBlocks_put_b222 {C : Nat → Prop} {k136 : Nat → Nat → Int → Hp → Option (Hp)} (hk136 : ∀ (v0 : Nat) (v1 : Nat) (v6 : Int) (h : Hp), Cl C h → C v1 → Ao (qV C h) (k136 v0 v1 v6 h)) {v0 : Nat} {v1 : Nat} {s0 : Int} {h : Hp} (c : Cl C h) (Cv1 : C v1) : Ao (qV C h) (f_cBlocks_put_b222 k136 v0 v1 s0 h) := by
  unfold f_cBlocks_put_b222
  have F0 := Av.rf c
  exact ao_jV F0 (hk136 _ _ _ _ (F0.cl) Cv1)
theorem av_cBlocks_put_b194 {C : Nat → Prop} {k136 : Nat → Nat → Int → Hp → Option (Hp)} (hk136 : ∀ (v0 : Nat) (v1 : Nat) (v6 : Int) (h : Hp), Cl C h → C v1 → Ao (qV C h) (k136 v0 v1 v6 h)) {v0 : Nat} {v1 : Nat} {v6 : Int} {h : Hp} (c : Cl C h) (Cv1 : C v1) : Ao (qV C h) (f_cBlocks_put_b194 k136 v0 v1 v6 h) := by
  unfold f_cBlocks_put_b194
  have F0 := Av.rf c
  refine ao_it ao_no ?_
  refine ao_it ?_ ao_no
  refine ao_it ao_no ?_
  refine ao_it ?_ ?_
  · exact ao_jV F0 (av_cBlocks_put_b222 hk136 (F0.cl) Cv1)
  · refine ao_it ao_no ?_
    refine ao_it ?_ ao_no
    exact ao_jV F0 (av_cBlocks_put_b222 hk136 (F0.cl) Cv1)
theorem av_cBlocks_put_b142 {C : Nat → Prop} {k136 : Nat → Nat → Int → Hp → Option (Hp)} (hk136 : ∀ (v0 : Nat) (v1 : Nat) (v6 : Int) (h : Hp), Cl C h → C v1 → Ao (qV C h) (k136 v0 v1 v6 h)) {k142 : Nat → Nat → Int → Hp → Option (Hp)} (hk142 : ∀ (v0 : Nat) (v1 : Nat) (v6 : Int) (h : Hp), Cl C h → C v1 → Ao (qV C h) (k142 v0 v1 v6 h)) {v0 : Nat} {v1 : Nat} {v6 : Int} {h : Hp} (c : Cl C h) (Cv1 : C v1) : Ao (qV C h) (f_cBlocks_put_b142 k136 k142 v0 v1 v6 h) := by
  unfold f_cBlocks_put_b142
  have F0 := Av.rf c
  refine ao_it ao_no ?_
  refine ao_it ?_ ao_no
  refine ao_it ao_no ?_
  refine ao_it ?_ ?_
  · exact ao_jV F0 (av_cBlocks_put_b194 hk136 (F0.cl) Cv1)
  · refine ao_it ao_no ?_
    refine ao_it ?_ ao_no
    refine ao_it ?_ ?_
    · exact ao_jV F0 (av_cBlocks_put_b194 hk136 (F0.cl) Cv1)
    · refine ao_I F0 Cv1 (fun h27 F1 => ?_)
      exact ao_jV F1 (hk142 _ _ _ _ (F1.cl) Cv1)
theorem av_cBlocks_put_b142_lp {C : Nat → Prop} {k136 : Nat → Nat → Int → Hp → Option (Hp)} (hk136 : ∀ (v0 : Nat) (v1 : Nat) (v6 : Int) (h : Hp), Cl C h → C v1 → Ao (qV C h) (k136 v0 v1 v6 h)) (n : Nat) : ∀ {v0 : Nat} {v1 : Nat} {v6 : Int} {h : Hp}, Cl C h → C v1 → Ao (qV C h) (f_cBlocks_put_b142_lp k136 n v0 v1 v6 h) := by
  induction n with
  | zero => intros; exact ao_no
  | succ n ih => intro v0 v1 v6 h c Cv1; exact av_cBlocks_put_b142 hk136 (fun _ _ _ h => ih) c Cv1
theorem av_cBlocks_put_b136 {C : Nat → Prop} {k136 : Nat → Nat → Int → Hp → Option (Hp)} (hk136 : ∀ (v0 : Nat) (v1 : Nat) (v6 : Int) (h : Hp), Cl C h → C v1 → Ao (qV C h) (k136 v0 v1 v6 h)) {v0 : Nat} {v1 : Nat} {v6 : Int} {h : Hp} (c : Cl C h) (Cv1 : C v1) : Ao (qV C h) (f_cBlocks_put_b136 k136 v0 v1 v6 h) := by
  unfold f_cBlocks_put_b136
  have F0 := Av.rf c
  refine ao_it ?_ ?_
  · exact ao_so F0
  · exact ao_jV F0 (av_cBlocks_put_b142_lp hk136 FU (F0.cl) Cv1)
theorem av_cBlocks_put_b136_lp {C : Nat → Prop} (n : Nat) : ∀ {v0 : Nat} {v1 : Nat} {v6 : Int} {h : Hp}, Cl C h → C v1 → Ao (qV C h) (f_cBlocks_put_b136_lp n v0 v1 v6 h) := by
  induction n with
  | zero => intros; exact ao_no
  | succ n ih => intro v0 v1 v6 h c Cv1; exact av_cBlocks_put_b136 (fun _ _ _ h => ih) c Cv1
theorem av_cBlocks_put_b124 {C : Nat → Prop} {k15 : Nat → Nat → Int → Nat → Int → Int → Int → Int → Hp → Option (Hp)} (hk15 : ∀ (v0 : Nat) (v1 : Nat) (v2 : Int) (v3 : Nat) (v4 : Int) (v5 : Int) (v6 : Int) (v7 : Int) (h : Hp), Cl C h → C v0 → C v1 → Ao (qV C h) (k15 v0 v1 v2 v3 v4 v5 v6 v7 h)) {v0 : Nat} {v1 : Nat} {v2 : Int} {v3 : Nat} {v4 : Int} {v5 : Int} {v6 : Int} {v7 : Int} {h : Hp} (c : Cl C h) (Cv0 : C v0) (Cv1 : C v1) : Ao (qV C h) (f_cBlocks_put_b124 k15 v0 v1 v2 v3 v4 v5 v6 v7 h) := by
  unfold f_cBlocks_put_b124
  have F0 := Av.rf c
  exact ao_jV F0 (hk15 _ _ _ _ _ _ _ _ _ (F0.cl) Cv0 Cv1)
theorem av_cBlocks_put_b61 {C : Nat → Prop} {k15 : Nat → Nat → Int → Nat → Int → Int → Int → Int → Hp → Option (Hp)} (hk15 : ∀ (v0 : Nat) (v1 : Nat) (v2 : Int) (v3 : Nat) (v4 : Int) (v5 : Int) (v6 : Int) (v7 : Int) (h : Hp), Cl C h → C v0 → C v1 → Ao (qV C h) (k15 v0 v1 v2 v3 v4 v5 v6 v7 h)) {v0 : Nat} {v1 : Nat} {v2 : Int} {v3 : Nat} {v4 : Int} {v5 : Int} {v6 : Int} {v7 : Int} {v8 : Int} {h : Hp} (c : Cl C h) (Cv0 : C v0) (Cv1 : C v1) : Ao (qV C h) (f_cBlocks_put_b61 k15 v0 v1 v2 v3 v4 v5 v6 v7 v8 h) := by
  unfold f_cBlocks_put_b61
  have F0 := Av.rf c
  refine ao_it ao_no ?_
  refine ao_it ?_ ao_no
  refine ao_it ?_ ?_
  · refine ao_it ao_no ?_
    refine ao_it ?_ ao_no
    refine ao_it ao_no ?_
    refine ao_it ?_ ao_no
    refine ao_I F0 (F0.cl.r Cv0) (fun h17 F1 => ?_)
    refine ao_it ao_no ?_
    refine ao_it ?_ ao_no
    refine ao_it ?_ ao_no
    refine ao_J F1 (F1.cl.r Cv0) (fun h21 F2 => ?_)
    exact ao_jV F2 (av_cBlocks_put_b124 hk15 (F2.cl) Cv0 Cv1)
  · exact ao_jV F0 (av_cBlocks_put_b124 hk15 (F0.cl) Cv0 Cv1)
theorem av_cBlocks_put_b49 {C : Nat → Prop} {k15 : Nat → Nat → Int → Nat → Int → Int → Int → Int → Hp → Option (Hp)} (hk15 : ∀ (v0 : Nat) (v1 : Nat) (v2 : Int) (v3 : Nat) (v4 : Int) (v5 : Int) (v6 : Int) (v7 : Int) (h : Hp), Cl C h → C v0 → C v1 → Ao (qV C h) (k15 v0 v1 v2 v3 v4 v5 v6 v7 h)) {v0 : Nat} {v1 : Nat} {v2 : Int} {v3 : Nat} {v4 : Int} {v5 : Int} {v7 : Int} {v8 : Int} {h : Hp} (c : Cl C h) (Cv0 : C v0) (Cv1 : C v1) : Ao (qV C h) (f_cBlocks_put_b49 k15 v0 v1 v2 v3 v4 v5 v7 v8 h) := by
  unfold f_cBlocks_put_b49
  have F0 := Av.rf c
  refine ao_b2 F0 (av_cBlocks_block (F0.cl) Cv0 Cv1) (fun r10 h8 F1 => ?_)
  exact ao_jV F1 (av_cBlocks_put_b61 hk15 (F1.cl) Cv0 Cv1)
theorem av_cBlocks_put_b15 {C : Nat → Prop} {k15 : Nat → Nat → Int → Nat → Int → Int → Int → Int → Hp → Option (Hp)} (hk15 : ∀ (v0 : Nat) (v1 : Nat) (v2 : Int) (v3 : Nat) (v4 : Int) (v5 : Int) (v6 : Int) (v7 : Int) (h : Hp), Cl C h → C v0 → C v1 → Ao (qV C h) (k15 v0 v1 v2 v3 v4 v5 v6 v7 h)) {v0 : Nat} {v1 : Nat} {v2 : Int} {v3 : Nat} {v4 : Int} {v5 : Int} {v6 : Int} {v7 : Int} {h : Hp} (c : Cl C h) (Cv0 : C v0) (Cv1 : C v1) : Ao (qV C h) (f_cBlocks_put_b15 k15 v0 v1 v2 v3 v4 v5 v6 v7 h) := by
  unfold f_cBlocks_put_b15
  have F0 := Av.rf c
  refine ao_it ?_ ?_
  · refine ao_it ao_no ?_
    refine ao_v (fun y4 => ?_)
    exact ao_jV F0 (av_cBlocks_put_b136_lp FU (F0.cl) Cv1)
  · refine ao_v (fun y5 => ?_)
    refine ao_it ?_ ?_
    · exact ao_jV F0 (av_cBlocks_put_b49 hk15 (F0.cl) Cv0 Cv1)
    · refine ao_it ao_no ?_
      refine ao_it ?_ ao_no
      refine ao_it ?_ ?_
      · exact ao_jV F0 (av_cBlocks_put_b61 hk15 (F0.cl) Cv0 Cv1)
      · exact ao_jV F0 (av_cBlocks_put_b49 hk15 (F0.cl) Cv0 Cv1)
theorem av_cBlocks_put_b15_lp {C : Nat → Prop} (n : Nat) : ∀ {v0 : Nat} {v1 : Nat} {v2 : Int} {v3 : Nat} {v4 : Int} {v5 : Int} {v6 : Int} {v7 : Int} {h : Hp}, Cl C h → C v0 → C v1 → Ao (qV C h) (f_cBlocks_put_b15_lp n v0 v1 v2 v3 v4 v5 v6 v7 h) := by
  induction n with
  | zero => intros; exact ao_no
  | succ n ih => intro v0 v1 v2 v3 v4 v5 v6 v7 h c Cv0 Cv1; exact av_cBlocks_put_b15 (fun _ _ _ _ _ _ _ _ h => ih) c Cv0 Cv1
theorem av_cBlocks_put {C : Nat → Prop} {v0 : Nat} {v1 : Nat} {v2 : Int} {v3 : Nat} {v4 : Int} {v5 : Int} {h : Hp} (c : Cl C h) (Cv0 : C v0) (Cv1 : C v1) : Ao (qV C h) (f_cBlocks_put v0 v1 v2 v3 v4 v5 h) := by
  unfold f_cBlocks_put
  have F0 := Av.rf c
  refine ao_it ao_no ?_
  refine ao_v (fun y2 => ?_)
  exact ao_jV F0 (av_cBlocks_put_b15_lp FU (F0.cl) Cv0 Cv1)
theorem av_cHall_comes_b21 {C : Nat → Prop} {v0 : Nat} {v1 : Nat} {v2 : Int} {v4 : Nat} {v5 : Int} {v6 : Int} {h : Hp} (c : Cl C h) (Cv0 : C v0) (Cv1 : C v1) : Ao (qV C h) (f_cHall_comes_b21 v0 v1 v2 v4 v5 v6 h) := by
  unfold f_cHall_comes_b21
  have F0 := Av.rf c
  refine ao_it ao_no ?_
  refine ao_b2 F0 (av_cReceiving_isLive (F0.cl)) (fun r8 h6 F1 => ?_)
  refine ao_it ?_ ?_
  · refine ao_it ao_no ?_
    refine ao_b1 F1 (av_cBlocks_put (F1.cl) (F1.cl.r Cv0) Cv1) (fun h10 F2 => ?_)
    refine ao_b1 F2 (av_cReceiving_settle (F2.cl) Cv1) (fun h12 F3 => ?_)
    exact ao_so F3
  · exact ao_so F1
theorem av_cHall_comes {C : Nat → Prop} {v0 : Nat} {v1 : Nat} {v2 : Int} {v3 : Int} {v4 : Nat} {v5 : Int} {v6 : Int} {h : Hp} (c : Cl C h) (Cv0 : C v0) (Cv1 : C v1) : Ao (qV C h) (f_cHall_comes v0 v1 v2 v3 v4 v5 v6 h) := by
  unfold f_cHall_comes
  have F0 := Av.rf c
  refine ao_b1 F0 (av_cHall_reach (F0.cl) Cv0 Cv1) (fun h1 F1 => ?_)
  refine ao_it ?_ ?_
  · exact ao_jV F1 (av_cHall_comes_b21 (F1.cl) Cv0 Cv1)
  · refine ao_it ao_no ?_
    refine ao_I F1 Cv1 (fun h4 F2 => ?_)
    exact ao_jV F2 (av_cHall_comes_b21 (F2.cl) Cv0 Cv1)
theorem av_cBlocks_clear_b0 {C : Nat → Prop} {k0 : Nat → Nat → Hp → Option (Hp)} (hk0 : ∀ (v0 : Nat) (v1 : Nat) (h : Hp), Cl C h → C v0 → C v1 → Ao (qV C h) (k0 v0 v1 h)) {v0 : Nat} {v1 : Nat} {h : Hp} (c : Cl C h) (Cv0 : C v0) (Cv1 : C v1) : Ao (qV C h) (f_cBlocks_clear_b0 k0 v0 v1 h) := by
  unfold f_cBlocks_clear_b0
  have F0 := Av.rf c
  refine ao_it ao_no ?_
  refine ao_it ?_ ?_
  · exact ao_so F0
  · refine ao_b1 F0 (av_cBlocks_drop (F0.cl) Cv0 Cv1) (fun h2 F1 => ?_)
    exact ao_jV F1 (hk0 _ _ _ (F1.cl) Cv0 Cv1)
theorem av_cBlocks_clear_b0_lp {C : Nat → Prop} (n : Nat) : ∀ {v0 : Nat} {v1 : Nat} {h : Hp}, Cl C h → C v0 → C v1 → Ao (qV C h) (f_cBlocks_clear_b0_lp n v0 v1 h) := by
  induction n with
  | zero => intros; exact ao_no
  | succ n ih => intro v0 v1 h c Cv0 Cv1; exact av_cBlocks_clear_b0 (fun _ _ h => ih) c Cv0 Cv1
theorem av_cBlocks_clear {C : Nat → Prop} {v0 : Nat} {v1 : Nat} {h : Hp} (c : Cl C h) (Cv0 : C v0) (Cv1 : C v1) : Ao (qV C h) (f_cBlocks_clear v0 v1 h) := by
  unfold f_cBlocks_clear
  have F0 := Av.rf c
  exact ao_jV F0 (av_cBlocks_clear_b0_lp FU (F0.cl) Cv0 Cv1)
theorem av_cHall_isReset {C : Nat → Prop} {v0 : Nat} {v1 : Nat} {v2 : Int} {v4 : Int} {h : Hp} (c : Cl C h) (Cv0 : C v0) (Cv1 : C v1) : Ao (qV C h) (f_cHall_isReset v0 v1 v2 v4 h) := by
  unfold f_cHall_isReset
  have F0 := Av.rf c
  refine ao_b1 F0 (av_cHall_reach (F0.cl) Cv0 Cv1) (fun h1 F1 => ?_)
  refine ao_it ao_no ?_
  refine ao_b2 F1 (av_cReceiving_isLive (F1.cl)) (fun r6 h4 F2 => ?_)
  refine ao_it ?_ ?_
  · refine ao_I F2 Cv1 (fun h7 F3 => ?_)
    refine ao_J F3 Cv1 (fun h8 F4 => ?_)
    refine ao_I F4 Cv1 (fun h9 F5 => ?_)
    refine ao_I F5 Cv0 (fun h10 F6 => ?_)
    refine ao_it ao_no ?_
    refine ao_b1 F6 (av_cBlocks_clear (F6.cl) (F6.cl.r Cv0) Cv1) (fun h12 F7 => ?_)
    refine ao_b1 F7 (av_cHall_grow_ (F7.cl) Cv0) (fun h14 F8 => ?_)
    exact ao_so F8
  · exact ao_so F2
theorem av_cHall_take_b329 {C : Nat → Prop} {v0 : Nat} {v12 : Int} {v13 : Int} {h : Hp} (c : Cl C h) (Cv0 : C v0) : Ao (qI C h) (f_cHall_take_b329 v0 v12 v13 h) := by
  unfold f_cHall_take_b329
  have F0 := Av.rf c
  refine ao_b1 F0 (av_cHall_mayBeOver (F0.cl) Cv0) (fun h49 F1 => ?_)
  exact ao_so F1
theorem av_cHall_take_b308 {C : Nat → Prop} {v0 : Nat} {v1 : Int} {v4 : Int} {v6 : Int} {v12 : Int} {v13 : Int} {h : Hp} (c : Cl C h) (Cv0 : C v0) : Ao (qI C h) (f_cHall_take_b308 v0 v1 v4 v6 v12 v13 h) := by
  unfold f_cHall_take_b308
  have F0 := Av.rf c
  refine ao_it ?_ ?_
  · exact ao_jI F0 (av_cHall_take_b329 (F0.cl) Cv0)
  · refine ao_it ao_no ?_
    refine ao_it ?_ ao_no
    refine ao_b1 F0 (av_cHall_isReset (F0.cl) Cv0 (F0.cl.r (F0.cl.r Cv0))) (fun h47 F1 => ?_)
    exact ao_jI F1 (av_cHall_take_b329 (F1.cl) Cv0)
theorem av_cHall_take_b299 {C : Nat → Prop} {v0 : Nat} {v1 : Int} {v4 : Int} {v6 : Int} {v8 : Nat} {v9 : Int} {v10 : Int} {v12 : Int} {v13 : Int} {s0 : Nat} {s1 : Nat} {s2 : Int} {s3 : Int} {h : Hp} (c : Cl C h) (Cv0 : C v0) (Cs0 : C s0) (Cs1 : C s1) : Ao (qI C h) (f_cHall_take_b299 v0 v1 v4 v6 v8 v9 v10 v12 v13 s0 s1 s2 s3 h) := by
  unfold f_cHall_take_b299
  have F0 := Av.rf c
  refine ao_it ao_no ?_
  refine ao_b1 F0 (av_cHall_comes (F0.cl) Cs0 Cs1) (fun h52 F1 => ?_)
  exact ao_jI F1 (av_cHall_take_b308 (F1.cl) Cv0)
theorem av_cHall_take_b270 {C : Nat → Prop} {v0 : Nat} {v1 : Int} {v4 : Int} {v6 : Int} {v8 : Nat} {v9 : Int} {v10 : Int} {v12 : Int} {v13 : Int} {h : Hp} (c : Cl C h) (Cv0 : C v0) : Ao (qI C h) (f_cHall_take_b270 v0 v1 v4 v6 v8 v9 v10 v12 v13 h) := by
  unfold f_cHall_take_b270
  have F0 := Av.rf c
  refine ao_it ?_ ?_
  · exact ao_jI F0 (av_cHall_take_b308 (F0.cl) Cv0)
  · refine ao_it ao_no ?_
    refine ao_it ?_ ao_no
    refine ao_it ?_ ?_
    · exact ao_jI F0 (av_cHall_take_b299 (F0.cl) Cv0 Cv0 (F0.cl.r (F0.cl.r Cv0)))
    · exact ao_jI F0 (av_cHall_take_b299 (F0.cl) Cv0 Cv0 (F0.cl.r (F0.cl.r Cv0)))
theorem av_cHall_take_b240 {C : Nat → Prop} {v0 : Nat} {v1 : Int} {v4 : Int} {v6 : Int} {v8 : Nat} {v9 : Int} {v10 : Int} {v12 : Int} {v13 : Int} {h : Hp} (c : Cl C h) (Cv0 : C v0) : Ao (qI C h) (f_cHall_take_b240 v0 v1 v4 v6 v8 v9 v10 v12 v13 h) := by
  unfold f_cHall_take_b240
  have F0 := Av.rf c
  refine ao_it ?_ ?_
  · exact ao_jI F0 (av_cHall_take_b270 (F0.cl) Cv0)
  · refine ao_it ao_no ?_
    refine ao_it ?_ ao_no
    refine ao_it ao_no ?_
    refine ao_b2 F0 (av_cSending_isLive (F0.cl)) (fun r37 h35 F1 => ?_)
    refine ao_it ?_ ?_
    · exact ao_jI F1 (av_cHall_take_b270 (F1.cl) Cv0)
    · refine ao_it ao_no ?_
      refine ao_it ?_ ao_no
      refine ao_it ao_no ?_
      refine ao_b1 F1 (av_cSending_reset (F1.cl) (F1.cl.r (F1.cl.r Cv0))) (fun h41 F2 => ?_)
      exact ao_jI F2 (av_cHall_take_b270 (F2.cl) Cv0)
theorem av_cHall_take_b201 {C : Nat → Prop} {v0 : Nat} {v1 : Int} {v4 : Int} {v6 : Int} {v8 : Nat} {v9 : Int} {v10 : Int} {v12 : Int} {h : Hp} (c : Cl C h) (Cv0 : C v0) : Ao (qI C h) (f_cHall_take_b201 v0 v1 v4 v6 v8 v9 v10 v12 h) := by
  unfold f_cHall_take_b201
  have F0 := Av.rf c
  refine ao_b2 F0 (av_cHall_isOver (F0.cl)) (fun r26 h24 F1 => ?_)
  refine ao_it ?_ ?_
  · exact ao_jI F1 (av_cHall_take_b240 (F1.cl) Cv0)
  · refine ao_it ao_no ?_
    refine ao_it ?_ ao_no
    refine ao_it ?_ ao_no
    refine ao_it ao_no ?_
    refine ao_J F1 (F1.cl.r (F1.cl.r Cv0)) (fun h31 F2 => ?_)
    exact ao_jI F2 (av_cHall_take_b240 (F2.cl) Cv0)
theorem av_cHall_take_b177 {C : Nat → Prop} {v0 : Nat} {v1 : Int} {v4 : Int} {v6 : Int} {v8 : Nat} {v9 : Int} {v10 : Int} {v11 : Int} {v12 : Int} {h : Hp} (c : Cl C h) (Cv0 : C v0) : Ao (qI C h) (f_cHall_take_b177 v0 v1 v4 v6 v8 v9 v10 v11 v12 h) := by
  unfold f_cHall_take_b177
  have F0 := Av.rf c
  refine ao_it ?_ ?_
  · refine ao_b2 F0 (av_cHall_isOwn (F0.cl)) (fun r21 h19 F1 => ?_)
    refine ao_it ?_ ?_
    · exact ao_jI F1 (av_cHall_take_b201 (F1.cl) Cv0)
    · refine ao_b1 F1 (av_cHall_come (F1.cl) Cv0) (fun h22 F2 => ?_)
      exact ao_jI F2 (av_cHall_take_b201 (F2.cl) Cv0)
  · exact ao_so F0
theorem av_cHall_take_b161 {C : Nat → Prop} {v0 : Nat} {v1 : Int} {v4 : Int} {v6 : Int} {v8 : Nat} {v9 : Int} {v10 : Int} {v11 : Int} {v12 : Int} {h : Hp} (c : Cl C h) (Cv0 : C v0) : Ao (qI C h) (f_cHall_take_b161 v0 v1 v4 v6 v8 v9 v10 v11 v12 h) := by
  unfold f_cHall_take_b161
  have F0 := Av.rf c
  refine ao_it ?_ ?_
  · exact ao_jI F0 (av_cHall_take_b177 (F0.cl) Cv0)
  · refine ao_b2 F0 (av_cHall_fits (F0.cl)) (fun r18 h16 F1 => ?_)
    exact ao_jI F1 (av_cHall_take_b177 (F1.cl) Cv0)
theorem av_cHall_take_b156 {C : Nat → Prop} {v0 : Nat} {v1 : Int} {v4 : Int} {v6 : Int} {v8 : Nat} {v9 : Int} {v10 : Int} {v12 : Int} {s0 : Nat} {s1 : Int} {s2 : Int} {s3 : Int} {h : Hp} (c : Cl C h) (Cv0 : C v0) : Ao (qI C h) (f_cHall_take_b156 v0 v1 v4 v6 v8 v9 v10 v12 s0 s1 s2 s3 h) := by
  unfold f_cHall_take_b156
  have F0 := Av.rf c
  refine ao_it ao_no ?_
  refine ao_b2 F0 (av_cHall_fits (F0.cl)) (fun r15 h13 F1 => ?_)
  exact ao_jI F1 (av_cHall_take_b161 (F1.cl) Cv0)
theorem av_cHall_take_b112 {C : Nat → Prop} {v0 : Nat} {v1 : Int} {v2 : Int} {v4 : Int} {v6 : Int} {v8 : Nat} {v9 : Int} {v10 : Int} {s0 : Nat} {s1 : Int} {s2 : Int} {h : Hp} (c : Cl C h) (Cv0 : C v0) (Cs0 : C s0) : Ao (qI C h) (f_cHall_take_b112 v0 v1 v2 v4 v6 v8 v9 v10 s0 s1 s2 h) := by
  unfold f_cHall_take_b112
  have F0 := Av.rf c
  refine ao_it ao_no ?_
  refine ao_b2 F0 (av_cHall_allowed (F0.cl) Cs0) (fun r10 h8 F1 => ?_)
  refine ao_it ?_ ?_
  · refine ao_v (fun y11 => ?_)
    refine ao_it ?_ ?_
    · exact ao_jI F1 (av_cHall_take_b161 (F1.cl) Cv0)
    · refine ao_it ?_ ?_
      · exact ao_jI F1 (av_cHall_take_b156 (F1.cl) Cv0)
      · exact ao_jI F1 (av_cHall_take_b156 (F1.cl) Cv0)
  · exact ao_so F1
theorem av_cHall_take_b107 {C : Nat → Prop} {v0 : Nat} {v1 : Int} {v2 : Int} {v4 : Int} {v6 : Int} {v8 : Nat} {v9 : Int} {v10 : Int} {s0 : Nat} {s1 : Int} {h : Hp} (c : Cl C h) (Cv0 : C v0) (Cs0 : C s0) : Ao (qI C h) (f_cHall_take_b107 v0 v1 v2 v4 v6 v8 v9 v10 s0 s1 h) := by
  unfold f_cHall_take_b107
  have F0 := Av.rf c
  exact ao_jI F0 (av_cHall_take_b112 (F0.cl) Cv0 Cs0)
theorem av_cHall_take_b94 {C : Nat → Prop} {v0 : Nat} {v1 : Int} {v2 : Int} {v4 : Int} {v6 : Int} {v8 : Nat} {v9 : Int} {v10 : Int} {h : Hp} (c : Cl C h) (Cv0 : C v0) : Ao (qI C h) (f_cHall_take_b94 v0 v1 v2 v4 v6 v8 v9 v10 h) := by
  unfold f_cHall_take_b94
  have F0 := Av.rf c
  refine ao_it ?_ ?_
  · exact ao_jI F0 (av_cHall_take_b107 (F0.cl) Cv0 Cv0)
  · refine ao_it ?_ ?_
    · exact ao_jI F0 (av_cHall_take_b112 (F0.cl) Cv0 Cv0)
    · exact ao_jI F0 (av_cHall_take_b107 (F0.cl) Cv0 Cv0)
theorem av_cHall_take_b64 {C : Nat → Prop} {v0 : Nat} {v1 : Int} {v2 : Int} {v4 : Int} {v6 : Int} {v8 : Nat} {v9 : Int} {v10 : Int} {h : Hp} (c : Cl C h) (Cv0 : C v0) : Ao (qI C h) (f_cHall_take_b64 v0 v1 v2 v4 v6 v8 v9 v10 h) := by
  unfold f_cHall_take_b64
  have F0 := Av.rf c
  refine ao_it ?_ ?_
  · exact ao_jI F0 (av_cHall_take_b94 (F0.cl) Cv0)
  · refine ao_it ?_ ?_
    · exact ao_jI F0 (av_cHall_take_b94 (F0.cl) Cv0)
    · refine ao_it ?_ ?_
      · exact ao_jI F0 (av_cHall_take_b94 (F0.cl) Cv0)
      · refine ao_it ?_ ?_
        · exact ao_jI F0 (av_cHall_take_b94 (F0.cl) Cv0)
        · refine ao_it ?_ ?_
          · exact ao_jI F0 (av_cHall_take_b94 (F0.cl) Cv0)
          · exact ao_so F0
theorem av_cHall_take_b30 {C : Nat → Prop} {v0 : Nat} {v1 : Int} {v2 : Int} {v4 : Int} {v6 : Int} {v8 : Nat} {v9 : Int} {v10 : Int} {h : Hp} (c : Cl C h) (Cv0 : C v0) : Ao (qI C h) (f_cHall_take_b30 v0 v1 v2 v4 v6 v8 v9 v10 h) := by
  unfold f_cHall_take_b30
  have F0 := Av.rf c
  refine ao_it ao_no ?_
  refine ao_it ?_ ao_no
  refine ao_it ?_ ao_no
  refine ao_it ao_no ?_
  refine ao_J F0 (F0.cl.r (F0.cl.r Cv0)) (fun h6 F1 => ?_)
  exact ao_jI F1 (av_cHall_take_b64 (F1.cl) Cv0)
theorem av_cHall_take_b18 {C : Nat → Prop} {v0 : Nat} {v1 : Int} {v2 : Int} {v4 : Int} {v6 : Int} {v8 : Nat} {v9 : Int} {v10 : Int} {h : Hp} (c : Cl C h) (Cv0 : C v0) : Ao (qI C h) (f_cHall_take_b18 v0 v1 v2 v4 v6 v8 v9 v10 h) := by
  unfold f_cHall_take_b18
  have F0 := Av.rf c
  refine ao_it ?_ ?_
  · exact ao_jI F0 (av_cHall_take_b30 (F0.cl) Cv0)
  · refine ao_it ?_ ?_
    · exact ao_jI F0 (av_cHall_take_b64 (F0.cl) Cv0)
    · exact ao_jI F0 (av_cHall_take_b30 (F0.cl) Cv0)
theorem av_cHall_take {C : Nat → Prop} {v0 : Nat} {v1 : Int} {v2 : Int} {v4 : Int} {v6 : Int} {v8 : Nat} {v9 : Int} {v10 : Int} {h : Hp} (c : Cl C h) (Cv0 : C v0) : Ao (qI C h) (f_cHall_take v0 v1 v2 v4 v6 v8 v9 v10 h) := by
  unfold f_cHall_take
  have F0 := Av.rf c
  refine ao_it ?_ ?_
  · exact ao_jI F0 (av_cHall_take_b18 (F0.cl) Cv0)
  · refine ao_J F0 Cv0 (fun h1 F1 => ?_)
    exact ao_jI F1 (av_cHall_take_b18 (F1.cl) Cv0)
theorem av_cSide_frame_b228 {C : Nat → Prop} {v0 : Nat} {h : Hp} (c : Cl C h) (Cv0 : C v0) : Ao (qI C h) (f_cSide_frame_b228 v0 h) := by
  unfold f_cSide_frame_b228
  have F0 := Av.rf c
  refine ao_it ao_no ?_
  refine ao_it ao_no ?_
  refine ao_b2 F0 (av_cHall_take (F0.cl) (F0.cl.r Cv0)) (fun r83 h81 F1 => ?_)
  exact ao_so F1
theorem av_cSide_frame_b218 {C : Nat → Prop} {v0 : Nat} {h : Hp} (c : Cl C h) (Cv0 : C v0) : Ao (qI C h) (f_cSide_frame_b218 v0 h) := by
  unfold f_cSide_frame_b218
  have F0 := Av.rf c
  refine ao_b1 F0 (av_cSide_drains (F0.cl) Cv0) (fun h77 F1 => ?_)
  exact ao_so F1
theorem av_cSide_frame_b146 {C : Nat → Prop} {v0 : Nat} {v1 : Int} {h : Hp} (c : Cl C h) (Cv0 : C v0) : Ao (qI C h) (f_cSide_frame_b146 v0 v1 h) := by
  unfold f_cSide_frame_b146
  have F0 := Av.rf c
  refine ao_b2 F0 (av_cSide_acknowledged (F0.cl) Cv0) (fun r76 h74 F1 => ?_)
  exact ao_so F1
theorem av_cSide_frame_b158 {C : Nat → Prop} {v0 : Nat} {h : Hp} (c : Cl C h) (Cv0 : C v0) : Ao (qI C h) (f_cSide_frame_b158 v0 h) := by
  unfold f_cSide_frame_b158
  have F0 := Av.rf c
  refine ao_it ?_ ?_
  · refine ao_it ao_no ?_
    refine ao_it ?_ ?_
    · exact ao_so F0
    · refine ao_it ao_no ?_
      refine ao_it ?_ ?_
      · exact ao_so F0
      · refine ao_b1 F0 (av_cSide_confirm (F0.cl) Cv0) (fun h72 F1 => ?_)
        exact ao_so F1
  · exact ao_so F0
theorem av_cSide_frame {C : Nat → Prop} {v0 : Nat} {v1 : Int} {h : Hp} (c : Cl C h) (Cv0 : C v0) : Ao (qI C h) (f_cSide_frame v0 v1 h) := by
  unfold f_cSide_frame
  have F0 := Av.rf c
  refine ao_it ao_no ?_
  refine ao_it ?_ ?_
  · exact ao_so F0
  · refine ao_it ?_ ?_
    · exact ao_so F0
    · refine ao_it ?_ ?_
      · exact ao_jI F0 (av_cSide_frame_b146 (F0.cl) Cv0)
      · refine ao_it ?_ ?_
        · exact ao_jI F0 (av_cSide_frame_b146 (F0.cl) Cv0)
        · refine ao_it ?_ ?_
          · exact ao_jI F0 (av_cSide_frame_b228 (F0.cl) Cv0)
          · refine ao_it ?_ ?_
            · exact ao_jI F0 (av_cSide_frame_b228 (F0.cl) Cv0)
            · refine ao_it ?_ ?_
              · refine ao_b2 F0 (av_cSide_greets (F0.cl) Cv0) (fun r18 h16 F1 => ?_)
                exact ao_so F1
              · refine ao_it ?_ ?_
                · exact ao_jI F0 (av_cSide_frame_b158 (F0.cl) Cv0)
                · refine ao_it ?_ ?_
                  · exact ao_jI F0 (av_cSide_frame_b228 (F0.cl) Cv0)
                  · refine ao_it ?_ ?_
                    · exact ao_jI F0 (av_cSide_frame_b228 (F0.cl) Cv0)
                    · refine ao_it ?_ ?_
                      · exact ao_jI F0 (av_cSide_frame_b228 (F0.cl) Cv0)
                      · refine ao_it ?_ ?_
                        · exact ao_jI F0 (av_cSide_frame_b228 (F0.cl) Cv0)
                        · refine ao_it ?_ ?_
                          · exact ao_jI F0 (av_cSide_frame_b228 (F0.cl) Cv0)
                          · refine ao_it ?_ ?_
                            · exact ao_jI F0 (av_cSide_frame_b228 (F0.cl) Cv0)
                            · refine ao_it ?_ ?_
                              · exact ao_jI F0 (av_cSide_frame_b228 (F0.cl) Cv0)
                              · refine ao_it ?_ ?_
                                · exact ao_jI F0 (av_cSide_frame_b228 (F0.cl) Cv0)
                                · refine ao_it ?_ ?_
                                  · exact ao_jI F0 (av_cSide_frame_b228 (F0.cl) Cv0)
                                  · refine ao_it ?_ ?_
                                    · exact ao_jI F0 (av_cSide_frame_b228 (F0.cl) Cv0)
                                    · refine ao_it ?_ ?_
                                      · exact ao_jI F0 (av_cSide_frame_b228 (F0.cl) Cv0)
                                      · refine ao_it ?_ ?_
                                        · exact ao_jI F0 (av_cSide_frame_b228 (F0.cl) Cv0)
                                        · refine ao_it ?_ ?_
                                          · exact ao_jI F0 (av_cSide_frame_b228 (F0.cl) Cv0)
                                          · refine ao_it ?_ ?_
                                            · exact ao_jI F0 (av_cSide_frame_b228 (F0.cl) Cv0)
                                            · refine ao_it ?_ ?_
                                              · exact ao_jI F0 (av_cSide_frame_b228 (F0.cl) Cv0)
                                              · refine ao_it ?_ ?_
                                                · exact ao_jI F0 (av_cSide_frame_b228 (F0.cl) Cv0)
                                                · refine ao_it ?_ ?_
                                                  · exact ao_so F0
                                                  · refine ao_it ?_ ?_
                                                    · exact ao_so F0
                                                    · refine ao_it ?_ ?_
                                                      · refine ao_I F0 Cv0 (fun h59 F2 => ?_)
                                                        refine ao_it ao_no ?_
                                                        refine ao_J F2 Cv0 (fun h61 F3 => ?_)
                                                        exact ao_so F3
                                                      · refine ao_it ?_ ?_
                                                        · exact ao_so F0
                                                        · refine ao_it ?_ ?_
                                                          · exact ao_jI F0 (av_cSide_frame_b218 (F0.cl) Cv0)
                                                          · refine ao_it ?_ ?_
                                                            · exact ao_jI F0 (av_cSide_frame_b218 (F0.cl) Cv0)
                                                            · refine ao_it ?_ ?_
                                                              · exact ao_jI F0 (av_cSide_frame_b158 (F0.cl) Cv0)
                                                              · exact ao_jI F0 (av_cSide_frame_b228 (F0.cl) Cv0)
theorem av_cRanges_remove_b12 {C : Nat → Prop} {k12 : Nat → Int → Hp → Option (Hp)} (hk12 : ∀ (v0 : Nat) (v2 : Int) (h : Hp), Cl C h → C v0 → Ao (qV C h) (k12 v0 v2 h)) {v0 : Nat} {v2 : Int} {h : Hp} (c : Cl C h) (Cv0 : C v0) : Ao (qV C h) (f_cRanges_remove_b12 k12 v0 v2 h) := by
  unfold f_cRanges_remove_b12
  have F0 := Av.rf c
  refine ao_it ?_ ?_
  · exact ao_so F0
  · refine ao_it ao_no ?_
    refine ao_it ?_ ao_no
    refine ao_it ?_ ao_no
    refine ao_J F0 (F0.cl.r Cv0) (fun h5 F1 => ?_)
    refine ao_it ao_no ?_
    refine ao_it ?_ ao_no
    refine ao_it ?_ ao_no
    refine ao_J F1 (F1.cl.r Cv0) (fun h9 F2 => ?_)
    exact ao_jV F2 (hk12 _ _ _ (F2.cl) Cv0)
theorem av_cRanges_remove_b12_lp {C : Nat → Prop} (n : Nat) : ∀ {v0 : Nat} {v2 : Int} {h : Hp}, Cl C h → C v0 → Ao (qV C h) (f_cRanges_remove_b12_lp n v0 v2 h) := by
  induction n with
  | zero => intros; exact ao_no
  | succ n ih => intro v0 v2 h c Cv0; exact av_cRanges_remove_b12 (fun _ _ h => ih) c Cv0
theorem av_cRanges_remove {C : Nat → Prop} {v0 : Nat} {v1 : Int} {h : Hp} (c : Cl C h) (Cv0 : C v0) : Ao (qV C h) (f_cRanges_remove v0 v1 h) := by
  unfold f_cRanges_remove
  have F0 := Av.rf c
  refine ao_I F0 Cv0 (fun h1 F1 => ?_)
  exact ao_jV F1 (av_cRanges_remove_b12_lp FU (F1.cl) Cv0)
theorem av_cRanges_insert_b6 {C : Nat → Prop} {k6 : Nat → Int → Int → Int → Hp → Option (Hp)} (hk6 : ∀ (v0 : Nat) (v1 : Int) (v2 : Int) (v4 : Int) (h : Hp), Cl C h → C v0 → Ao (qV C h) (k6 v0 v1 v2 v4 h)) {v0 : Nat} {v1 : Int} {v2 : Int} {v4 : Int} {h : Hp} (c : Cl C h) (Cv0 : C v0) : Ao (qV C h) (f_cRanges_insert_b6 k6 v0 v1 v2 v4 h) := by
  unfold f_cRanges_insert_b6
  have F0 := Av.rf c
  refine ao_it ?_ ?_
  · refine ao_it ao_no ?_
    refine ao_it ?_ ao_no
    refine ao_J F0 (F0.cl.r Cv0) (fun h4 F1 => ?_)
    refine ao_it ao_no ?_
    refine ao_it ?_ ao_no
    refine ao_J F1 (F1.cl.r Cv0) (fun h7 F2 => ?_)
    refine ao_I F2 Cv0 (fun h8 F3 => ?_)
    exact ao_so F3
  · refine ao_it ao_no ?_
    refine ao_it ?_ ao_no
    refine ao_it ?_ ao_no
    refine ao_J F0 (F0.cl.r Cv0) (fun h12 F4 => ?_)
    refine ao_it ao_no ?_
    refine ao_it ?_ ao_no
    refine ao_it ?_ ao_no
    refine ao_J F4 (F4.cl.r Cv0) (fun h16 F5 => ?_)
    exact ao_jV F5 (hk6 _ _ _ _ _ (F5.cl) Cv0)
theorem av_cRanges_insert_b6_lp {C : Nat → Prop} (n : Nat) : ∀ {v0 : Nat} {v1 : Int} {v2 : Int} {v4 : Int} {h : Hp}, Cl C h → C v0 → Ao (qV C h) (f_cRanges_insert_b6_lp n v0 v1 v2 v4 h) := by
  induction n with
  | zero => intros; exact ao_no
  | succ n ih => intro v0 v1 v2 v4 h c Cv0; exact av_cRanges_insert_b6 (fun _ _ _ _ h => ih) c Cv0
theorem av_cRanges_insert {C : Nat → Prop} {v0 : Nat} {v1 : Int} {v2 : Int} {h : Hp} (c : Cl C h) (Cv0 : C v0) : Ao (qV C h) (f_cRanges_insert v0 v1 v2 h) := by
  unfold f_cRanges_insert
  have F0 := Av.rf c
  refine ao_v (fun y1 => ?_)
  exact ao_jV F0 (av_cRanges_insert_b6_lp FU (F0.cl) Cv0)
theorem av_cRanges_add_b92 {C : Nat → Prop} {v0 : Nat} {v1 : Int} {v3 : Int} {v4 : Int} {v5 : Int} {h : Hp} (c : Cl C h) (Cv0 : C v0) : Ao (qV C h) (f_cRanges_add_b92 v0 v1 v3 v4 v5 h) := by
  unfold f_cRanges_add_b92
  have F0 := Av.rf c
  refine ao_it ?_ ?_
  · refine ao_it ?_ ?_
    · refine ao_b1 F0 (av_cRanges_insert (F0.cl) Cv0) (fun h14 F1 => ?_)
      refine ao_it ?_ ?_
      · exact ao_so F1
      · refine ao_I F1 Cv0 (fun h16 F2 => ?_)
        refine ao_it ao_no ?_
        refine ao_it ?_ ao_no
        refine ao_J F2 Cv0 (fun h19 F3 => ?_)
        exact ao_so F3
    · refine ao_it ao_no ?_
      refine ao_it ?_ ao_no
      refine ao_J F0 (F0.cl.r Cv0) (fun h22 F4 => ?_)
      exact ao_so F4
  · refine ao_it ao_no ?_
    refine ao_it ?_ ao_no
    refine ao_J F0 (F0.cl.r Cv0) (fun h25 F5 => ?_)
    exact ao_so F5
theorem av_cRanges_add_b58 {C : Nat → Prop} {v0 : Nat} {v1 : Int} {v3 : Int} {v4 : Int} {s0 : Int} {h : Hp} (c : Cl C h) (Cv0 : C v0) : Ao (qV C h) (f_cRanges_add_b58 v0 v1 v3 v4 s0 h) := by
  unfold f_cRanges_add_b58
  have F0 := Av.rf c
  refine ao_it ?_ ?_
  · exact ao_jV F0 (av_cRanges_add_b92 (F0.cl) Cv0)
  · refine ao_it ?_ ?_
    · exact ao_jV F0 (av_cRanges_add_b92 (F0.cl) Cv0)
    · refine ao_it ao_no ?_
      refine ao_it ?_ ao_no
      refine ao_it ?_ ao_no
      refine ao_J F0 (F0.cl.r Cv0) (fun h11 F1 => ?_)
      refine ao_b1 F1 (av_cRanges_remove (F1.cl) Cv0) (fun h12 F2 => ?_)
      exact ao_so F2
theorem av_cRanges_add_b57 {C : Nat → Prop} {v0 : Nat} {v1 : Int} {v3 : Int} {v4 : Int} {h : Hp} (c : Cl C h) (Cv0 : C v0) : Ao (qV C h) (f_cRanges_add_b57 v0 v1 v3 v4 h) := by
  unfold f_cRanges_add_b57
  have F0 := Av.rf c
  exact ao_jV F0 (av_cRanges_add_b58 (F0.cl) Cv0)
theorem av_cRanges_add_b30 {C : Nat → Prop} {v0 : Nat} {v1 : Int} {v3 : Int} {s0 : Int} {h : Hp} (c : Cl C h) (Cv0 : C v0) : Ao (qV C h) (f_cRanges_add_b30 v0 v1 v3 s0 h) := by
  unfold f_cRanges_add_b30
  have F0 := Av.rf c
  refine ao_it ?_ ?_
  · exact ao_jV F0 (av_cRanges_add_b57 (F0.cl) Cv0)
  · refine ao_it ao_no ?_
    refine ao_it ?_ ao_no
    refine ao_it ?_ ?_
    · exact ao_jV F0 (av_cRanges_add_b57 (F0.cl) Cv0)
    · exact ao_jV F0 (av_cRanges_add_b58 (F0.cl) Cv0)
theorem av_cRanges_add_b29 {C : Nat → Prop} {v0 : Nat} {v1 : Int} {v3 : Int} {h : Hp} (c : Cl C h) (Cv0 : C v0) : Ao (qV C h) (f_cRanges_add_b29 v0 v1 v3 h) := by
  unfold f_cRanges_add_b29
  have F0 := Av.rf c
  exact ao_jV F0 (av_cRanges_add_b30 (F0.cl) Cv0)
theorem av_cRanges_add {C : Nat → Prop} {v0 : Nat} {v1 : Int} {h : Hp} (c : Cl C h) (Cv0 : C v0) : Ao (qV C h) (f_cRanges_add v0 v1 h) := by
  unfold f_cRanges_add
  have F0 := Av.rf c
  refine ao_b2 F0 (av_cRanges_place (F0.cl)) (fun r3 h1 F1 => ?_)
  refine ao_it ?_ ?_
  · exact ao_jV F1 (av_cRanges_add_b29 (F1.cl) Cv0)
  · refine ao_it ao_no ?_
    refine ao_it ?_ ao_no
    refine ao_it ?_ ?_
    · exact ao_jV F1 (av_cRanges_add_b29 (F1.cl) Cv0)
    · exact ao_jV F1 (av_cRanges_add_b30 (F1.cl) Cv0)
theorem av_cSpace_takes_b102 {C : Nat → Prop} {v0 : Nat} {v2 : Int} {h : Hp} (c : Cl C h) (Cv0 : C v0) : Ao (qI C h) (f_cSpace_takes_b102 v0 v2 h) := by
  unfold f_cSpace_takes_b102
  have F0 := Av.rf c
  refine ao_it ao_no ?_
  refine ao_b1 F0 (av_cRanges_add (F0.cl) (F0.cl.r Cv0)) (fun h10 F1 => ?_)
  exact ao_so F1
theorem av_cSpace_takes_b92 {C : Nat → Prop} {v0 : Nat} {v2 : Int} {h : Hp} (c : Cl C h) (Cv0 : C v0) : Ao (qI C h) (f_cSpace_takes_b92 v0 v2 h) := by
  unfold f_cSpace_takes_b92
  have F0 := Av.rf c
  refine ao_I F0 Cv0 (fun h16 F1 => ?_)
  exact ao_jI F1 (av_cSpace_takes_b102 (F1.cl) Cv0)
theorem av_cSpace_takes_b77 {C : Nat → Prop} {v0 : Nat} {v1 : Int} {v2 : Int} {s0 : Nat} {s1 : Int} {h : Hp} (c : Cl C h) (Cv0 : C v0) (Cs0 : C s0) : Ao (qI C h) (f_cSpace_takes_b77 v0 v1 v2 s0 s1 h) := by
  unfold f_cSpace_takes_b77
  have F0 := Av.rf c
  refine ao_it ao_no ?_
  refine ao_it ao_no ?_
  refine ao_I F0 Cs0 (fun h13 F1 => ?_)
  refine ao_it ?_ ?_
  · exact ao_jI F1 (av_cSpace_takes_b92 (F1.cl) Cv0)
  · refine ao_I F1 Cv0 (fun h15 F2 => ?_)
    exact ao_jI F2 (av_cSpace_takes_b92 (F2.cl) Cv0)
theorem av_cSpace_takes_b72 {C : Nat → Prop} {v0 : Nat} {v1 : Int} {v2 : Int} {s0 : Nat} {h : Hp} (c : Cl C h) (Cv0 : C v0) (Cs0 : C s0) : Ao (qI C h) (f_cSpace_takes_b72 v0 v1 v2 s0 h) := by
  unfold f_cSpace_takes_b72
  have F0 := Av.rf c
  exact ao_jI F0 (av_cSpace_takes_b77 (F0.cl) Cv0 Cs0)
theorem av_cSpace_takes_b52 {C : Nat → Prop} {v0 : Nat} {v1 : Int} {v2 : Int} {v4 : Int} {v5 : Int} {h : Hp} (c : Cl C h) (Cv0 : C v0) : Ao (qI C h) (f_cSpace_takes_b52 v0 v1 v2 v4 v5 h) := by
  unfold f_cSpace_takes_b52
  have F0 := Av.rf c
  refine ao_it ?_ ?_
  · exact ao_jI F0 (av_cSpace_takes_b102 (F0.cl) Cv0)
  · refine ao_it ?_ ?_
    · exact ao_jI F0 (av_cSpace_takes_b72 (F0.cl) Cv0 Cv0)
    · refine ao_it ?_ ?_
      · exact ao_jI F0 (av_cSpace_takes_b77 (F0.cl) Cv0 Cv0)
      · exact ao_jI F0 (av_cSpace_takes_b72 (F0.cl) Cv0 Cv0)
theorem av_cSpace_takes_b38 {C : Nat → Prop} {v0 : Nat} {v1 : Int} {v2 : Int} {v4 : Int} {s0 : Int} {h : Hp} (c : Cl C h) (Cv0 : C v0) : Ao (qI C h) (f_cSpace_takes_b38 v0 v1 v2 v4 s0 h) := by
  unfold f_cSpace_takes_b38
  have F0 := Av.rf c
  refine ao_it ?_ ?_
  · exact ao_jI F0 (av_cSpace_takes_b52 (F0.cl) Cv0)
  · refine ao_I F0 Cv0 (fun h8 F1 => ?_)
    exact ao_jI F1 (av_cSpace_takes_b52 (F1.cl) Cv0)
theorem av_cSpace_takes {C : Nat → Prop} {v0 : Nat} {v1 : Int} {v2 : Int} {v4 : Int} {h : Hp} (c : Cl C h) (Cv0 : C v0) : Ao (qI C h) (f_cSpace_takes v0 v1 v2 v4 h) := by
  unfold f_cSpace_takes
  have F0 := Av.rf c
  refine ao_it ao_no ?_
  refine ao_b2 F0 (av_cRanges_has (F0.cl)) (fun r4 h2 F1 => ?_)
  refine ao_it ?_ ?_
  · refine ao_it ao_no ?_
    refine ao_it ?_ ?_
    · refine ao_it ao_no ?_
      refine ao_it ?_ ao_no
      exact ao_jI F1 (av_cSpace_takes_b38 (F1.cl) Cv0)
    · exact ao_jI F1 (av_cSpace_takes_b38 (F1.cl) Cv0)
  · exact ao_so F1
theorem av_cSide_frames_b195 {C : Nat → Prop} {k63 : Nat → Nat → Int → Int → Int → Int → Hp → Option (Hp)} (hk63 : ∀ (v0 : Nat) (v1 : Nat) (v2 : Int) (v3 : Int) (v5 : Int) (v6 : Int) (h : Hp), Cl C h → C v0 → C v1 → Ao (qV C h) (k63 v0 v1 v2 v3 v5 v6 h)) {v0 : Nat} {v1 : Nat} {v2 : Int} {v3 : Int} {v5 : Int} {s0 : Int} {h : Hp} (c : Cl C h) (Cv0 : C v0) (Cv1 : C v1) : Ao (qV C h) (f_cSide_frames_b195 k63 v0 v1 v2 v3 v5 s0 h) := by
  unfold f_cSide_frames_b195
  have F0 := Av.rf c
  exact ao_jV F0 (hk63 _ _ _ _ _ _ _ (F0.cl) Cv0 Cv1)
theorem av_cSide_frames_b190 {C : Nat → Prop} {k63 : Nat → Nat → Int → Int → Int → Int → Hp → Option (Hp)} (hk63 : ∀ (v0 : Nat) (v1 : Nat) (v2 : Int) (v3 : Int) (v5 : Int) (v6 : Int) (h : Hp), Cl C h → C v0 → C v1 → Ao (qV C h) (k63 v0 v1 v2 v3 v5 v6 h)) {v0 : Nat} {v1 : Nat} {v2 : Int} {v3 : Int} {v5 : Int} {h : Hp} (c : Cl C h) (Cv0 : C v0) (Cv1 : C v1) : Ao (qV C h) (f_cSide_frames_b190 k63 v0 v1 v2 v3 v5 h) := by
  unfold f_cSide_frames_b190
  have F0 := Av.rf c
  exact ao_jV F0 (av_cSide_frames_b195 hk63 (F0.cl) Cv0 Cv1)
theorem av_cSide_frames_b154 {C : Nat → Prop} {k63 : Nat → Nat → Int → Int → Int → Int → Hp → Option (Hp)} (hk63 : ∀ (v0 : Nat) (v1 : Nat) (v2 : Int) (v3 : Int) (v5 : Int) (v6 : Int) (h : Hp), Cl C h → C v0 → C v1 → Ao (qV C h) (k63 v0 v1 v2 v3 v5 v6 h)) {v0 : Nat} {v1 : Nat} {v2 : Int} {v3 : Int} {v5 : Int} {v6 : Int} {h : Hp} (c : Cl C h) (Cv0 : C v0) (Cv1 : C v1) : Ao (qV C h) (f_cSide_frames_b154 k63 v0 v1 v2 v3 v5 v6 h) := by
  unfold f_cSide_frames_b154
  have F0 := Av.rf c
  refine ao_it ?_ ?_
  · refine ao_it ?_ ?_
    · exact ao_jV F0 (av_cSide_frames_b190 hk63 (F0.cl) Cv0 Cv1)
    · refine ao_it ao_no ?_
      refine ao_it ?_ ?_
      · exact ao_jV F0 (av_cSide_frames_b190 hk63 (F0.cl) Cv0 Cv1)
      · refine ao_it ?_ ?_
        · exact ao_jV F0 (av_cSide_frames_b195 hk63 (F0.cl) Cv0 Cv1)
        · exact ao_jV F0 (av_cSide_frames_b190 hk63 (F0.cl) Cv0 Cv1)
  · exact ao_so F0
theorem av_cSide_frames_b139 {C : Nat → Prop} {k63 : Nat → Nat → Int → Int → Int → Int → Hp → Option (Hp)} (hk63 : ∀ (v0 : Nat) (v1 : Nat) (v2 : Int) (v3 : Int) (v5 : Int) (v6 : Int) (h : Hp), Cl C h → C v0 → C v1 → Ao (qV C h) (k63 v0 v1 v2 v3 v5 v6 h)) {v0 : Nat} {v1 : Nat} {v2 : Int} {v3 : Int} {v5 : Int} {v6 : Int} {v8 : Int} {h : Hp} (c : Cl C h) (Cv0 : C v0) (Cv1 : C v1) : Ao (qV C h) (f_cSide_frames_b139 k63 v0 v1 v2 v3 v5 v6 v8 h) := by
  unfold f_cSide_frames_b139
  have F0 := Av.rf c
  refine ao_it ?_ ?_
  · exact ao_jV F0 (av_cSide_frames_b154 hk63 (F0.cl) Cv0 Cv1)
  · refine ao_b1 F0 (av_cSide_close (F0.cl) Cv0) (fun h28 F1 => ?_)
    exact ao_jV F1 (av_cSide_frames_b154 hk63 (F1.cl) Cv0 Cv1)
theorem av_cSide_frames_b116 {C : Nat → Prop} {k63 : Nat → Nat → Int → Int → Int → Int → Hp → Option (Hp)} (hk63 : ∀ (v0 : Nat) (v1 : Nat) (v2 : Int) (v3 : Int) (v5 : Int) (v6 : Int) (h : Hp), Cl C h → C v0 → C v1 → Ao (qV C h) (k63 v0 v1 v2 v3 v5 v6 h)) {v0 : Nat} {v1 : Nat} {v2 : Int} {v3 : Int} {v6 : Int} {s0 : Int} {h : Hp} (c : Cl C h) (Cv0 : C v0) (Cv1 : C v1) : Ao (qV C h) (f_cSide_frames_b116 k63 v0 v1 v2 v3 v6 s0 h) := by
  unfold f_cSide_frames_b116
  have F0 := Av.rf c
  refine ao_it ao_no ?_
  refine ao_v (fun y24 => ?_)
  refine ao_it ?_ ?_
  · exact ao_jV F0 (av_cSide_frames_b139 hk63 (F0.cl) Cv0 Cv1)
  · refine ao_b2 F0 (av_cSide_frame (F0.cl) Cv0) (fun r27 h25 F2 => ?_)
    exact ao_jV F2 (av_cSide_frames_b139 hk63 (F2.cl) Cv0 Cv1)
theorem av_cSide_frames_b63 {C : Nat → Prop} {k63 : Nat → Nat → Int → Int → Int → Int → Hp → Option (Hp)} (hk63 : ∀ (v0 : Nat) (v1 : Nat) (v2 : Int) (v3 : Int) (v5 : Int) (v6 : Int) (h : Hp), Cl C h → C v0 → C v1 → Ao (qV C h) (k63 v0 v1 v2 v3 v5 v6 h)) {v0 : Nat} {v1 : Nat} {v2 : Int} {v3 : Int} {v5 : Int} {v6 : Int} {h : Hp} (c : Cl C h) (Cv0 : C v0) (Cv1 : C v1) : Ao (qV C h) (f_cSide_frames_b63 k63 v0 v1 v2 v3 v5 v6 h) := by
  unfold f_cSide_frames_b63
  have F0 := Av.rf c
  refine ao_it ?_ ?_
  · refine ao_it ao_no ?_
    refine ao_it ao_no ?_
    refine ao_it ?_ ao_no
    refine ao_it ao_no ?_
    refine ao_it ?_ ?_
    · exact ao_so F0
    · refine ao_it ?_ ao_no
      refine ao_b2 F0 (av_cSpace_takes (F0.cl) (F0.cl.r (F0.cl.r (F0.cl.r Cv0)))) (fun r15 h13 F1 => ?_)
      exact ao_so F1
  · refine ao_it ao_no ?_
    refine ao_b1 F0 (av_cBytes_over (F0.cl) (F0.cl.r Cv0) Cv1) (fun h17 F2 => ?_)
    refine ao_it ao_no ?_
    refine ao_b2 F2 (av_cFrame_read (F2.cl) (F2.cl.r Cv0) (F2.cl.r Cv0)) (fun r22 h20 F3 => ?_)
    refine ao_it ?_ ?_
    · refine ao_it ?_ ?_
      · exact ao_jV F3 (av_cSide_frames_b116 hk63 (F3.cl) Cv0 Cv1)
      · exact ao_jV F3 (av_cSide_frames_b116 hk63 (F3.cl) Cv0 Cv1)
    · exact ao_jV F3 (av_cSide_frames_b116 hk63 (F3.cl) Cv0 Cv1)
theorem av_cSide_frames_b63_lp {C : Nat → Prop} (n : Nat) : ∀ {v0 : Nat} {v1 : Nat} {v2 : Int} {v3 : Int} {v5 : Int} {v6 : Int} {h : Hp}, Cl C h → C v0 → C v1 → Ao (qV C h) (f_cSide_frames_b63_lp n v0 v1 v2 v3 v5 v6 h) := by
  induction n with
  | zero => intros; exact ao_no
  | succ n ih => intro v0 v1 v2 v3 v5 v6 h c Cv0 Cv1; exact av_cSide_frames_b63 (fun _ _ _ _ _ _ h => ih) c Cv0 Cv1
theorem av_cSide_frames_b43 {C : Nat → Prop} {v0 : Nat} {h : Hp} (c : Cl C h) (Cv0 : C v0) : Ao (qV C h) (f_cSide_frames_b43 v0 h) := by
  unfold f_cSide_frames_b43
  have F0 := Av.rf c
  refine ao_b1 F0 (av_cSide_close (F0.cl) Cv0) (fun h6 F1 => ?_)
  exact ao_so F1
theorem av_cSide_frames_b31 {C : Nat → Prop} {v0 : Nat} {v1 : Nat} {v2 : Int} {v3 : Int} {s0 : Int} {s1 : Int} {h : Hp} (c : Cl C h) (Cv0 : C v0) (Cv1 : C v1) : Ao (qV C h) (f_cSide_frames_b31 v0 v1 v2 v3 s0 s1 h) := by
  unfold f_cSide_frames_b31
  have F0 := Av.rf c
  refine ao_it ?_ ?_
  · exact ao_jV F0 (av_cSide_frames_b43 (F0.cl) Cv0)
  · refine ao_it ?_ ?_
    · refine ao_v (fun y5 => ?_)
      exact ao_jV F0 (av_cSide_frames_b63_lp FU (F0.cl) Cv0 Cv1)
    · exact ao_jV F0 (av_cSide_frames_b43 (F0.cl) Cv0)
theorem av_cSide_frames {C : Nat → Prop} {v0 : Nat} {v1 : Nat} {v2 : Int} {v3 : Int} {h : Hp} (c : Cl C h) (Cv0 : C v0) (Cv1 : C v1) : Ao (qV C h) (f_cSide_frames v0 v1 v2 v3 h) := by
  unfold f_cSide_frames
  have F0 := Av.rf c
  refine ao_it ao_no ?_
  refine ao_it ao_no ?_
  refine ao_it ?_ ao_no
  refine ao_v (fun y4 => ?_)
  refine ao_it ?_ ?_
  · exact ao_jV F0 (av_cSide_frames_b31 (F0.cl) Cv0 Cv1)
  · exact ao_jV F0 (av_cSide_frames_b31 (F0.cl) Cv0 Cv1)
theorem av_cSide_packet_b129 {C : Nat → Prop} {v0 : Nat} {v1 : Nat} {v3 : Int} {h : Hp} (c : Cl C h) (Cv0 : C v0) (Cv1 : C v1) : Ao (qV C h) (f_cSide_packet_b129 v0 v1 v3 h) := by
  unfold f_cSide_packet_b129
  have F0 := Av.rf c
  refine ao_it ao_no ?_
  refine ao_it ?_ ao_no
  refine ao_it ?_ ?_
  · exact ao_so F0
  · refine ao_it ao_no ?_
    refine ao_it ao_no ?_
    refine ao_it ?_ ao_no
    refine ao_it ao_no ?_
    refine ao_it ?_ ?_
    · refine ao_b2 F0 (av_cSide_open (F0.cl) Cv0 Cv1) (fun r20 h18 F1 => ?_)
      refine ao_it ?_ ?_
      · refine ao_b1 F1 (av_cSide_opened (F1.cl) Cv0) (fun h21 F2 => ?_)
        refine ao_b1 F2 (av_cSide_frames (F2.cl) Cv0 Cv1) (fun h23 F3 => ?_)
        exact ao_so F3
      · refine ao_it ?_ ?_
        · exact ao_so F1
        · refine ao_b1 F1 (av_cSide_forget (F1.cl) Cv0) (fun h25 F4 => ?_)
          exact ao_so F4
    · exact ao_so F0
theorem av_cSide_packet_b98 {C : Nat → Prop} {v0 : Nat} {v1 : Nat} {v3 : Int} {h : Hp} (c : Cl C h) (Cv0 : C v0) (Cv1 : C v1) : Ao (qV C h) (f_cSide_packet_b98 v0 v1 v3 h) := by
  unfold f_cSide_packet_b98
  have F0 := Av.rf c
  refine ao_b2 F0 (av_cSide_isTo (F0.cl)) (fun r8 h6 F1 => ?_)
  refine ao_it ?_ ?_
  · exact ao_jV F1 (av_cSide_packet_b129 (F1.cl) Cv0 Cv1)
  · refine ao_it ?_ ?_
    · exact ao_so F1
    · refine ao_it ?_ ?_
      · exact ao_so F1
      · refine ao_b2 F1 (av_cSide_isTo (F1.cl)) (fun r11 h9 F2 => ?_)
        refine ao_it ?_ ?_
        · exact ao_jV F2 (av_cSide_packet_b129 (F2.cl) Cv0 Cv1)
        · exact ao_so F2
theorem av_cSide_packet_b62 {C : Nat → Prop} {v0 : Nat} {v1 : Nat} {v3 : Int} {h : Hp} (c : Cl C h) (Cv0 : C v0) (Cv1 : C v1) : Ao (qV C h) (f_cSide_packet_b62 v0 v1 v3 h) := by
  unfold f_cSide_packet_b62
  have F0 := Av.rf c
  refine ao_it ?_ ?_
  · exact ao_jV F0 (av_cSide_packet_b98 (F0.cl) Cv0 Cv1)
  · refine ao_it ?_ ?_
    · exact ao_so F0
    · refine ao_it ao_no ?_
      refine ao_it ?_ ?_
      · refine ao_b1 F0 (av_cSide_name (F0.cl) Cv0) (fun h4 F1 => ?_)
        exact ao_jV F1 (av_cSide_packet_b98 (F1.cl) Cv0 Cv1)
      · exact ao_so F0
theorem av_cSide_packet_b44 {C : Nat → Prop} {v0 : Nat} {v1 : Nat} {v3 : Int} {h : Hp} (c : Cl C h) (Cv0 : C v0) (Cv1 : C v1) : Ao (qV C h) (f_cSide_packet_b44 v0 v1 v3 h) := by
  unfold f_cSide_packet_b44
  have F0 := Av.rf c
  refine ao_it ?_ ?_
  · exact ao_jV F0 (av_cSide_packet_b62 (F0.cl) Cv0 Cv1)
  · refine ao_it ao_no ?_
    refine ao_it ?_ ?_
    · exact ao_jV F0 (av_cSide_packet_b62 (F0.cl) Cv0 Cv1)
    · exact ao_so F0
theorem av_cSide_packet_b24 {C : Nat → Prop} {v0 : Nat} {v1 : Nat} {v2 : Int} {s0 : Int} {h : Hp} (c : Cl C h) (Cv0 : C v0) (Cv1 : C v1) : Ao (qV C h) (f_cSide_packet_b24 v0 v1 v2 s0 h) := by
  unfold f_cSide_packet_b24
  have F0 := Av.rf c
  refine ao_it ?_ ?_
  · exact ao_jV F0 (av_cSide_packet_b44 (F0.cl) Cv0 Cv1)
  · refine ao_it ?_ ?_
    · exact ao_jV F0 (av_cSide_packet_b44 (F0.cl) Cv0 Cv1)
    · refine ao_it ?_ ?_
      · exact ao_so F0
      · exact ao_jV F0 (av_cSide_packet_b44 (F0.cl) Cv0 Cv1)
theorem av_cSide_packet {C : Nat → Prop} {v0 : Nat} {v1 : Nat} {v2 : Int} {h : Hp} (c : Cl C h) (Cv0 : C v0) (Cv1 : C v1) : Ao (qV C h) (f_cSide_packet v0 v1 v2 h) := by
  unfold f_cSide_packet
  have F0 := Av.rf c
  refine ao_it ao_no ?_
  refine ao_it ?_ ?_
  · exact ao_jV F0 (av_cSide_packet_b24 (F0.cl) Cv0 Cv1)
  · exact ao_jV F0 (av_cSide_packet_b24 (F0.cl) Cv0 Cv1)
theorem av_cSide_comes_b86 {C : Nat → Prop} {v0 : Nat} {s0 : Nat} {s1 : Int} {h : Hp} (c : Cl C h) (Cs0 : C s0) : Ao (qV C h) (f_cSide_comes_b86 v0 s0 s1 h) := by
  unfold f_cSide_comes_b86
  have F0 := Av.rf c
  refine ao_it ao_no ?_
  refine ao_it ao_no ?_
  refine ao_I F0 Cs0 (fun h4 F1 => ?_)
  exact ao_so F1
theorem av_cSide_comes_b81 {C : Nat → Prop} {v0 : Nat} {s0 : Nat} {h : Hp} (c : Cl C h) (Cs0 : C s0) : Ao (qV C h) (f_cSide_comes_b81 v0 s0 h) := by
  unfold f_cSide_comes_b81
  have F0 := Av.rf c
  exact ao_jV F0 (av_cSide_comes_b86 (F0.cl) Cs0)
theorem av_cSide_comes_b191 {C : Nat → Prop} {k95 : Nat → Nat → Int → Int → Int → Hp → Option (Hp)} (hk95 : ∀ (v0 : Nat) (v1 : Nat) (v2 : Int) (v3 : Int) (v4 : Int) (h : Hp), Cl C h → C v0 → C v1 → Ao (qV C h) (k95 v0 v1 v2 v3 v4 h)) {v0 : Nat} {v1 : Nat} {v2 : Int} {s0 : Nat} {s1 : Int} {h : Hp} (c : Cl C h) (Cv0 : C v0) (Cv1 : C v1) (Cs0 : C s0) : Ao (qV C h) (f_cSide_comes_b191 k95 v0 v1 v2 s0 s1 h) := by
  unfold f_cSide_comes_b191
  have F0 := Av.rf c
  refine ao_it ao_no ?_
  refine ao_I F0 Cs0 (fun h23 F1 => ?_)
  refine ao_it ao_no ?_
  refine ao_v (fun y25 => ?_)
  refine ao_b1 F1 (av_cSide_packet (F1.cl) Cv0 Cv1) (fun h26 F3 => ?_)
  refine ao_it ?_ ?_
  · exact ao_jV F3 (hk95 _ _ _ _ _ _ (F3.cl) Cv0 Cv1)
  · exact ao_so F3
theorem av_cSide_comes_b171 {C : Nat → Prop} {k95 : Nat → Nat → Int → Int → Int → Hp → Option (Hp)} (hk95 : ∀ (v0 : Nat) (v1 : Nat) (v2 : Int) (v3 : Int) (v4 : Int) (h : Hp), Cl C h → C v0 → C v1 → Ao (qV C h) (k95 v0 v1 v2 v3 v4 h)) {v0 : Nat} {v1 : Nat} {v2 : Int} {v4 : Int} {h : Hp} (c : Cl C h) (Cv0 : C v0) (Cv1 : C v1) : Ao (qV C h) (f_cSide_comes_b171 k95 v0 v1 v2 v4 h) := by
  unfold f_cSide_comes_b171
  have F0 := Av.rf c
  refine ao_it ?_ ?_
  · exact ao_jV F0 (av_cSide_comes_b191 hk95 (F0.cl) Cv0 Cv1 Cv0)
  · refine ao_it ao_no ?_
    exact ao_jV F0 (av_cSide_comes_b191 hk95 (F0.cl) Cv0 Cv1 Cv0)
theorem av_cSide_comes_b141 {C : Nat → Prop} {k95 : Nat → Nat → Int → Int → Int → Hp → Option (Hp)} (hk95 : ∀ (v0 : Nat) (v1 : Nat) (v2 : Int) (v3 : Int) (v4 : Int) (h : Hp), Cl C h → C v0 → C v1 → Ao (qV C h) (k95 v0 v1 v2 v3 v4 h)) {v0 : Nat} {v1 : Nat} {v2 : Int} {v4 : Int} {h : Hp} (c : Cl C h) (Cv0 : C v0) (Cv1 : C v1) : Ao (qV C h) (f_cSide_comes_b141 k95 v0 v1 v2 v4 h) := by
  unfold f_cSide_comes_b141
  have F0 := Av.rf c
  refine ao_it ?_ ?_
  · exact ao_jV F0 (av_cSide_comes_b171 hk95 (F0.cl) Cv0 Cv1)
  · refine ao_it ao_no ?_
    refine ao_it ao_no ?_
    refine ao_it ao_no ?_
    refine ao_it ?_ ao_no
    refine ao_cI F0 (F0.cl.r Cv0) (fun h20 F1 => ?_)
    exact ao_jV F1 (av_cSide_comes_b171 hk95 (F1.cl) Cv0 Cv1)
theorem av_cSide_comes_b95 {C : Nat → Prop} {k95 : Nat → Nat → Int → Int → Int → Hp → Option (Hp)} (hk95 : ∀ (v0 : Nat) (v1 : Nat) (v2 : Int) (v3 : Int) (v4 : Int) (h : Hp), Cl C h → C v0 → C v1 → Ao (qV C h) (k95 v0 v1 v2 v3 v4 h)) {v0 : Nat} {v1 : Nat} {v2 : Int} {v3 : Int} {v4 : Int} {h : Hp} (c : Cl C h) (Cv0 : C v0) (Cv1 : C v1) : Ao (qV C h) (f_cSide_comes_b95 k95 v0 v1 v2 v3 v4 h) := by
  unfold f_cSide_comes_b95
  have F0 := Av.rf c
  refine ao_it ?_ ?_
  · exact ao_so F0
  · refine ao_it ao_no ?_
    refine ao_b1 F0 (av_cBytes_over (F0.cl) (F0.cl.r Cv0) Cv1) (fun h7 F1 => ?_)
    refine ao_it ao_no ?_
    refine ao_b2 F1 (av_cHeader_read (F1.cl) (F1.cl.r Cv0) (F1.cl.r Cv0)) (fun r12 h10 F2 => ?_)
    refine ao_it ?_ ?_
    · refine ao_it ?_ ?_
      · exact ao_jV F2 (av_cSide_comes_b141 hk95 (F2.cl) Cv0 Cv1)
      · refine ao_b2 F2 (av_cSide_sameTo (F2.cl)) (fun r15 h13 F3 => ?_)
        refine ao_it ?_ ?_
        · exact ao_jV F3 (av_cSide_comes_b141 hk95 (F3.cl) Cv0 Cv1)
        · exact ao_so F3
    · exact ao_so F2
theorem av_cSide_comes_b95_lp {C : Nat → Prop} (n : Nat) : ∀ {v0 : Nat} {v1 : Nat} {v2 : Int} {v3 : Int} {v4 : Int} {h : Hp}, Cl C h → C v0 → C v1 → Ao (qV C h) (f_cSide_comes_b95_lp n v0 v1 v2 v3 v4 h) := by
  induction n with
  | zero => intros; exact ao_no
  | succ n ih => intro v0 v1 v2 v3 v4 h c Cv0 Cv1; exact av_cSide_comes_b95 (fun _ _ _ _ _ h => ih) c Cv0 Cv1
theorem av_cSide_comes_b31 {C : Nat → Prop} {v0 : Nat} {v1 : Nat} {v2 : Int} {h : Hp} (c : Cl C h) (Cv0 : C v0) (Cv1 : C v1) : Ao (qV C h) (f_cSide_comes_b31 v0 v1 v2 h) := by
  unfold f_cSide_comes_b31
  have F0 := Av.rf c
  refine ao_I F0 Cv0 (fun h1 F1 => ?_)
  refine ao_it ?_ ?_
  · exact ao_jV F1 (av_cSide_comes_b95_lp FU (F1.cl) Cv0 Cv1)
  · refine ao_I F1 Cv0 (fun h2 F2 => ?_)
    refine ao_it ?_ ?_
    · exact ao_jV F2 (av_cSide_comes_b81 (F2.cl) Cv0)
    · refine ao_it ?_ ?_
      · exact ao_jV F2 (av_cSide_comes_b86 (F2.cl) Cv0)
      · exact ao_jV F2 (av_cSide_comes_b81 (F2.cl) Cv0)
theorem av_cSide_comes {C : Nat → Prop} {v0 : Nat} {v1 : Nat} {v2 : Int} {h : Hp} (c : Cl C h) (Cv0 : C v0) (Cv1 : C v1) : Ao (qV C h) (f_cSide_comes v0 v1 v2 h) := by
  unfold f_cSide_comes
  have F0 := Av.rf c
  refine ao_it ?_ ?_
  · exact ao_so F0
  · refine ao_it ?_ ?_
    · exact ao_so F0
    · refine ao_it ?_ ?_
      · exact ao_jV F0 (av_cSide_comes_b31 (F0.cl) Cv0 Cv1)
      · refine ao_it ?_ ?_
        · exact ao_jV F0 (av_cSide_comes_b31 (F0.cl) Cv0 Cv1)
        · exact ao_so F0
theorem av_cP_comes {C : Nat → Prop} {v0 : Nat} {v1 : Int} {v2 : Int} {h : Hp} (c : Cl C h) (Cv0 : C v0) : Ao (qI C h) (f_cP_comes v0 v1 v2 h) := by
  unfold f_cP_comes
  have F0 := Av.rf c
  refine ao_it ao_no ?_
  refine ao_it ?_ ao_no
  refine ao_m (F0.cl.r (F0.cl.r Cv0)) (fun y3 Cy3 => ?_)
  refine ao_it ao_no ?_
  refine ao_it ao_no ?_
  refine ao_it ?_ ao_no
  refine ao_v (fun y7 => ?_)
  refine ao_it ao_no ?_
  refine ao_it ?_ ao_no
  refine ao_it ao_no ?_
  refine ao_it ao_no ?_
  refine ao_it ?_ ao_no
  refine ao_cI F0 (F0.cl.r Cv0) (fun h13 F3 => ?_)
  refine ao_b1 F3 (av_cLine_remove (F3.cl) Cy3) (fun h14 F4 => ?_)
  refine ao_it ao_no ?_
  refine ao_it ?_ ao_no
  refine ao_it ao_no ?_
  refine ao_b1 F4 (av_cSide_comes (F4.cl) (F4.cl.r (F4.cl.r Cv0)) (F4.cl.r Cv0)) (fun h19 F5 => ?_)
  exact ao_so F5
theorem av_cP_deliver {C : Nat → Prop} {v0 : Nat} {v1 : Int} {v2 : Int} {h : Hp} (c : Cl C h) (Cv0 : C v0) : Ao (qTI C h) (f_cP_deliver v0 v1 v2 h) := by
  unfold f_cP_deliver
  have F0 := Av.rf c
  refine ao_bt2R F0 (av_cP_on (F0.cl) Cv0) (fun a3 h4 F1 => ?_) (fun r6 h1 F2 Cr6 => ?_)
  · exact ao_so F1
  · refine ao_b2 F2 (av_cP_comes (F2.cl) Cv0) (fun r9 h7 F3 => ?_)
    exact ao_so F3
theorem av_cP_drop {C : Nat → Prop} {v0 : Nat} {v1 : Int} {v2 : Int} {h : Hp} (c : Cl C h) (Cv0 : C v0) : Ao (qTI C h) (f_cP_drop v0 v1 v2 h) := by
  unfold f_cP_drop
  have F0 := Av.rf c
  refine ao_bt2R F0 (av_cP_on (F0.cl) Cv0) (fun a3 h4 F1 => ?_) (fun r6 h1 F2 Cr6 => ?_)
  · exact ao_so F1
  · refine ao_it ao_no ?_
    refine ao_it ao_no ?_
    refine ao_it ?_ ao_no
    refine ao_v (fun y10 => ?_)
    refine ao_b1 F2 (av_cLine_remove (F2.cl) Cr6) (fun h11 F4 => ?_)
    exact ao_so F4
theorem av_cLine_add {C : Nat → Prop} {v0 : Nat} {v1 : Nat} {v2 : Int} {v3 : Int} {h : Hp} (c : Cl C h) (Cv0 : C v0) : Ao (qV C h) (f_cLine_add v0 v1 v2 v3 h) := by
  unfold f_cLine_add
  have F0 := Av.rf c
  refine ao_I F0 Cv0 (fun h1 F1 => ?_)
  refine ao_it ?_ ?_
  · refine ao_it ao_no ?_
    refine ao_it ?_ ao_no
    refine ao_it ao_no ?_
    refine ao_it ao_no ?_
    refine ao_it ?_ ao_no
    refine ao_cI F1 (F1.cl.r (F1.cl.r Cv0)) (fun h7 F2 => ?_)
    refine ao_it ao_no ?_
    refine ao_it ?_ ao_no
    refine ao_I F2 (F2.cl.r Cv0) (fun h10 F3 => ?_)
    refine ao_it ao_no ?_
    refine ao_it ?_ ao_no
    refine ao_I F3 (F3.cl.r Cv0) (fun h13 F4 => ?_)
    refine ao_I F4 Cv0 (fun h14 F5 => ?_)
    exact ao_so F5
  · refine ao_I F1 Cv0 (fun h15 F6 => ?_)
    exact ao_so F6
theorem av_cP_twice {C : Nat → Prop} {v0 : Nat} {v1 : Int} {v2 : Int} {h : Hp} (c : Cl C h) (Cv0 : C v0) : Ao (qTI C h) (f_cP_twice v0 v1 v2 h) := by
  unfold f_cP_twice
  have F0 := Av.rf c
  refine ao_bt2R F0 (av_cP_on (F0.cl) Cv0) (fun a3 h4 F1 => ?_) (fun r6 h1 F2 Cr6 => ?_)
  · exact ao_so F1
  · refine ao_it ao_no ?_
    refine ao_it ao_no ?_
    refine ao_it ?_ ao_no
    refine ao_it ao_no ?_
    refine ao_it ?_ ao_no
    refine ao_it ao_no ?_
    refine ao_it ?_ ao_no
    refine ao_b1 F2 (av_cLine_add (F2.cl) Cr6) (fun h14 F3 => ?_)
    exact ao_so F3
theorem av_cP_alter {C : Nat → Prop} {v0 : Nat} {v1 : Int} {v2 : Int} {v3 : Int} {v4 : Int} {h : Hp} (c : Cl C h) (Cv0 : C v0) : Ao (qTI C h) (f_cP_alter v0 v1 v2 v3 v4 h) := by
  unfold f_cP_alter
  have F0 := Av.rf c
  refine ao_bt2R F0 (av_cP_on (F0.cl) Cv0) (fun a3 h4 F1 => ?_) (fun r6 h1 F2 Cr6 => ?_)
  · exact ao_so F1
  · refine ao_it ao_no ?_
    refine ao_it ao_no ?_
    refine ao_it ?_ ao_no
    refine ao_b2 F2 (av_cP_in (F2.cl)) (fun r12 h10 F3 => ?_)
    refine ao_bt F3 (av_cP_there (F3.cl)) (fun a15 h16 F4 => ?_) (fun h13 F5 => ?_)
    · exact ao_so F4
    · refine ao_it ao_no ?_
      refine ao_it ?_ ao_no
      refine ao_it ao_no ?_
      refine ao_it ?_ ao_no
      refine ao_it ?_ ao_no
      refine ao_I F5 (F5.cl.r (F5.cl.r Cr6)) (fun h23 F6 => ?_)
      refine ao_it ao_no ?_
      refine ao_it ?_ ao_no
      refine ao_it ao_no ?_
      refine ao_it ?_ ao_no
      exact ao_so F6
theorem av_cP_flow {C : Nat → Prop} {v0 : Nat} {v1 : Int} {h : Hp} (c : Cl C h) (Cv0 : C v0) : Ao (qTV C h) (f_cP_flow v0 v1 h) := by
  unfold f_cP_flow
  have F0 := Av.rf c
  refine ao_b2 F0 (av_cP_in (F0.cl)) (fun r3 h1 F1 => ?_)
  refine ao_bt F1 (av_cP_need (F1.cl)) (fun a6 h7 F2 => ?_) (fun h4 F3 => ?_)
  · exact ao_so F2
  · refine ao_I F3 Cv0 (fun h9 F4 => ?_)
    exact ao_so F4
theorem av_cBook_patience_b21 {C : Nat → Prop} {v0 : Nat} {s0 : Nat} {s1 : Int} {h : Hp} (c : Cl C h) : Ao (qI C h) (f_cBook_patience_b21 v0 s0 s1 h) := by
  unfold f_cBook_patience_b21
  have F0 := Av.rf c
  refine ao_it ao_no ?_
  refine ao_b2 F0 (av_cTrip_patience (F0.cl)) (fun r4 h2 F1 => ?_)
  exact ao_so F1
theorem av_cBook_patience_b20 {C : Nat → Prop} {v0 : Nat} {s0 : Nat} {h : Hp} (c : Cl C h) : Ao (qI C h) (f_cBook_patience_b20 v0 s0 h) := by
  unfold f_cBook_patience_b20
  have F0 := Av.rf c
  exact ao_jI F0 (av_cBook_patience_b21 (F0.cl))
theorem av_cBook_patience {C : Nat → Prop} {v0 : Nat} {v1 : Int} {h : Hp} (c : Cl C h) : Ao (qI C h) (f_cBook_patience v0 v1 h) := by
  unfold f_cBook_patience
  have F0 := Av.rf c
  refine ao_it ?_ ?_
  · exact ao_jI F0 (av_cBook_patience_b20 (F0.cl))
  · refine ao_it ?_ ?_
    · exact ao_jI F0 (av_cBook_patience_b20 (F0.cl))
    · exact ao_jI F0 (av_cBook_patience_b21 (F0.cl))
theorem av_cBook_firstSpace_b2 {C : Nat → Prop} {k2 : Nat → Int → Hp → Option (Int × Hp)} (hk2 : ∀ (v0 : Nat) (v1 : Int) (h : Hp), Cl C h → Ao (qI C h) (k2 v0 v1 h)) {v0 : Nat} {v1 : Int} {h : Hp} (c : Cl C h) : Ao (qI C h) (f_cBook_firstSpace_b2 k2 v0 v1 h) := by
  unfold f_cBook_firstSpace_b2
  have F0 := Av.rf c
  refine ao_it ?_ ?_
  · exact ao_so F0
  · refine ao_it ao_no ?_
    refine ao_it ?_ ao_no
    refine ao_it ao_no ?_
    refine ao_it ?_ ?_
    · exact ao_so F0
    · exact ao_jI F0 (hk2 _ _ _ (F0.cl))
theorem av_cBook_firstSpace_b2_lp {C : Nat → Prop} (n : Nat) : ∀ {v0 : Nat} {v1 : Int} {h : Hp}, Cl C h → Ao (qI C h) (f_cBook_firstSpace_b2_lp n v0 v1 h) := by
  induction n with
  | zero => intros; exact ao_no
  | succ n ih => intro v0 v1 h c; exact av_cBook_firstSpace_b2 (fun _ _ h => ih) c
theorem av_cBook_firstSpace {C : Nat → Prop} {v0 : Nat} {h : Hp} (c : Cl C h) : Ao (qI C h) (f_cBook_firstSpace v0 h) := by
  unfold f_cBook_firstSpace
  have F0 := Av.rf c
  exact ao_jI F0 (av_cBook_firstSpace_b2_lp FU (F0.cl))
theorem av_cBook_isQuiet_b42 {C : Nat → Prop} {k13 : Nat → Int → Nat → Int → Int → Hp → Option (Int × Hp)} (hk13 : ∀ (v0 : Nat) (v1 : Int) (v2 : Nat) (v3 : Int) (v4 : Int) (h : Hp), Cl C h → Ao (qI C h) (k13 v0 v1 v2 v3 v4 h)) {v0 : Nat} {v2 : Nat} {v3 : Int} {v4 : Int} {s0 : Int} {h : Hp} (c : Cl C h) : Ao (qI C h) (f_cBook_isQuiet_b42 k13 v0 v2 v3 v4 s0 h) := by
  unfold f_cBook_isQuiet_b42
  have F0 := Av.rf c
  exact ao_jI F0 (hk13 _ _ _ _ _ _ (F0.cl))
theorem av_cBook_isQuiet_b41 {C : Nat → Prop} {k13 : Nat → Int → Nat → Int → Int → Hp → Option (Int × Hp)} (hk13 : ∀ (v0 : Nat) (v1 : Int) (v2 : Nat) (v3 : Int) (v4 : Int) (h : Hp), Cl C h → Ao (qI C h) (k13 v0 v1 v2 v3 v4 h)) {v0 : Nat} {v2 : Nat} {v3 : Int} {v4 : Int} {h : Hp} (c : Cl C h) : Ao (qI C h) (f_cBook_isQuiet_b41 k13 v0 v2 v3 v4 h) := by
  unfold f_cBook_isQuiet_b41
  have F0 := Av.rf c
  exact ao_jI F0 (av_cBook_isQuiet_b42 hk13 (F0.cl))
theorem av_cBook_isQuiet_b13 {C : Nat → Prop} {k13 : Nat → Int → Nat → Int → Int → Hp → Option (Int × Hp)} (hk13 : ∀ (v0 : Nat) (v1 : Int) (v2 : Nat) (v3 : Int) (v4 : Int) (h : Hp), Cl C h → Ao (qI C h) (k13 v0 v1 v2 v3 v4 h)) {v0 : Nat} {v1 : Int} {v2 : Nat} {v3 : Int} {v4 : Int} {h : Hp} (c : Cl C h) : Ao (qI C h) (f_cBook_isQuiet_b13 k13 v0 v1 v2 v3 v4 h) := by
  unfold f_cBook_isQuiet_b13
  have F0 := Av.rf c
  refine ao_it ?_ ?_
  · refine ao_it ?_ ao_no
    exact ao_so F0
  · refine ao_it ao_no ?_
    refine ao_it ?_ ao_no
    refine ao_v (fun y7 => ?_)
    refine ao_it ?_ ?_
    · exact ao_jI F0 (av_cBook_isQuiet_b41 hk13 (F0.cl))
    · refine ao_it ao_no ?_
      refine ao_it ?_ ?_
      · exact ao_jI F0 (av_cBook_isQuiet_b41 hk13 (F0.cl))
      · exact ao_jI F0 (av_cBook_isQuiet_b42 hk13 (F0.cl))
theorem av_cBook_isQuiet_b13_lp {C : Nat → Prop} (n : Nat) : ∀ {v0 : Nat} {v1 : Int} {v2 : Nat} {v3 : Int} {v4 : Int} {h : Hp}, Cl C h → Ao (qI C h) (f_cBook_isQuiet_b13_lp n v0 v1 v2 v3 v4 h) := by
  induction n with
  | zero => intros; exact ao_no
  | succ n ih => intro v0 v1 v2 v3 v4 h c; exact av_cBook_isQuiet_b13 (fun _ _ _ _ _ h => ih) c
theorem av_cBook_isQuiet {C : Nat → Prop} {v0 : Nat} {h : Hp} (c : Cl C h) : Ao (qI C h) (f_cBook_isQuiet v0 h) := by
  unfold f_cBook_isQuiet
  have F0 := Av.rf c
  refine ao_v (fun y1 => ?_)
  refine ao_it ao_no ?_
  refine ao_v (fun y3 => ?_)
  exact ao_jI F0 (av_cBook_isQuiet_b13_lp FU (F0.cl))
theorem av_cBook_probeTime_b28 {C : Nat → Prop} {v0 : Nat} {v1 : Int} {v2 : Nat} {h : Hp} (c : Cl C h) : Ao (qI C h) (f_cBook_probeTime_b28 v0 v1 v2 h) := by
  unfold f_cBook_probeTime_b28
  have F0 := Av.rf c
  refine ao_b2 F0 (av_cBook_patience (F0.cl)) (fun r7 h5 F1 => ?_)
  refine ao_v (fun y8 => ?_)
  refine ao_it ao_no ?_
  refine ao_it ?_ ?_
  · refine ao_it ?_ ?_
    · exact ao_so F1
    · refine ao_b2 F1 (av_cBook_firstSpace (F1.cl)) (fun r12 h10 F3 => ?_)
      refine ao_it ?_ ?_
      · exact ao_so F3
      · refine ao_b2 F3 (av_cBook_isQuiet (F3.cl)) (fun r15 h13 F4 => ?_)
        refine ao_it ?_ ?_
        · exact ao_so F4
        · exact ao_so F4
  · exact ao_so F1
theorem av_cBook_probeTime {C : Nat → Prop} {v0 : Nat} {v1 : Int} {h : Hp} (c : Cl C h) : Ao (qI C h) (f_cBook_probeTime v0 v1 h) := by
  unfold f_cBook_probeTime
  have F0 := Av.rf c
  refine ao_it ao_no ?_
  refine ao_it ?_ ao_no
  refine ao_v (fun y3 => ?_)
  refine ao_it ao_no ?_
  refine ao_it ?_ ?_
  · exact ao_so F0
  · refine ao_it ?_ ?_
    · exact ao_jI F0 (av_cBook_probeTime_b28 (F0.cl))
    · refine ao_it ?_ ?_
      · exact ao_jI F0 (av_cBook_probeTime_b28 (F0.cl))
      · exact ao_so F0
theorem av_cBook_earliest_b71 {C : Nat → Prop} {k7 : Nat → Int → Int → Int → Int → Hp → Option (Int × Hp)} (hk7 : ∀ (v0 : Nat) (v1 : Int) (v2 : Int) (v3 : Int) (v4 : Int) (h : Hp), Cl C h → Ao (qI C h) (k7 v0 v1 v2 v3 v4 h)) {v0 : Nat} {v1 : Int} {v2 : Int} {v3 : Int} {v4 : Int} {h : Hp} (c : Cl C h) : Ao (qI C h) (f_cBook_earliest_b71 k7 v0 v1 v2 v3 v4 h) := by
  unfold f_cBook_earliest_b71
  have F0 := Av.rf c
  exact ao_jI F0 (hk7 _ _ _ _ _ _ (F0.cl))
theorem av_cBook_earliest_b65 {C : Nat → Prop} {k7 : Nat → Int → Int → Int → Int → Hp → Option (Int × Hp)} (hk7 : ∀ (v0 : Nat) (v1 : Int) (v2 : Int) (v3 : Int) (v4 : Int) (h : Hp), Cl C h → Ao (qI C h) (k7 v0 v1 v2 v3 v4 h)) {v0 : Nat} {v1 : Int} {v4 : Int} {v5 : Int} {h : Hp} (c : Cl C h) : Ao (qI C h) (f_cBook_earliest_b65 k7 v0 v1 v4 v5 h) := by
  unfold f_cBook_earliest_b65
  have F0 := Av.rf c
  exact ao_jI F0 (av_cBook_earliest_b71 hk7 (F0.cl))
theorem av_cBook_earliest_b36 {C : Nat → Prop} {k7 : Nat → Int → Int → Int → Int → Hp → Option (Int × Hp)} (hk7 : ∀ (v0 : Nat) (v1 : Int) (v2 : Int) (v3 : Int) (v4 : Int) (h : Hp), Cl C h → Ao (qI C h) (k7 v0 v1 v2 v3 v4 h)) {v0 : Nat} {v1 : Int} {v2 : Int} {v3 : Int} {v4 : Int} {s0 : Int} {h : Hp} (c : Cl C h) : Ao (qI C h) (f_cBook_earliest_b36 k7 v0 v1 v2 v3 v4 s0 h) := by
  unfold f_cBook_earliest_b36
  have F0 := Av.rf c
  refine ao_it ?_ ?_
  · exact ao_jI F0 (av_cBook_earliest_b71 hk7 (F0.cl))
  · refine ao_it ?_ ?_
    · exact ao_jI F0 (av_cBook_earliest_b71 hk7 (F0.cl))
    · refine ao_it ?_ ?_
      · exact ao_jI F0 (av_cBook_earliest_b65 hk7 (F0.cl))
      · refine ao_it ?_ ?_
        · exact ao_jI F0 (av_cBook_earliest_b65 hk7 (F0.cl))
        · exact ao_jI F0 (av_cBook_earliest_b71 hk7 (F0.cl))
theorem av_cBook_earliest_b7 {C : Nat → Prop} {k7 : Nat → Int → Int → Int → Int → Hp → Option (Int × Hp)} (hk7 : ∀ (v0 : Nat) (v1 : Int) (v2 : Int) (v3 : Int) (v4 : Int) (h : Hp), Cl C h → Ao (qI C h) (k7 v0 v1 v2 v3 v4 h)) {v0 : Nat} {v1 : Int} {v2 : Int} {v3 : Int} {v4 : Int} {h : Hp} (c : Cl C h) : Ao (qI C h) (f_cBook_earliest_b7 k7 v0 v1 v2 v3 v4 h) := by
  unfold f_cBook_earliest_b7
  have F0 := Av.rf c
  refine ao_it ?_ ?_
  · exact ao_so F0
  · refine ao_it ?_ ?_
    · refine ao_b2 F0 (av_cBook_probeTime (F0.cl)) (fun r3 h1 F1 => ?_)
      exact ao_jI F1 (av_cBook_earliest_b36 hk7 (F1.cl))
    · refine ao_it ao_no ?_
      refine ao_it ?_ ao_no
      refine ao_it ao_no ?_
      exact ao_jI F0 (av_cBook_earliest_b36 hk7 (F0.cl))
theorem av_cBook_earliest_b7_lp {C : Nat → Prop} (n : Nat) : ∀ {v0 : Nat} {v1 : Int} {v2 : Int} {v3 : Int} {v4 : Int} {h : Hp}, Cl C h → Ao (qI C h) (f_cBook_earliest_b7_lp n v0 v1 v2 v3 v4 h) := by
  induction n with
  | zero => intros; exact ao_no
  | succ n ih => intro v0 v1 v2 v3 v4 h c; exact av_cBook_earliest_b7 (fun _ _ _ _ _ h => ih) c
theorem av_cBook_earliest {C : Nat → Prop} {v0 : Nat} {v1 : Int} {h : Hp} (c : Cl C h) : Ao (qI C h) (f_cBook_earliest v0 v1 h) := by
  unfold f_cBook_earliest
  have F0 := Av.rf c
  exact ao_jI F0 (av_cBook_earliest_b7_lp FU (F0.cl))
theorem av_cBook_tick {C : Nat → Prop} {v0 : Nat} {h : Hp} (c : Cl C h) (Cv0 : C v0) : Ao (qI C h) (f_cBook_tick v0 h) := by
  unfold f_cBook_tick
  have F0 := Av.rf c
  refine ao_I F0 Cv0 (fun h1 F1 => ?_)
  refine ao_b2 F1 (av_cBook_earliest (F1.cl)) (fun r4 h2 F2 => ?_)
  refine ao_it ?_ ?_
  · refine ao_b2 F2 (av_cBook_earliest (F2.cl)) (fun r7 h5 F3 => ?_)
    refine ao_it ?_ ?_
    · refine ao_I F3 Cv0 (fun h8 F4 => ?_)
      exact ao_so F4
    · exact ao_so F3
  · refine ao_b2 F2 (av_cBook_losses (F2.cl) Cv0) (fun r11 h9 F5 => ?_)
    exact ao_so F5
theorem av_cSide_end_b21 {C : Nat → Prop} {v0 : Nat} {s0 : Nat} {s1 : Int} {h : Hp} (c : Cl C h) (Cs0 : C s0) : Ao (qV C h) (f_cSide_end_b21 v0 s0 s1 h) := by
  unfold f_cSide_end_b21
  have F0 := Av.rf c
  refine ao_it ao_no ?_
  refine ao_I F0 Cs0 (fun h3 F1 => ?_)
  exact ao_so F1
theorem av_cSide_end {C : Nat → Prop} {v0 : Nat} {v1 : Int} {h : Hp} (c : Cl C h) (Cv0 : C v0) : Ao (qV C h) (f_cSide_end v0 v1 h) := by
  unfold f_cSide_end
  have F0 := Av.rf c
  refine ao_I F0 Cv0 (fun h1 F1 => ?_)
  refine ao_it ?_ ?_
  · exact ao_jV F1 (av_cSide_end_b21 (F1.cl) Cv0)
  · exact ao_jV F1 (av_cSide_end_b21 (F1.cl) Cv0)
theorem av_cSide_probe_b47 {C : Nat → Prop} {k22 : Nat → Int → Nat → Int → Hp → Option (Hp)} (hk22 : ∀ (v0 : Nat) (v1 : Int) (v2 : Nat) (v3 : Int) (h : Hp), Cl C h → C v0 → Ao (qV C h) (k22 v0 v1 v2 v3 h)) {v0 : Nat} {v1 : Int} {v2 : Nat} {v3 : Int} {h : Hp} (c : Cl C h) (Cv0 : C v0) : Ao (qV C h) (f_cSide_probe_b47 k22 v0 v1 v2 v3 h) := by
  unfold f_cSide_probe_b47
  have F0 := Av.rf c
  exact ao_jV F0 (hk22 _ _ _ _ _ (F0.cl) Cv0)
theorem av_cSide_probe_b53 {C : Nat → Prop} {v0 : Nat} {v1 : Int} {v2 : Nat} {v3 : Int} {h : Hp} (c : Cl C h) (Cv0 : C v0) : Ao (qV C h) (f_cSide_probe_b53 v0 v1 v2 v3 h) := by
  unfold f_cSide_probe_b53
  have F0 := Av.rf c
  refine ao_it ao_no ?_
  refine ao_it ?_ ?_
  · exact ao_so F0
  · refine ao_b1 F0 (av_cSide_gone (F0.cl) Cv0) (fun h18 F1 => ?_)
    exact ao_so F1
theorem av_cSide_probe_b22 {C : Nat → Prop} {k22 : Nat → Int → Nat → Int → Hp → Option (Hp)} (hk22 : ∀ (v0 : Nat) (v1 : Int) (v2 : Nat) (v3 : Int) (h : Hp), Cl C h → C v0 → Ao (qV C h) (k22 v0 v1 v2 v3 h)) {v0 : Nat} {v1 : Int} {v2 : Nat} {v3 : Int} {h : Hp} (c : Cl C h) (Cv0 : C v0) : Ao (qV C h) (f_cSide_probe_b22 k22 v0 v1 v2 v3 h) := by
  unfold f_cSide_probe_b22
  have F0 := Av.rf c
  refine ao_it ao_no ?_
  refine ao_it ?_ ?_
  · exact ao_jV F0 (av_cSide_probe_b53 (F0.cl) Cv0)
  · refine ao_b2 F0 (av_cSpace_state (F0.cl)) (fun r13 h11 F1 => ?_)
    refine ao_it ?_ ?_
    · exact ao_jV F1 (av_cSide_probe_b47 hk22 (F1.cl) Cv0)
    · refine ao_b2 F1 (av_cSpace_is (F1.cl)) (fun r16 h14 F2 => ?_)
      refine ao_it ?_ ?_
      · exact ao_jV F2 (av_cSide_probe_b53 (F2.cl) Cv0)
      · exact ao_jV F2 (av_cSide_probe_b47 hk22 (F2.cl) Cv0)
theorem av_cSide_probe_b22_lp {C : Nat → Prop} (n : Nat) : ∀ {v0 : Nat} {v1 : Int} {v2 : Nat} {v3 : Int} {h : Hp}, Cl C h → C v0 → Ao (qV C h) (f_cSide_probe_b22_lp n v0 v1 v2 v3 h) := by
  induction n with
  | zero => intros; exact ao_no
  | succ n ih => intro v0 v1 v2 v3 h c Cv0; exact av_cSide_probe_b22 (fun _ _ _ _ h => ih) c Cv0
theorem av_cSide_probe {C : Nat → Prop} {v0 : Nat} {v1 : Int} {h : Hp} (c : Cl C h) (Cv0 : C v0) : Ao (qV C h) (f_cSide_probe v0 v1 h) := by
  unfold f_cSide_probe
  have F0 := Av.rf c
  refine ao_it ao_no ?_
  refine ao_it ?_ ao_no
  refine ao_I F0 (F0.cl.r Cv0) (fun h3 F1 => ?_)
  refine ao_it ao_no ?_
  refine ao_it ao_no ?_
  refine ao_it ?_ ao_no
  refine ao_m (F1.cl.r (F1.cl.r (F1.cl.r Cv0))) (fun y7 Cy7 => ?_)
  refine ao_it ao_no ?_
  refine ao_v (fun y9 => ?_)
  exact ao_jV F1 (av_cSide_probe_b22_lp FU (F1.cl) Cv0)
theorem av_cSide_quietLimit_b54 {C : Nat → Prop} {v0 : Nat} {s0 : Int} {h : Hp} (c : Cl C h) : Ao (qI C h) (f_cSide_quietLimit_b54 v0 s0 h) := by
  unfold f_cSide_quietLimit_b54
  have F0 := Av.rf c
  refine ao_it ?_ ?_
  · refine ao_b2 F0 (av_cSide_patience (F0.cl)) (fun r9 h7 F1 => ?_)
    exact ao_so F1
  · exact ao_so F0
theorem av_cSide_quietLimit_b28 {C : Nat → Prop} {v0 : Nat} {v1 : Int} {s0 : Int} {h : Hp} (c : Cl C h) : Ao (qI C h) (f_cSide_quietLimit_b28 v0 v1 s0 h) := by
  unfold f_cSide_quietLimit_b28
  have F0 := Av.rf c
  refine ao_it ?_ ?_
  · refine ao_it ?_ ?_
    · exact ao_jI F0 (av_cSide_quietLimit_b54 (F0.cl))
    · exact ao_jI F0 (av_cSide_quietLimit_b54 (F0.cl))
  · exact ao_jI F0 (av_cSide_quietLimit_b54 (F0.cl))
theorem av_cSide_quietLimit {C : Nat → Prop} {v0 : Nat} {h : Hp} (c : Cl C h) : Ao (qI C h) (f_cSide_quietLimit v0 h) := by
  unfold f_cSide_quietLimit
  have F0 := Av.rf c
  refine ao_it ao_no ?_
  refine ao_it ?_ ao_no
  refine ao_v (fun y3 => ?_)
  refine ao_it ?_ ?_
  · exact ao_jI F0 (av_cSide_quietLimit_b28 (F0.cl))
  · refine ao_it ao_no ?_
    refine ao_it ao_no ?_
    refine ao_it ?_ ao_no
    exact ao_jI F0 (av_cSide_quietLimit_b28 (F0.cl))
theorem av_cSide_isWorn_b60 {C : Nat → Prop} {k4 : Nat → Int → Int → Hp → Option (Int × Hp)} (hk4 : ∀ (v0 : Nat) (v1 : Int) (v2 : Int) (h : Hp), Cl C h → Ao (qI C h) (k4 v0 v1 v2 h)) {v0 : Nat} {v2 : Int} {s0 : Int} {h : Hp} (c : Cl C h) : Ao (qI C h) (f_cSide_isWorn_b60 k4 v0 v2 s0 h) := by
  unfold f_cSide_isWorn_b60
  have F0 := Av.rf c
  exact ao_jI F0 (hk4 _ _ _ _ (F0.cl))
theorem av_cSide_isWorn_b55 {C : Nat → Prop} {k4 : Nat → Int → Int → Hp → Option (Int × Hp)} (hk4 : ∀ (v0 : Nat) (v1 : Int) (v2 : Int) (h : Hp), Cl C h → Ao (qI C h) (k4 v0 v1 v2 h)) {v0 : Nat} {v2 : Int} {h : Hp} (c : Cl C h) : Ao (qI C h) (f_cSide_isWorn_b55 k4 v0 v2 h) := by
  unfold f_cSide_isWorn_b55
  have F0 := Av.rf c
  exact ao_jI F0 (av_cSide_isWorn_b60 hk4 (F0.cl))
theorem av_cSide_isWorn_b59 {C : Nat → Prop} {k4 : Nat → Int → Int → Hp → Option (Int × Hp)} (hk4 : ∀ (v0 : Nat) (v1 : Int) (v2 : Int) (h : Hp), Cl C h → Ao (qI C h) (k4 v0 v1 v2 h)) {v0 : Nat} {v2 : Int} {h : Hp} (c : Cl C h) : Ao (qI C h) (f_cSide_isWorn_b59 k4 v0 v2 h) := by
  unfold f_cSide_isWorn_b59
  have F0 := Av.rf c
  exact ao_jI F0 (av_cSide_isWorn_b60 hk4 (F0.cl))
theorem av_cSide_isWorn_b4 {C : Nat → Prop} {k4 : Nat → Int → Int → Hp → Option (Int × Hp)} (hk4 : ∀ (v0 : Nat) (v1 : Int) (v2 : Int) (h : Hp), Cl C h → Ao (qI C h) (k4 v0 v1 v2 h)) {v0 : Nat} {v1 : Int} {v2 : Int} {h : Hp} (c : Cl C h) : Ao (qI C h) (f_cSide_isWorn_b4 k4 v0 v1 v2 h) := by
  unfold f_cSide_isWorn_b4
  have F0 := Av.rf c
  refine ao_it ?_ ?_
  · refine ao_it ?_ ao_no
    exact ao_so F0
  · refine ao_it ?_ ?_
    · exact ao_jI F0 (av_cSide_isWorn_b55 hk4 (F0.cl))
    · refine ao_it ao_no ?_
      refine ao_it ?_ ao_no
      refine ao_it ?_ ?_
      · exact ao_jI F0 (av_cSide_isWorn_b59 hk4 (F0.cl))
      · refine ao_it ao_no ?_
        refine ao_it ao_no ?_
        refine ao_it ?_ ao_no
        refine ao_it ao_no ?_
        refine ao_it ?_ ?_
        · exact ao_jI F0 (av_cSide_isWorn_b55 hk4 (F0.cl))
        · refine ao_it ao_no ?_
          refine ao_it ?_ ao_no
          refine ao_it ao_no ?_
          refine ao_it ?_ ?_
          · exact ao_jI F0 (av_cSide_isWorn_b59 hk4 (F0.cl))
          · exact ao_jI F0 (av_cSide_isWorn_b55 hk4 (F0.cl))
theorem av_cSide_isWorn_b4_lp {C : Nat → Prop} (n : Nat) : ∀ {v0 : Nat} {v1 : Int} {v2 : Int} {h : Hp}, Cl C h → Ao (qI C h) (f_cSide_isWorn_b4_lp n v0 v1 v2 h) := by
  induction n with
  | zero => intros; exact ao_no
  | succ n ih => intro v0 v1 v2 h c; exact av_cSide_isWorn_b4 (fun _ _ _ h => ih) c
theorem av_cSide_isWorn {C : Nat → Prop} {v0 : Nat} {h : Hp} (c : Cl C h) : Ao (qI C h) (f_cSide_isWorn v0 h) := by
  unfold f_cSide_isWorn
  have F0 := Av.rf c
  exact ao_jI F0 (av_cSide_isWorn_b4_lp FU (F0.cl))
theorem av_cSide_headSize {C : Nat → Prop} {v0 : Int} {h : Hp} (c : Cl C h) : Ao (qI C h) (f_cSide_headSize v0 h) := by
  unfold f_cSide_headSize
  have F0 := Av.rf c
  refine ao_it ?_ ?_
  · refine ao_it ?_ ?_
    · exact ao_so F0
    · exact ao_so F0
  · exact ao_so F0
theorem av_cBytes_put {C : Nat → Prop} {v0 : Nat} {v1 : Int} {h : Hp} (c : Cl C h) (Cv0 : C v0) : Ao (qV C h) (f_cBytes_put v0 v1 h) := by
  unfold f_cBytes_put
  have F0 := Av.rf c
  refine ao_b2 F0 (av_cBytes_step (F0.cl) Cv0) (fun r3 h1 F1 => ?_)
  refine ao_it ?_ ?_
  · exact ao_so F1
  · refine ao_I F1 Cv0 (fun h4 F2 => ?_)
    refine ao_it ao_no ?_
    refine ao_it ?_ ao_no
    refine ao_I F2 (F1.cl.r Cv0) (fun h7 F3 => ?_)
    exact ao_so F3
theorem av_cFrame_writeRanges_b104 {C : Nat → Prop} {k104 : Nat → Nat → Int → Hp → Option (Hp)} (hk104 : ∀ (v0 : Nat) (v1 : Nat) (v2 : Int) (h : Hp), Cl C h → C v1 → Ao (qV C h) (k104 v0 v1 v2 h)) {v0 : Nat} {v1 : Nat} {v2 : Int} {h : Hp} (c : Cl C h) (Cv1 : C v1) : Ao (qV C h) (f_cFrame_writeRanges_b104 k104 v0 v1 v2 h) := by
  unfold f_cFrame_writeRanges_b104
  have F0 := Av.rf c
  refine ao_it ?_ ?_
  · exact ao_so F0
  · refine ao_it ?_ ?_
    · exact ao_so F0
    · refine ao_it ao_no ?_
      refine ao_it ?_ ao_no
      refine ao_it ao_no ?_
      refine ao_b1 F0 (av_cBytes_putNumber (F0.cl) Cv1) (fun h32 F1 => ?_)
      exact ao_jV F1 (hk104 _ _ _ _ (F1.cl) Cv1)
theorem av_cFrame_writeRanges_b104_lp {C : Nat → Prop} (n : Nat) : ∀ {v0 : Nat} {v1 : Nat} {v2 : Int} {h : Hp}, Cl C h → C v1 → Ao (qV C h) (f_cFrame_writeRanges_b104_lp n v0 v1 v2 h) := by
  induction n with
  | zero => intros; exact ao_no
  | succ n ih => intro v0 v1 v2 h c Cv1; exact av_cFrame_writeRanges_b104 (fun _ _ _ h => ih) c Cv1
theorem av_cFrame_writeRanges_b48 {C : Nat → Prop} {k48 : Nat → Nat → Int → Hp → Option (Hp)} (hk48 : ∀ (v0 : Nat) (v1 : Nat) (v2 : Int) (h : Hp), Cl C h → C v1 → Ao (qV C h) (k48 v0 v1 v2 h)) {v0 : Nat} {v1 : Nat} {v2 : Int} {h : Hp} (c : Cl C h) (Cv1 : C v1) : Ao (qV C h) (f_cFrame_writeRanges_b48 k48 v0 v1 v2 h) := by
  unfold f_cFrame_writeRanges_b48
  have F0 := Av.rf c
  refine ao_it ?_ ?_
  · exact ao_jV F0 (av_cFrame_writeRanges_b104_lp FU (F0.cl) Cv1)
  · refine ao_it ao_no ?_
    refine ao_it ?_ ao_no
    refine ao_it ao_no ?_
    refine ao_it ?_ ao_no
    refine ao_it ao_no ?_
    refine ao_b1 F0 (av_cBytes_putNumber (F0.cl) Cv1) (fun h21 F1 => ?_)
    refine ao_it ao_no ?_
    refine ao_it ?_ ao_no
    refine ao_it ao_no ?_
    refine ao_it ?_ ao_no
    refine ao_b1 F1 (av_cBytes_putNumber (F1.cl) Cv1) (fun h27 F2 => ?_)
    exact ao_jV F2 (hk48 _ _ _ _ (F2.cl) Cv1)
theorem av_cFrame_writeRanges_b48_lp {C : Nat → Prop} (n : Nat) : ∀ {v0 : Nat} {v1 : Nat} {v2 : Int} {h : Hp}, Cl C h → C v1 → Ao (qV C h) (f_cFrame_writeRanges_b48_lp n v0 v1 v2 h) := by
  induction n with
  | zero => intros; exact ao_no
  | succ n ih => intro v0 v1 v2 h c Cv1; exact av_cFrame_writeRanges_b48 (fun _ _ _ h => ih) c Cv1
theorem av_cFrame_writeRanges {C : Nat → Prop} {v0 : Nat} {v1 : Nat} {h : Hp} (c : Cl C h) (Cv1 : C v1) : Ao (qV C h) (f_cFrame_writeRanges v0 v1 h) := by
  unfold f_cFrame_writeRanges
  have F0 := Av.rf c
  refine ao_it ao_no ?_
  refine ao_it ?_ ao_no
  refine ao_it ao_no ?_
  refine ao_b1 F0 (av_cBytes_putNumber (F0.cl) Cv1) (fun h4 F1 => ?_)
  refine ao_b1 F1 (av_cBytes_putNumber (F1.cl) Cv1) (fun h6 F2 => ?_)
  refine ao_b1 F2 (av_cBytes_putNumber (F2.cl) Cv1) (fun h8 F3 => ?_)
  refine ao_it ao_no ?_
  refine ao_it ?_ ao_no
  refine ao_it ao_no ?_
  refine ao_it ?_ ao_no
  refine ao_b1 F3 (av_cBytes_putNumber (F3.cl) Cv1) (fun h14 F4 => ?_)
  exact ao_jV F4 (av_cFrame_writeRanges_b48_lp FU (F4.cl) Cv1)
theorem av_cFrame_write_b312 {C : Nat → Prop} {v0 : Nat} {v1 : Nat} {h : Hp} (c : Cl C h) (Cv1 : C v1) : Ao (qV C h) (f_cFrame_write_b312 v0 v1 h) := by
  unfold f_cFrame_write_b312
  have F0 := Av.rf c
  refine ao_it ao_no ?_
  refine ao_b1 F0 (av_cBytes_putRow (F0.cl) Cv1) (fun h28 F1 => ?_)
  refine ao_it ?_ ?_
  · exact ao_so F1
  · refine ao_b1 F1 (av_cBytes_putRow (F1.cl) Cv1) (fun h30 F2 => ?_)
    exact ao_so F2
theorem av_cFrame_write_b303 {C : Nat → Prop} {v0 : Nat} {v1 : Nat} {h : Hp} (c : Cl C h) (Cv1 : C v1) : Ao (qV C h) (f_cFrame_write_b303 v0 v1 h) := by
  unfold f_cFrame_write_b303
  have F0 := Av.rf c
  refine ao_it ao_no ?_
  refine ao_b1 F0 (av_cBytes_putNumber (F0.cl) Cv1) (fun h25 F1 => ?_)
  exact ao_jV F1 (av_cFrame_write_b312 (F1.cl) Cv1)
theorem av_cFrame_write_b257 {C : Nat → Prop} {v0 : Nat} {v1 : Nat} {h : Hp} (c : Cl C h) (Cv1 : C v1) : Ao (qV C h) (f_cFrame_write_b257 v0 v1 h) := by
  unfold f_cFrame_write_b257
  have F0 := Av.rf c
  refine ao_b2 F0 (av_cFrame_carries (F0.cl)) (fun r20 h18 F1 => ?_)
  refine ao_it ?_ ?_
  · refine ao_it ?_ ?_
    · refine ao_it ?_ ?_
      · exact ao_jV F1 (av_cFrame_write_b303 (F1.cl) Cv1)
      · refine ao_it ?_ ?_
        · exact ao_jV F1 (av_cFrame_write_b312 (F1.cl) Cv1)
        · exact ao_jV F1 (av_cFrame_write_b303 (F1.cl) Cv1)
    · refine ao_it ao_no ?_
      refine ao_b1 F1 (av_cBytes_put (F1.cl) Cv1) (fun h22 F2 => ?_)
      exact ao_jV F2 (av_cFrame_write_b312 (F2.cl) Cv1)
  · exact ao_so F1
theorem av_cFrame_write_b241 {C : Nat → Prop} {v0 : Nat} {v1 : Nat} {h : Hp} (c : Cl C h) (Cv1 : C v1) : Ao (qV C h) (f_cFrame_write_b241 v0 v1 h) := by
  unfold f_cFrame_write_b241
  have F0 := Av.rf c
  refine ao_it ?_ ?_
  · exact ao_jV F0 (av_cFrame_write_b257 (F0.cl) Cv1)
  · refine ao_it ao_no ?_
    refine ao_b1 F0 (av_cBytes_putNumber (F0.cl) Cv1) (fun h16 F1 => ?_)
    exact ao_jV F1 (av_cFrame_write_b257 (F1.cl) Cv1)
theorem av_cFrame_write_b233 {C : Nat → Prop} {v0 : Nat} {v1 : Nat} {h : Hp} (c : Cl C h) (Cv1 : C v1) : Ao (qV C h) (f_cFrame_write_b233 v0 v1 h) := by
  unfold f_cFrame_write_b233
  have F0 := Av.rf c
  refine ao_it ao_no ?_
  refine ao_b1 F0 (av_cBytes_putNumber (F0.cl) Cv1) (fun h13 F1 => ?_)
  exact ao_jV F1 (av_cFrame_write_b241 (F1.cl) Cv1)
theorem av_cFrame_write_b197 {C : Nat → Prop} {v0 : Nat} {v1 : Nat} {h : Hp} (c : Cl C h) (Cv1 : C v1) : Ao (qV C h) (f_cFrame_write_b197 v0 v1 h) := by
  unfold f_cFrame_write_b197
  have F0 := Av.rf c
  refine ao_it ?_ ?_
  · exact ao_jV F0 (av_cFrame_write_b233 (F0.cl) Cv1)
  · refine ao_it ?_ ?_
    · exact ao_jV F0 (av_cFrame_write_b233 (F0.cl) Cv1)
    · refine ao_it ?_ ?_
      · exact ao_jV F0 (av_cFrame_write_b233 (F0.cl) Cv1)
      · refine ao_it ?_ ?_
        · exact ao_jV F0 (av_cFrame_write_b241 (F0.cl) Cv1)
        · exact ao_jV F0 (av_cFrame_write_b233 (F0.cl) Cv1)
theorem av_cFrame_write_b170 {C : Nat → Prop} {v0 : Nat} {v1 : Nat} {h : Hp} (c : Cl C h) (Cv1 : C v1) : Ao (qV C h) (f_cFrame_write_b170 v0 v1 h) := by
  unfold f_cFrame_write_b170
  have F0 := Av.rf c
  refine ao_it ?_ ?_
  · exact ao_jV F0 (av_cFrame_write_b233 (F0.cl) Cv1)
  · refine ao_it ?_ ?_
    · exact ao_jV F0 (av_cFrame_write_b197 (F0.cl) Cv1)
    · refine ao_it ?_ ?_
      · exact ao_jV F0 (av_cFrame_write_b233 (F0.cl) Cv1)
      · exact ao_jV F0 (av_cFrame_write_b197 (F0.cl) Cv1)
theorem av_cFrame_write_b133 {C : Nat → Prop} {v0 : Nat} {v1 : Nat} {h : Hp} (c : Cl C h) (Cv1 : C v1) : Ao (qV C h) (f_cFrame_write_b133 v0 v1 h) := by
  unfold f_cFrame_write_b133
  have F0 := Av.rf c
  refine ao_it ao_no ?_
  refine ao_b1 F0 (av_cBytes_putMany (F0.cl) Cv1) (fun h10 F1 => ?_)
  exact ao_so F1
theorem av_cFrame_write_b80 {C : Nat → Prop} {v0 : Nat} {v1 : Nat} {s0 : Nat} {s1 : Int} {h : Hp} (c : Cl C h) (Cv1 : C v1) (Cs0 : C s0) : Ao (qV C h) (f_cFrame_write_b80 v0 v1 s0 s1 h) := by
  unfold f_cFrame_write_b80
  have F0 := Av.rf c
  refine ao_it ao_no ?_
  refine ao_b1 F0 (av_cBytes_put (F0.cl) Cs0) (fun h2 F1 => ?_)
  refine ao_it ?_ ?_
  · exact ao_so F1
  · refine ao_it ?_ ?_
    · refine ao_it ?_ ?_
      · refine ao_it ?_ ?_
        · exact ao_jV F1 (av_cFrame_write_b133 (F1.cl) Cv1)
        · refine ao_it ?_ ?_
          · refine ao_it ?_ ?_
            · exact ao_jV F1 (av_cFrame_write_b170 (F1.cl) Cv1)
            · refine ao_it ?_ ?_
              · exact ao_jV F1 (av_cFrame_write_b170 (F1.cl) Cv1)
              · refine ao_it ao_no ?_
                refine ao_b1 F1 (av_cBytes_putNumber (F1.cl) Cv1) (fun h5 F2 => ?_)
                exact ao_jV F2 (av_cFrame_write_b170 (F2.cl) Cv1)
          · exact ao_jV F1 (av_cFrame_write_b133 (F1.cl) Cv1)
      · refine ao_b1 F1 (av_cFrame_writeRanges (F1.cl) Cv1) (fun h7 F3 => ?_)
        exact ao_so F3
    · exact ao_so F1
theorem av_cFrame_write_b9 {C : Nat → Prop} {k9 : Nat → Nat → Int → Hp → Option (Hp)} (hk9 : ∀ (v0 : Nat) (v1 : Nat) (v2 : Int) (h : Hp), Cl C h → C v1 → Ao (qV C h) (k9 v0 v1 v2 h)) {v0 : Nat} {v1 : Nat} {v2 : Int} {h : Hp} (c : Cl C h) (Cv1 : C v1) : Ao (qV C h) (f_cFrame_write_b9 k9 v0 v1 v2 h) := by
  unfold f_cFrame_write_b9
  have F0 := Av.rf c
  refine ao_it ?_ ?_
  · exact ao_so F0
  · refine ao_it ao_no ?_
    refine ao_b1 F0 (av_cBytes_put (F0.cl) Cv1) (fun h33 F1 => ?_)
    exact ao_jV F1 (hk9 _ _ _ _ (F1.cl) Cv1)
theorem av_cFrame_write_b9_lp {C : Nat → Prop} (n : Nat) : ∀ {v0 : Nat} {v1 : Nat} {v2 : Int} {h : Hp}, Cl C h → C v1 → Ao (qV C h) (f_cFrame_write_b9_lp n v0 v1 v2 h) := by
  induction n with
  | zero => intros; exact ao_no
  | succ n ih => intro v0 v1 v2 h c Cv1; exact av_cFrame_write_b9 (fun _ _ _ h => ih) c Cv1
theorem av_cFrame_write_b57 {C : Nat → Prop} {v0 : Nat} {v1 : Nat} {s0 : Nat} {s1 : Int} {s2 : Int} {h : Hp} (c : Cl C h) (Cv1 : C v1) (Cs0 : C s0) : Ao (qV C h) (f_cFrame_write_b57 v0 v1 s0 s1 s2 h) := by
  unfold f_cFrame_write_b57
  have F0 := Av.rf c
  exact ao_jV F0 (av_cFrame_write_b80 (F0.cl) Cv1 Cs0)
theorem av_cFrame_write {C : Nat → Prop} {v0 : Nat} {v1 : Nat} {h : Hp} (c : Cl C h) (Cv1 : C v1) : Ao (qV C h) (f_cFrame_write v0 v1 h) := by
  unfold f_cFrame_write
  have F0 := Av.rf c
  refine ao_it ?_ ?_
  · refine ao_it ?_ ?_
    · exact ao_jV F0 (av_cFrame_write_b80 (F0.cl) Cv1 Cv1)
    · refine ao_it ?_ ?_
      · exact ao_jV F0 (av_cFrame_write_b57 (F0.cl) Cv1 Cv1)
      · exact ao_jV F0 (av_cFrame_write_b57 (F0.cl) Cv1 Cv1)
  · exact ao_jV F0 (av_cFrame_write_b9_lp FU (F0.cl) Cv1)
theorem av_cSide_closes_b66 {C : Nat → Prop} {v0 : Nat} {v1 : Int} {s0 : Nat} {s1 : Int} {h : Hp} (c : Cl C h) (Cv0 : C v0) (Cs0 : C s0) : Ao (qV C h) (f_cSide_closes_b66 v0 v1 s0 s1 h) := by
  unfold f_cSide_closes_b66
  have F0 := Av.rf c
  refine ao_it ao_no ?_
  refine ao_J F0 Cs0 (fun h7 F1 => ?_)
  refine ao_it ao_no ?_
  refine ao_R F1 (F1.cl.r Cv0) (F1.cl.r Cv0) (fun h9 F2 => ?_)
  refine ao_it ao_no ?_
  refine ao_b1 F2 (av_cFrame_write (F2.cl) (F2.cl.r Cv0)) (fun h11 F3 => ?_)
  refine ao_it ao_no ?_
  refine ao_it ?_ ?_
  · exact ao_so F3
  · refine ao_it ao_no ?_
    refine ao_it ?_ ao_no
    refine ao_b1 F3 (av_cBytes_over (F3.cl) (F3.cl.r Cv0) (F3.cl.r (F3.cl.r Cv0))) (fun h16 F4 => ?_)
    exact ao_so F4
theorem av_cSide_closes_b44 {C : Nat → Prop} {v0 : Nat} {v1 : Int} {v2 : Int} {s0 : Nat} {s1 : Int} {h : Hp} (c : Cl C h) (Cv0 : C v0) (Cs0 : C s0) : Ao (qV C h) (f_cSide_closes_b44 v0 v1 v2 s0 s1 h) := by
  unfold f_cSide_closes_b44
  have F0 := Av.rf c
  refine ao_it ao_no ?_
  refine ao_I F0 Cs0 (fun h5 F1 => ?_)
  refine ao_it ?_ ?_
  · exact ao_jV F1 (av_cSide_closes_b66 (F1.cl) Cv0 (F1.cl.r Cv0))
  · exact ao_jV F1 (av_cSide_closes_b66 (F1.cl) Cv0 (F1.cl.r Cv0))
theorem av_cSide_closes_b26 {C : Nat → Prop} {v0 : Nat} {v1 : Int} {s0 : Int} {h : Hp} (c : Cl C h) (Cv0 : C v0) : Ao (qV C h) (f_cSide_closes_b26 v0 v1 s0 h) := by
  unfold f_cSide_closes_b26
  have F0 := Av.rf c
  refine ao_it ?_ ?_
  · exact ao_jV F0 (av_cSide_closes_b44 (F0.cl) Cv0 (F0.cl.r Cv0))
  · exact ao_jV F0 (av_cSide_closes_b44 (F0.cl) Cv0 (F0.cl.r Cv0))
theorem av_cSide_closes_b21 {C : Nat → Prop} {v0 : Nat} {v1 : Int} {h : Hp} (c : Cl C h) (Cv0 : C v0) : Ao (qV C h) (f_cSide_closes_b21 v0 v1 h) := by
  unfold f_cSide_closes_b21
  have F0 := Av.rf c
  exact ao_jV F0 (av_cSide_closes_b26 (F0.cl) Cv0)
theorem av_cSide_closes {C : Nat → Prop} {v0 : Nat} {v1 : Int} {h : Hp} (c : Cl C h) (Cv0 : C v0) : Ao (qV C h) (f_cSide_closes v0 v1 h) := by
  unfold f_cSide_closes
  have F0 := Av.rf c
  refine ao_it ao_no ?_
  refine ao_b1 F0 (av_cFrame_clear (F0.cl) (F0.cl.r Cv0)) (fun h2 F1 => ?_)
  refine ao_it ?_ ?_
  · exact ao_jV F1 (av_cSide_closes_b21 (F1.cl) Cv0)
  · refine ao_it ?_ ?_
    · exact ao_jV F1 (av_cSide_closes_b26 (F1.cl) Cv0)
    · exact ao_jV F1 (av_cSide_closes_b21 (F1.cl) Cv0)
theorem av_cBook_due_b50 {C : Nat → Prop} {v0 : Nat} {h : Hp} (c : Cl C h) : Ao (qI C h) (f_cBook_due_b50 v0 h) := by
  unfold f_cBook_due_b50
  have F0 := Av.rf c
  exact ao_so F0
theorem av_cBook_due {C : Nat → Prop} {v0 : Nat} {v1 : Int} {h : Hp} (c : Cl C h) : Ao (qI C h) (f_cBook_due v0 v1 h) := by
  unfold f_cBook_due
  have F0 := Av.rf c
  refine ao_it ao_no ?_
  refine ao_it ?_ ao_no
  refine ao_v (fun y3 => ?_)
  refine ao_it ao_no ?_
  refine ao_it ?_ ?_
  · refine ao_it ?_ ?_
    · exact ao_jI F0 (av_cBook_due_b50 (F0.cl))
    · refine ao_it ?_ ?_
      · exact ao_jI F0 (av_cBook_due_b50 (F0.cl))
      · refine ao_it ?_ ?_
        · exact ao_jI F0 (av_cBook_due_b50 (F0.cl))
        · refine ao_it ?_ ?_
          · exact ao_so F0
          · exact ao_jI F0 (av_cBook_due_b50 (F0.cl))
  · exact ao_so F0
theorem av_cBook_delay {C : Nat → Prop} {v0 : Nat} {v1 : Int} {h : Hp} (c : Cl C h) : Ao (qI C h) (f_cBook_delay v0 v1 h) := by
  unfold f_cBook_delay
  have F0 := Av.rf c
  refine ao_it ao_no ?_
  refine ao_it ?_ ao_no
  refine ao_it ao_no ?_
  refine ao_it ao_no ?_
  refine ao_it ?_ ?_
  · refine ao_it ?_ ao_no
    exact ao_so F0
  · exact ao_so F0
theorem av_cSide_acknowledges_b151 {C : Nat → Prop} {k21 : Nat → Int → Nat → Int → Int → Hp → Option (Hp)} (hk21 : ∀ (v0 : Nat) (v1 : Int) (v2 : Nat) (v3 : Int) (v4 : Int) (h : Hp), Cl C h → C v0 → Ao (qV C h) (k21 v0 v1 v2 v3 v4 h)) {v0 : Nat} {v1 : Int} {v2 : Nat} {v3 : Int} {v4 : Int} {h : Hp} (c : Cl C h) (Cv0 : C v0) : Ao (qV C h) (f_cSide_acknowledges_b151 k21 v0 v1 v2 v3 v4 h) := by
  unfold f_cSide_acknowledges_b151
  have F0 := Av.rf c
  exact ao_jV F0 (hk21 _ _ _ _ _ _ (F0.cl) Cv0)
theorem av_cSide_acknowledges_b123 {C : Nat → Prop} {k21 : Nat → Int → Nat → Int → Int → Hp → Option (Hp)} (hk21 : ∀ (v0 : Nat) (v1 : Int) (v2 : Nat) (v3 : Int) (v4 : Int) (h : Hp), Cl C h → C v0 → Ao (qV C h) (k21 v0 v1 v2 v3 v4 h)) {v0 : Nat} {v1 : Int} {v2 : Nat} {v3 : Int} {s0 : Int} {h : Hp} (c : Cl C h) (Cv0 : C v0) : Ao (qV C h) (f_cSide_acknowledges_b123 k21 v0 v1 v2 v3 s0 h) := by
  unfold f_cSide_acknowledges_b123
  have F0 := Av.rf c
  refine ao_it ?_ ?_
  · exact ao_jV F0 (av_cSide_acknowledges_b151 hk21 (F0.cl) Cv0)
  · refine ao_it ao_no ?_
    refine ao_it ?_ ao_no
    refine ao_it ao_no ?_
    refine ao_b1 F0 (av_cBytes_over (F0.cl) (F0.cl.r Cv0) (F0.cl.r (F0.cl.r Cv0))) (fun h34 F1 => ?_)
    exact ao_jV F1 (av_cSide_acknowledges_b151 hk21 (F1.cl) Cv0)
theorem av_cSide_acknowledges_b64 {C : Nat → Prop} {k21 : Nat → Int → Nat → Int → Int → Hp → Option (Hp)} (hk21 : ∀ (v0 : Nat) (v1 : Int) (v2 : Nat) (v3 : Int) (v4 : Int) (h : Hp), Cl C h → C v0 → Ao (qV C h) (k21 v0 v1 v2 v3 v4 h)) {k64 : Nat → Int → Nat → Int → Int → Hp → Option (Hp)} (hk64 : ∀ (v0 : Nat) (v1 : Int) (v2 : Nat) (v3 : Int) (v5 : Int) (h : Hp), Cl C h → C v0 → Ao (qV C h) (k64 v0 v1 v2 v3 v5 h)) {v0 : Nat} {v1 : Int} {v2 : Nat} {v3 : Int} {v5 : Int} {h : Hp} (c : Cl C h) (Cv0 : C v0) : Ao (qV C h) (f_cSide_acknowledges_b64 k21 k64 v0 v1 v2 v3 v5 h) := by
  unfold f_cSide_acknowledges_b64
  have F0 := Av.rf c
  refine ao_it ?_ ?_
  · refine ao_it ao_no ?_
    refine ao_b1 F0 (av_cFrame_write (F0.cl) (F0.cl.r Cv0)) (fun h20 F1 => ?_)
    refine ao_it ao_no ?_
    refine ao_it ?_ ?_
    · exact ao_jV F1 (av_cSide_acknowledges_b123 hk21 (F1.cl) Cv0)
    · exact ao_jV F1 (av_cSide_acknowledges_b123 hk21 (F1.cl) Cv0)
  · refine ao_it ao_no ?_
    refine ao_it ao_no ?_
    refine ao_it ?_ ao_no
    refine ao_it ao_no ?_
    refine ao_it ?_ ao_no
    refine ao_it ao_no ?_
    refine ao_b1 F0 (av_cFrame_span (F0.cl) (F0.cl.r Cv0)) (fun h29 F2 => ?_)
    exact ao_jV F2 (hk64 _ _ _ _ _ _ (F2.cl) Cv0)
theorem av_cSide_acknowledges_b64_lp {C : Nat → Prop} {k21 : Nat → Int → Nat → Int → Int → Hp → Option (Hp)} (hk21 : ∀ (v0 : Nat) (v1 : Int) (v2 : Nat) (v3 : Int) (v4 : Int) (h : Hp), Cl C h → C v0 → Ao (qV C h) (k21 v0 v1 v2 v3 v4 h)) (n : Nat) : ∀ {v0 : Nat} {v1 : Int} {v2 : Nat} {v3 : Int} {v5 : Int} {h : Hp}, Cl C h → C v0 → Ao (qV C h) (f_cSide_acknowledges_b64_lp k21 n v0 v1 v2 v3 v5 h) := by
  induction n with
  | zero => intros; exact ao_no
  | succ n ih => intro v0 v1 v2 v3 v5 h c Cv0; exact av_cSide_acknowledges_b64 hk21 (fun _ _ _ _ _ h => ih) c Cv0
theorem av_cSide_acknowledges_b21 {C : Nat → Prop} {k21 : Nat → Int → Nat → Int → Int → Hp → Option (Hp)} (hk21 : ∀ (v0 : Nat) (v1 : Int) (v2 : Nat) (v3 : Int) (v4 : Int) (h : Hp), Cl C h → C v0 → Ao (qV C h) (k21 v0 v1 v2 v3 v4 h)) {v0 : Nat} {v1 : Int} {v2 : Nat} {v3 : Int} {v4 : Int} {h : Hp} (c : Cl C h) (Cv0 : C v0) : Ao (qV C h) (f_cSide_acknowledges_b21 k21 v0 v1 v2 v3 v4 h) := by
  unfold f_cSide_acknowledges_b21
  have F0 := Av.rf c
  refine ao_it ?_ ?_
  · exact ao_so F0
  · refine ao_it ?_ ?_
    · exact ao_so F0
    · refine ao_it ao_no ?_
      refine ao_b1 F0 (av_cFrame_clear (F0.cl) (F0.cl.r Cv0)) (fun h9 F1 => ?_)
      refine ao_it ao_no ?_
      refine ao_I F1 (F1.cl.r Cv0) (fun h12 F2 => ?_)
      refine ao_it ao_no ?_
      refine ao_b2 F2 (av_cBook_delay (F2.cl)) (fun r16 h14 F3 => ?_)
      refine ao_it ao_no ?_
      refine ao_J F3 (F2.cl.r Cv0) (fun h18 F4 => ?_)
      exact ao_jV F4 (av_cSide_acknowledges_b64_lp hk21 FU (F4.cl) Cv0)
theorem av_cSide_acknowledges_b21_lp {C : Nat → Prop} (n : Nat) : ∀ {v0 : Nat} {v1 : Int} {v2 : Nat} {v3 : Int} {v4 : Int} {h : Hp}, Cl C h → C v0 → Ao (qV C h) (f_cSide_acknowledges_b21_lp n v0 v1 v2 v3 v4 h) := by
  induction n with
  | zero => intros; exact ao_no
  | succ n ih => intro v0 v1 v2 v3 v4 h c Cv0; exact av_cSide_acknowledges_b21 (fun _ _ _ _ _ h => ih) c Cv0
theorem av_cSide_acknowledges {C : Nat → Prop} {v0 : Nat} {v1 : Int} {h : Hp} (c : Cl C h) (Cv0 : C v0) : Ao (qV C h) (f_cSide_acknowledges v0 v1 h) := by
  unfold f_cSide_acknowledges
  have F0 := Av.rf c
  refine ao_it ao_no ?_
  refine ao_it ao_no ?_
  refine ao_it ?_ ao_no
  refine ao_it ao_no ?_
  refine ao_m (F0.cl.r (F0.cl.r (F0.cl.r (F0.cl.r Cv0)))) (fun y5 Cy5 => ?_)
  refine ao_it ao_no ?_
  refine ao_v (fun y7 => ?_)
  exact ao_jV F0 (av_cSide_acknowledges_b21_lp FU (F0.cl) Cv0)
theorem av_cCrypto_next_b2 {C : Nat → Prop} {k2 : Nat → Int → Int → Hp → Option (Int × Hp)} (hk2 : ∀ (v0 : Nat) (v1 : Int) (v2 : Int) (h : Hp), Cl C h → Ao (qI C h) (k2 v0 v1 v2 h)) {v0 : Nat} {v1 : Int} {v2 : Int} {h : Hp} (c : Cl C h) : Ao (qI C h) (f_cCrypto_next_b2 k2 v0 v1 v2 h) := by
  unfold f_cCrypto_next_b2
  have F0 := Av.rf c
  refine ao_it ?_ ?_
  · refine ao_it ?_ ?_
    · exact ao_so F0
    · exact ao_so F0
  · refine ao_it ao_no ?_
    refine ao_it ?_ ao_no
    refine ao_it ?_ ?_
    · exact ao_jI F0 (hk2 _ _ _ _ (F0.cl))
    · exact ao_so F0
theorem av_cCrypto_next_b2_lp {C : Nat → Prop} (n : Nat) : ∀ {v0 : Nat} {v1 : Int} {v2 : Int} {h : Hp}, Cl C h → Ao (qI C h) (f_cCrypto_next_b2_lp n v0 v1 v2 h) := by
  induction n with
  | zero => intros; exact ao_no
  | succ n ih => intro v0 v1 v2 h c; exact av_cCrypto_next_b2 (fun _ _ _ h => ih) c
theorem av_cCrypto_next {C : Nat → Prop} {v0 : Nat} {v1 : Int} {h : Hp} (c : Cl C h) : Ao (qI C h) (f_cCrypto_next v0 v1 h) := by
  unfold f_cCrypto_next
  have F0 := Av.rf c
  exact ao_jI F0 (av_cCrypto_next_b2_lp FU (F0.cl))
theorem av_cCrypto_fill_b138 {C : Nat → Prop} {k138 : Nat → Int → Int → Int → Hp → Option (Int × Hp)} (hk138 : ∀ (v0 : Nat) (v4 : Int) (v6 : Int) (v8 : Int) (h : Hp), Cl C h → C v0 → Ao (qI C h) (k138 v0 v4 v6 v8 h)) {v0 : Nat} {v4 : Int} {v6 : Int} {v8 : Int} {h : Hp} (c : Cl C h) (Cv0 : C v0) : Ao (qI C h) (f_cCrypto_fill_b138 k138 v0 v4 v6 v8 h) := by
  unfold f_cCrypto_fill_b138
  have F0 := Av.rf c
  refine ao_it ?_ ?_
  · refine ao_I F0 Cv0 (fun h21 F1 => ?_)
    exact ao_so F1
  · refine ao_it ao_no ?_
    refine ao_it ?_ ao_no
    refine ao_I F0 (F0.cl.r Cv0) (fun h24 F2 => ?_)
    exact ao_jI F2 (hk138 _ _ _ _ _ (F2.cl) Cv0)
theorem av_cCrypto_fill_b138_lp {C : Nat → Prop} (n : Nat) : ∀ {v0 : Nat} {v4 : Int} {v6 : Int} {v8 : Int} {h : Hp}, Cl C h → C v0 → Ao (qI C h) (f_cCrypto_fill_b138_lp n v0 v4 v6 v8 h) := by
  induction n with
  | zero => intros; exact ao_no
  | succ n ih => intro v0 v4 v6 v8 h c Cv0; exact av_cCrypto_fill_b138 (fun _ _ _ _ h => ih) c Cv0
theorem av_cCrypto_fill_b90 {C : Nat → Prop} {v0 : Nat} {v1 : Nat} {v2 : Nat} {v4 : Int} {v6 : Int} {h : Hp} (c : Cl C h) (Cv0 : C v0) (Cv1 : C v1) (Cv2 : C v2) : Ao (qI C h) (f_cCrypto_fill_b90 v0 v1 v2 v4 v6 h) := by
  unfold f_cCrypto_fill_b90
  have F0 := Av.rf c
  refine ao_it ?_ ?_
  · refine ao_it ao_no ?_
    refine ao_b1 F0 (av_cFrame_clear (F0.cl) Cv1) (fun h13 F1 => ?_)
    refine ao_I F1 Cv1 (fun h15 F2 => ?_)
    refine ao_J F2 Cv1 (fun h16 F3 => ?_)
    refine ao_it ao_no ?_
    refine ao_R F3 Cv1 (F3.cl.r Cv2) (fun h18 F4 => ?_)
    refine ao_I F4 Cv1 (fun h19 F5 => ?_)
    refine ao_I F5 Cv1 (fun h20 F6 => ?_)
    exact ao_jI F6 (av_cCrypto_fill_b138_lp FU (F6.cl) Cv0)
  · exact ao_so F0
theorem av_cCrypto_fill_b50 {C : Nat → Prop} {k50 : Nat → Nat → Nat → Int → Int → Int → Int → Hp → Option (Int × Hp)} (hk50 : ∀ (v0 : Nat) (v1 : Nat) (v2 : Nat) (v4 : Int) (v5 : Int) (v6 : Int) (v7 : Int) (h : Hp), Cl C h → C v0 → C v1 → C v2 → Ao (qI C h) (k50 v0 v1 v2 v4 v5 v6 v7 h)) {v0 : Nat} {v1 : Nat} {v2 : Nat} {v4 : Int} {v5 : Int} {v6 : Int} {v7 : Int} {h : Hp} (c : Cl C h) (Cv0 : C v0) (Cv1 : C v1) (Cv2 : C v2) : Ao (qI C h) (f_cCrypto_fill_b50 k50 v0 v1 v2 v4 v5 v6 v7 h) := by
  unfold f_cCrypto_fill_b50
  have F0 := Av.rf c
  refine ao_it ?_ ?_
  · exact ao_jI F0 (av_cCrypto_fill_b90 (F0.cl) Cv0 Cv1 Cv2)
  · refine ao_it ao_no ?_
    refine ao_it ?_ ?_
    · exact ao_jI F0 (av_cCrypto_fill_b90 (F0.cl) Cv0 Cv1 Cv2)
    · refine ao_it ao_no ?_
      refine ao_it ?_ ao_no
      refine ao_it ?_ ?_
      · exact ao_jI F0 (av_cCrypto_fill_b90 (F0.cl) Cv0 Cv1 Cv2)
      · exact ao_jI F0 (hk50 _ _ _ _ _ _ _ _ (F0.cl) Cv0 Cv1 Cv2)
theorem av_cCrypto_fill_b50_lp {C : Nat → Prop} (n : Nat) : ∀ {v0 : Nat} {v1 : Nat} {v2 : Nat} {v4 : Int} {v5 : Int} {v6 : Int} {v7 : Int} {h : Hp}, Cl C h → C v0 → C v1 → C v2 → Ao (qI C h) (f_cCrypto_fill_b50_lp n v0 v1 v2 v4 v5 v6 v7 h) := by
  induction n with
  | zero => intros; exact ao_no
  | succ n ih => intro v0 v1 v2 v4 v5 v6 v7 h c Cv0 Cv1 Cv2; exact av_cCrypto_fill_b50 (fun _ _ _ _ _ _ _ h => ih) c Cv0 Cv1 Cv2
theorem av_cCrypto_fill_b48 {C : Nat → Prop} {v0 : Nat} {v1 : Nat} {v2 : Nat} {v4 : Int} {v5 : Int} {v6 : Int} {s0 : Int} {h : Hp} (c : Cl C h) (Cv0 : C v0) (Cv1 : C v1) (Cv2 : C v2) : Ao (qI C h) (f_cCrypto_fill_b48 v0 v1 v2 v4 v5 v6 s0 h) := by
  unfold f_cCrypto_fill_b48
  have F0 := Av.rf c
  exact ao_jI F0 (av_cCrypto_fill_b50_lp FU (F0.cl) Cv0 Cv1 Cv2)
theorem av_cCrypto_fill {C : Nat → Prop} {v0 : Nat} {v1 : Nat} {v2 : Nat} {v3 : Int} {h : Hp} (c : Cl C h) (Cv0 : C v0) (Cv1 : C v1) (Cv2 : C v2) : Ao (qI C h) (f_cCrypto_fill v0 v1 v2 v3 h) := by
  unfold f_cCrypto_fill
  have F0 := Av.rf c
  refine ao_it ao_no ?_
  refine ao_b2 F0 (av_cCrypto_next (F0.cl)) (fun r4 h2 F1 => ?_)
  refine ao_it ?_ ?_
  · refine ao_b2 F1 (av_cBytes_sizeOf (F1.cl)) (fun r7 h5 F2 => ?_)
    refine ao_v (fun y8 => ?_)
    refine ao_it ?_ ?_
    · exact ao_jI F2 (av_cCrypto_fill_b48 (F2.cl) Cv0 Cv1 Cv2)
    · exact ao_jI F2 (av_cCrypto_fill_b48 (F2.cl) Cv0 Cv1 Cv2)
  · exact ao_so F1
theorem av_cCargo_twice_AI {C : Nat → Prop} {v0 : Nat} {h : Hp} (c : Cl C h) : Ao (qR C h) (f_cCargo_twice_AI v0 h) := by
  unfold f_cCargo_twice_AI
  have F0 := Av.rf c
  refine ao_it ao_no ?_
  refine ao_it ?_ ao_no
  refine ao_nw F0 (fun h3 F1 => ?_)
  refine ao_m (F0.cl.n) (fun y5 Cy5 => ?_)
  refine ao_it ?_ ao_no
  refine ao_cI F1 Cy5 (fun h8 F3 => ?_)
  exact ao_so ⟨F3, Cy5⟩
theorem av_cCargo_twice_AB {C : Nat → Prop} {v0 : Nat} {h : Hp} (c : Cl C h) : Ao (qR C h) (f_cCargo_twice_AB v0 h) := by
  unfold f_cCargo_twice_AB
  have F0 := Av.rf c
  refine ao_it ao_no ?_
  refine ao_it ?_ ao_no
  refine ao_nw F0 (fun h3 F1 => ?_)
  refine ao_m (F0.cl.n) (fun y5 Cy5 => ?_)
  refine ao_it ?_ ao_no
  refine ao_cI F1 Cy5 (fun h8 F3 => ?_)
  exact ao_so ⟨F3, Cy5⟩
theorem av_cCargo_add_b67 {C : Nat → Prop} {v0 : Nat} {v1 : Nat} {h : Hp} (c : Cl C h) (Cv0 : C v0) : Ao (qV C h) (f_cCargo_add_b67 v0 v1 h) := by
  unfold f_cCargo_add_b67
  have F0 := Av.rf c
  refine ao_it ao_no ?_
  refine ao_it ao_no ?_
  refine ao_it ?_ ao_no
  refine ao_I F0 (F0.cl.r Cv0) (fun h25 F1 => ?_)
  refine ao_it ao_no ?_
  refine ao_it ?_ ao_no
  refine ao_J F1 (F1.cl.r Cv0) (fun h28 F2 => ?_)
  refine ao_it ao_no ?_
  refine ao_it ?_ ao_no
  refine ao_J F2 (F2.cl.r Cv0) (fun h31 F3 => ?_)
  refine ao_it ao_no ?_
  refine ao_it ?_ ao_no
  refine ao_I F3 (F3.cl.r Cv0) (fun h34 F4 => ?_)
  refine ao_it ao_no ?_
  refine ao_it ?_ ao_no
  refine ao_J F4 (F4.cl.r Cv0) (fun h37 F5 => ?_)
  refine ao_I F5 Cv0 (fun h38 F6 => ?_)
  exact ao_so F6
theorem av_cCargo_add {C : Nat → Prop} {v0 : Nat} {v1 : Nat} {h : Hp} (c : Cl C h) (Cv0 : C v0) : Ao (qV C h) (f_cCargo_add v0 v1 h) := by
  unfold f_cCargo_add
  have F0 := Av.rf c
  refine ao_it ao_no ?_
  refine ao_it ?_ ?_
  · exact ao_jV F0 (av_cCargo_add_b67 (F0.cl) Cv0)
  · refine ao_b2R F0 (av_cCargo_twice_AI (F0.cl)) (fun r4 h2 F1 Cr4 => ?_)
    refine ao_R F1 Cv0 Cr4 (fun h5 F2 => ?_)
    refine ao_b2R F2 (av_cCargo_twice_AB (F2.cl)) (fun r8 h6 F3 Cr8 => ?_)
    refine ao_R F3 Cv0 Cr8 (fun h9 F4 => ?_)
    refine ao_b2R F4 (av_cFrame_twice (F4.cl)) (fun r12 h10 F5 Cr12 => ?_)
    refine ao_R F5 Cv0 Cr12 (fun h13 F6 => ?_)
    refine ao_b2R F6 (av_cFrame_twice (F6.cl)) (fun r16 h14 F7 Cr16 => ?_)
    refine ao_R F7 Cv0 Cr16 (fun h17 F8 => ?_)
    refine ao_b2R F8 (av_cFrame_twice (F8.cl)) (fun r20 h18 F9 Cr20 => ?_)
    refine ao_R F9 Cv0 Cr20 (fun h21 F10 => ?_)
    exact ao_jV F10 (av_cCargo_add_b67 (F10.cl) Cv0)
theorem av_cSide_put_I {C : Nat → Prop} {v0 : Nat} {v1 : Int} {h : Hp} (c : Cl C h) (Cv0 : C v0) : Ao (qV C h) (f_cSide_put_I v0 v1 h) := by
  unfold f_cSide_put_I
  have F0 := Av.rf c
  refine ao_it ao_no ?_
  refine ao_b1 F0 (av_cFrame_write (F0.cl) (F0.cl.r Cv0)) (fun h2 F1 => ?_)
  refine ao_it ao_no ?_
  refine ao_it ?_ ao_no
  refine ao_it ao_no ?_
  refine ao_b1 F1 (av_cCargo_add (F1.cl) (F1.cl.r (F1.cl.r Cv0))) (fun h7 F2 => ?_)
  refine ao_it ao_no ?_
  refine ao_it ?_ ao_no
  refine ao_I F2 (F2.cl.r Cv0) (fun h11 F3 => ?_)
  exact ao_so F3
theorem av_cHall_frame_b70 {C : Nat → Prop} {v0 : Nat} {v1 : Int} {v2 : Int} {v4 : Int} {v6 : Int} {v8 : Int} {s0 : Int} {s1 : Int} {h : Hp} (c : Cl C h) (Cv0 : C v0) : Ao (qI C h) (f_cHall_frame_b70 v0 v1 v2 v4 v6 v8 s0 s1 h) := by
  unfold f_cHall_frame_b70
  have F0 := Av.rf c
  refine ao_v (fun y10 => ?_)
  refine ao_it ?_ ?_
  · refine ao_I F0 Cv0 (fun h11 F2 => ?_)
    refine ao_J F2 Cv0 (fun h12 F3 => ?_)
    refine ao_J F3 Cv0 (fun h13 F4 => ?_)
    refine ao_J F4 Cv0 (fun h14 F5 => ?_)
    refine ao_I F5 Cv0 (fun h15 F6 => ?_)
    exact ao_so F6
  · exact ao_so F0
theorem av_cHall_frame_b54 {C : Nat → Prop} {v0 : Nat} {v1 : Int} {v2 : Int} {v4 : Int} {v6 : Int} {v8 : Int} {v9 : Int} {s0 : Int} {s1 : Int} {h : Hp} (c : Cl C h) (Cv0 : C v0) : Ao (qI C h) (f_cHall_frame_b54 v0 v1 v2 v4 v6 v8 v9 s0 s1 h) := by
  unfold f_cHall_frame_b54
  have F0 := Av.rf c
  refine ao_it ?_ ?_
  · exact ao_jI F0 (av_cHall_frame_b70 (F0.cl) Cv0)
  · refine ao_b2 F0 (av_cP_sizeOf (F0.cl)) (fun r9 h7 F1 => ?_)
    exact ao_jI F1 (av_cHall_frame_b70 (F1.cl) Cv0)
theorem av_cHall_frame_b31 {C : Nat → Prop} {v0 : Nat} {v1 : Int} {v2 : Int} {v4 : Int} {v6 : Int} {v8 : Int} {s0 : Int} {h : Hp} (c : Cl C h) (Cv0 : C v0) : Ao (qI C h) (f_cHall_frame_b31 v0 v1 v2 v4 v6 v8 s0 h) := by
  unfold f_cHall_frame_b31
  have F0 := Av.rf c
  refine ao_b2 F0 (av_cP_sizeOf (F0.cl)) (fun r3 h1 F1 => ?_)
  refine ao_it ?_ ?_
  · exact ao_jI F1 (av_cHall_frame_b54 (F1.cl) Cv0)
  · refine ao_b2 F1 (av_cP_sizeOf (F1.cl)) (fun r6 h4 F2 => ?_)
    exact ao_jI F2 (av_cHall_frame_b54 (F2.cl) Cv0)
theorem av_cHall_frame_b26 {C : Nat → Prop} {v0 : Nat} {v1 : Int} {v2 : Int} {v4 : Int} {v6 : Int} {v8 : Int} {h : Hp} (c : Cl C h) (Cv0 : C v0) : Ao (qI C h) (f_cHall_frame_b26 v0 v1 v2 v4 v6 v8 h) := by
  unfold f_cHall_frame_b26
  have F0 := Av.rf c
  exact ao_jI F0 (av_cHall_frame_b31 (F0.cl) Cv0)
theorem av_cHall_frame {C : Nat → Prop} {v0 : Nat} {v1 : Int} {v2 : Int} {v4 : Int} {v6 : Int} {v8 : Int} {h : Hp} (c : Cl C h) (Cv0 : C v0) : Ao (qI C h) (f_cHall_frame v0 v1 v2 v4 v6 v8 h) := by
  unfold f_cHall_frame
  have F0 := Av.rf c
  refine ao_it ?_ ?_
  · refine ao_it ?_ ?_
    · exact ao_jI F0 (av_cHall_frame_b26 (F0.cl) Cv0)
    · refine ao_it ?_ ?_
      · exact ao_jI F0 (av_cHall_frame_b26 (F0.cl) Cv0)
      · refine ao_it ?_ ?_
        · exact ao_jI F0 (av_cHall_frame_b31 (F0.cl) Cv0)
        · exact ao_jI F0 (av_cHall_frame_b26 (F0.cl) Cv0)
  · exact ao_jI F0 (av_cHall_frame_b31 (F0.cl) Cv0)
theorem av_cHall_fillsEnds_b131 {C : Nat → Prop} {k73 : Nat → Int → Int → Hp → Option (Int × Hp)} (hk73 : ∀ (v0 : Nat) (v1 : Int) (v2 : Int) (h : Hp), Cl C h → C v0 → Ao (qI C h) (k73 v0 v1 v2 h)) {v0 : Nat} {v1 : Int} {v2 : Int} {h : Hp} (c : Cl C h) (Cv0 : C v0) : Ao (qI C h) (f_cHall_fillsEnds_b131 k73 v0 v1 v2 h) := by
  unfold f_cHall_fillsEnds_b131
  have F0 := Av.rf c
  exact ao_jI F0 (hk73 _ _ _ _ (F0.cl) Cv0)
theorem av_cHall_fillsEnds_b73 {C : Nat → Prop} {k73 : Nat → Int → Int → Hp → Option (Int × Hp)} (hk73 : ∀ (v0 : Nat) (v1 : Int) (v2 : Int) (h : Hp), Cl C h → C v0 → Ao (qI C h) (k73 v0 v1 v2 h)) {v0 : Nat} {v1 : Int} {v2 : Int} {h : Hp} (c : Cl C h) (Cv0 : C v0) : Ao (qI C h) (f_cHall_fillsEnds_b73 k73 v0 v1 v2 h) := by
  unfold f_cHall_fillsEnds_b73
  have F0 := Av.rf c
  refine ao_it ?_ ?_
  · exact ao_so F0
  · refine ao_it ao_no ?_
    refine ao_it ?_ ao_no
    refine ao_m (F0.cl.r (F0.cl.r Cv0)) (fun y11 Cy11 => ?_)
    refine ao_it ?_ ?_
    · exact ao_jI F0 (av_cHall_fillsEnds_b131 hk73 (F0.cl) Cv0)
    · refine ao_it ao_no ?_
      refine ao_b2 F0 (av_cReceiving_isLive (F0.cl)) (fun r15 h13 F2 => ?_)
      refine ao_it ?_ ?_
      · exact ao_jI F2 (av_cHall_fillsEnds_b131 hk73 (F2.cl) Cv0)
      · refine ao_it ?_ ?_
        · exact ao_jI F2 (av_cHall_fillsEnds_b131 hk73 (F2.cl) Cv0)
        · refine ao_b2 F2 (av_cHall_frame (F2.cl) Cv0) (fun r18 h16 F3 => ?_)
          refine ao_it ?_ ?_
          · refine ao_I F3 Cy11 (fun h19 F4 => ?_)
            exact ao_so F4
          · exact ao_jI F3 (av_cHall_fillsEnds_b131 hk73 (F3.cl) Cv0)
theorem av_cHall_fillsEnds_b73_lp {C : Nat → Prop} (n : Nat) : ∀ {v0 : Nat} {v1 : Int} {v2 : Int} {h : Hp}, Cl C h → C v0 → Ao (qI C h) (f_cHall_fillsEnds_b73_lp n v0 v1 v2 h) := by
  induction n with
  | zero => intros; exact ao_no
  | succ n ih => intro v0 v1 v2 h c Cv0; exact av_cHall_fillsEnds_b73 (fun _ _ _ h => ih) c Cv0
theorem av_cHall_fillsEnds_b65 {C : Nat → Prop} {k2 : Nat → Int → Int → Hp → Option (Int × Hp)} (hk2 : ∀ (v0 : Nat) (v1 : Int) (v2 : Int) (h : Hp), Cl C h → C v0 → Ao (qI C h) (k2 v0 v1 v2 h)) {v0 : Nat} {v1 : Int} {v2 : Int} {h : Hp} (c : Cl C h) (Cv0 : C v0) : Ao (qI C h) (f_cHall_fillsEnds_b65 k2 v0 v1 v2 h) := by
  unfold f_cHall_fillsEnds_b65
  have F0 := Av.rf c
  exact ao_jI F0 (hk2 _ _ _ _ (F0.cl) Cv0)
theorem av_cHall_fillsEnds_b2 {C : Nat → Prop} {k2 : Nat → Int → Int → Hp → Option (Int × Hp)} (hk2 : ∀ (v0 : Nat) (v1 : Int) (v2 : Int) (h : Hp), Cl C h → C v0 → Ao (qI C h) (k2 v0 v1 v2 h)) {v0 : Nat} {v1 : Int} {v2 : Int} {h : Hp} (c : Cl C h) (Cv0 : C v0) : Ao (qI C h) (f_cHall_fillsEnds_b2 k2 v0 v1 v2 h) := by
  unfold f_cHall_fillsEnds_b2
  have F0 := Av.rf c
  refine ao_it ?_ ?_
  · exact ao_jI F0 (av_cHall_fillsEnds_b73_lp FU (F0.cl) Cv0)
  · refine ao_it ao_no ?_
    refine ao_it ?_ ao_no
    refine ao_m (F0.cl.r (F0.cl.r Cv0)) (fun y3 Cy3 => ?_)
    refine ao_it ?_ ?_
    · exact ao_jI F0 (av_cHall_fillsEnds_b65 hk2 (F0.cl) Cv0)
    · refine ao_it ao_no ?_
      refine ao_it ?_ ?_
      · exact ao_jI F0 (av_cHall_fillsEnds_b65 hk2 (F0.cl) Cv0)
      · refine ao_it ?_ ?_
        · exact ao_jI F0 (av_cHall_fillsEnds_b65 hk2 (F0.cl) Cv0)
        · refine ao_b2 F0 (av_cHall_frame (F0.cl) Cv0) (fun r7 h5 F2 => ?_)
          refine ao_it ?_ ?_
          · refine ao_I F2 Cy3 (fun h8 F3 => ?_)
            exact ao_so F3
          · exact ao_jI F2 (av_cHall_fillsEnds_b65 hk2 (F2.cl) Cv0)
theorem av_cHall_fillsEnds_b2_lp {C : Nat → Prop} (n : Nat) : ∀ {v0 : Nat} {v1 : Int} {v2 : Int} {h : Hp}, Cl C h → C v0 → Ao (qI C h) (f_cHall_fillsEnds_b2_lp n v0 v1 v2 h) := by
  induction n with
  | zero => intros; exact ao_no
  | succ n ih => intro v0 v1 v2 h c Cv0; exact av_cHall_fillsEnds_b2 (fun _ _ _ h => ih) c Cv0
theorem av_cHall_fillsEnds {C : Nat → Prop} {v0 : Nat} {v1 : Int} {h : Hp} (c : Cl C h) (Cv0 : C v0) : Ao (qI C h) (f_cHall_fillsEnds v0 v1 h) := by
  unfold f_cHall_fillsEnds
  have F0 := Av.rf c
  exact ao_jI F0 (av_cHall_fillsEnds_b2_lp FU (F0.cl) Cv0)
theorem av_cHall_fillsGrants_b157 {C : Nat → Prop} {k101 : Nat → Int → Int → Hp → Option (Int × Hp)} (hk101 : ∀ (v0 : Nat) (v1 : Int) (v2 : Int) (h : Hp), Cl C h → C v0 → Ao (qI C h) (k101 v0 v1 v2 h)) {v0 : Nat} {v1 : Int} {v2 : Int} {h : Hp} (c : Cl C h) (Cv0 : C v0) : Ao (qI C h) (f_cHall_fillsGrants_b157 k101 v0 v1 v2 h) := by
  unfold f_cHall_fillsGrants_b157
  have F0 := Av.rf c
  exact ao_jI F0 (hk101 _ _ _ _ (F0.cl) Cv0)
theorem av_cHall_fillsGrants_b101 {C : Nat → Prop} {k101 : Nat → Int → Int → Hp → Option (Int × Hp)} (hk101 : ∀ (v0 : Nat) (v1 : Int) (v2 : Int) (h : Hp), Cl C h → C v0 → Ao (qI C h) (k101 v0 v1 v2 h)) {v0 : Nat} {v1 : Int} {v2 : Int} {h : Hp} (c : Cl C h) (Cv0 : C v0) : Ao (qI C h) (f_cHall_fillsGrants_b101 k101 v0 v1 v2 h) := by
  unfold f_cHall_fillsGrants_b101
  have F0 := Av.rf c
  refine ao_it ?_ ?_
  · exact ao_so F0
  · refine ao_it ao_no ?_
    refine ao_it ?_ ao_no
    refine ao_it ao_no ?_
    refine ao_it ?_ ?_
    · exact ao_jI F0 (av_cHall_fillsGrants_b157 hk101 (F0.cl) Cv0)
    · refine ao_it ?_ ao_no
      refine ao_b2 F0 (av_cHall_frame (F0.cl) Cv0) (fun r19 h17 F1 => ?_)
      refine ao_it ?_ ?_
      · refine ao_it ao_no ?_
        refine ao_it ?_ ao_no
        refine ao_it ao_no ?_
        refine ao_I F1 (F1.cl.r (F1.cl.r Cv0)) (fun h23 F2 => ?_)
        exact ao_so F2
      · exact ao_jI F1 (av_cHall_fillsGrants_b157 hk101 (F1.cl) Cv0)
theorem av_cHall_fillsGrants_b101_lp {C : Nat → Prop} (n : Nat) : ∀ {v0 : Nat} {v1 : Int} {v2 : Int} {h : Hp}, Cl C h → C v0 → Ao (qI C h) (f_cHall_fillsGrants_b101_lp n v0 v1 v2 h) := by
  induction n with
  | zero => intros; exact ao_no
  | succ n ih => intro v0 v1 v2 h c Cv0; exact av_cHall_fillsGrants_b101 (fun _ _ _ h => ih) c Cv0
theorem av_cHall_fillsGrants_b93 {C : Nat → Prop} {k33 : Nat → Int → Int → Hp → Option (Int × Hp)} (hk33 : ∀ (v0 : Nat) (v1 : Int) (v2 : Int) (h : Hp), Cl C h → C v0 → Ao (qI C h) (k33 v0 v1 v2 h)) {v0 : Nat} {v1 : Int} {v2 : Int} {h : Hp} (c : Cl C h) (Cv0 : C v0) : Ao (qI C h) (f_cHall_fillsGrants_b93 k33 v0 v1 v2 h) := by
  unfold f_cHall_fillsGrants_b93
  have F0 := Av.rf c
  exact ao_jI F0 (hk33 _ _ _ _ (F0.cl) Cv0)
theorem av_cHall_fillsGrants_b33 {C : Nat → Prop} {k33 : Nat → Int → Int → Hp → Option (Int × Hp)} (hk33 : ∀ (v0 : Nat) (v1 : Int) (v2 : Int) (h : Hp), Cl C h → C v0 → Ao (qI C h) (k33 v0 v1 v2 h)) {v0 : Nat} {v1 : Int} {v2 : Int} {h : Hp} (c : Cl C h) (Cv0 : C v0) : Ao (qI C h) (f_cHall_fillsGrants_b33 k33 v0 v1 v2 h) := by
  unfold f_cHall_fillsGrants_b33
  have F0 := Av.rf c
  refine ao_it ?_ ?_
  · exact ao_jI F0 (av_cHall_fillsGrants_b101_lp FU (F0.cl) Cv0)
  · refine ao_it ao_no ?_
    refine ao_it ?_ ao_no
    refine ao_m (F0.cl.r (F0.cl.r Cv0)) (fun y7 Cy7 => ?_)
    refine ao_it ?_ ?_
    · exact ao_jI F0 (av_cHall_fillsGrants_b93 hk33 (F0.cl) Cv0)
    · refine ao_it ao_no ?_
      refine ao_it ?_ ?_
      · exact ao_jI F0 (av_cHall_fillsGrants_b93 hk33 (F0.cl) Cv0)
      · refine ao_it ?_ ?_
        · exact ao_jI F0 (av_cHall_fillsGrants_b93 hk33 (F0.cl) Cv0)
        · refine ao_b2 F0 (av_cHall_frame (F0.cl) Cv0) (fun r11 h9 F2 => ?_)
          refine ao_it ?_ ?_
          · refine ao_I F2 Cy7 (fun h12 F3 => ?_)
            exact ao_so F3
          · exact ao_jI F2 (av_cHall_fillsGrants_b93 hk33 (F2.cl) Cv0)
theorem av_cHall_fillsGrants_b33_lp {C : Nat → Prop} (n : Nat) : ∀ {v0 : Nat} {v1 : Int} {v2 : Int} {h : Hp}, Cl C h → C v0 → Ao (qI C h) (f_cHall_fillsGrants_b33_lp n v0 v1 v2 h) := by
  induction n with
  | zero => intros; exact ao_no
  | succ n ih => intro v0 v1 v2 h c Cv0; exact av_cHall_fillsGrants_b33 (fun _ _ _ h => ih) c Cv0
theorem av_cHall_fillsGrants_b31 {C : Nat → Prop} {v0 : Nat} {v1 : Int} {h : Hp} (c : Cl C h) (Cv0 : C v0) : Ao (qI C h) (f_cHall_fillsGrants_b31 v0 v1 h) := by
  unfold f_cHall_fillsGrants_b31
  have F0 := Av.rf c
  exact ao_jI F0 (av_cHall_fillsGrants_b33_lp FU (F0.cl) Cv0)
theorem av_cHall_fillsGrants {C : Nat → Prop} {v0 : Nat} {v1 : Int} {h : Hp} (c : Cl C h) (Cv0 : C v0) : Ao (qI C h) (f_cHall_fillsGrants v0 v1 h) := by
  unfold f_cHall_fillsGrants
  have F0 := Av.rf c
  refine ao_it ?_ ?_
  · exact ao_jI F0 (av_cHall_fillsGrants_b31 (F0.cl) Cv0)
  · refine ao_b2 F0 (av_cHall_frame (F0.cl) Cv0) (fun r3 h1 F1 => ?_)
    refine ao_it ?_ ?_
    · exact ao_jI F1 (av_cHall_fillsGrants_b31 (F1.cl) Cv0)
    · refine ao_I F1 Cv0 (fun h4 F2 => ?_)
      exact ao_so F2
theorem av_cHall_waits {C : Nat → Prop} {v0 : Nat} {h : Hp} (c : Cl C h) : Ao (qI C h) (f_cHall_waits v0 h) := by
  unfold f_cHall_waits
  have F0 := Av.rf c
  refine ao_it ?_ ?_
  · exact ao_so F0
  · refine ao_it ao_no ?_
    refine ao_b2 F0 (av_cSending_isLive (F0.cl)) (fun r4 h2 F1 => ?_)
    refine ao_it ?_ ?_
    · exact ao_so F1
    · refine ao_it ?_ ?_
      · exact ao_so F1
      · exact ao_so F1
theorem av_cHall_fillsBlocked_b45 {C : Nat → Prop} {k4 : Nat → Int → Int → Int → Hp → Option (Int × Hp)} (hk4 : ∀ (v0 : Nat) (v1 : Int) (v2 : Int) (v3 : Int) (h : Hp), Cl C h → C v0 → Ao (qI C h) (k4 v0 v1 v2 v3 h)) {v0 : Nat} {v1 : Int} {v3 : Int} {s0 : Int} {h : Hp} (c : Cl C h) (Cv0 : C v0) : Ao (qI C h) (f_cHall_fillsBlocked_b45 k4 v0 v1 v3 s0 h) := by
  unfold f_cHall_fillsBlocked_b45
  have F0 := Av.rf c
  exact ao_jI F0 (hk4 _ _ _ _ _ (F0.cl) Cv0)
theorem av_cHall_fillsBlocked_b264 {C : Nat → Prop} {k189 : Nat → Int → Int → Hp → Option (Int × Hp)} (hk189 : ∀ (v0 : Nat) (v1 : Int) (v3 : Int) (h : Hp), Cl C h → C v0 → Ao (qI C h) (k189 v0 v1 v3 h)) {v0 : Nat} {v1 : Int} {v3 : Int} {h : Hp} (c : Cl C h) (Cv0 : C v0) : Ao (qI C h) (f_cHall_fillsBlocked_b264 k189 v0 v1 v3 h) := by
  unfold f_cHall_fillsBlocked_b264
  have F0 := Av.rf c
  exact ao_jI F0 (hk189 _ _ _ _ (F0.cl) Cv0)
theorem av_cHall_fillsBlocked_b189 {C : Nat → Prop} {k189 : Nat → Int → Int → Hp → Option (Int × Hp)} (hk189 : ∀ (v0 : Nat) (v1 : Int) (v3 : Int) (h : Hp), Cl C h → C v0 → Ao (qI C h) (k189 v0 v1 v3 h)) {v0 : Nat} {v1 : Int} {v3 : Int} {h : Hp} (c : Cl C h) (Cv0 : C v0) : Ao (qI C h) (f_cHall_fillsBlocked_b189 k189 v0 v1 v3 h) := by
  unfold f_cHall_fillsBlocked_b189
  have F0 := Av.rf c
  refine ao_it ?_ ?_
  · exact ao_so F0
  · refine ao_it ao_no ?_
    refine ao_it ?_ ao_no
    refine ao_m (F0.cl.r (F0.cl.r Cv0)) (fun y23 Cy23 => ?_)
    refine ao_it ao_no ?_
    refine ao_it ?_ ?_
    · exact ao_jI F0 (av_cHall_fillsBlocked_b264 hk189 (F0.cl) Cv0)
    · refine ao_it ?_ ?_
      · exact ao_jI F0 (av_cHall_fillsBlocked_b264 hk189 (F0.cl) Cv0)
      · refine ao_b2 F0 (av_cHall_frame (F0.cl) Cv0) (fun r27 h25 F2 => ?_)
        refine ao_it ?_ ?_
        · refine ao_J F2 Cy23 (fun h28 F3 => ?_)
          exact ao_so F3
        · exact ao_jI F2 (av_cHall_fillsBlocked_b264 hk189 (F2.cl) Cv0)
theorem av_cHall_fillsBlocked_b189_lp {C : Nat → Prop} (n : Nat) : ∀ {v0 : Nat} {v1 : Int} {v3 : Int} {h : Hp}, Cl C h → C v0 → Ao (qI C h) (f_cHall_fillsBlocked_b189_lp n v0 v1 v3 h) := by
  induction n with
  | zero => intros; exact ao_no
  | succ n ih => intro v0 v1 v3 h c Cv0; exact av_cHall_fillsBlocked_b189 (fun _ _ _ h => ih) c Cv0
theorem av_cHall_fillsBlocked_b181 {C : Nat → Prop} {k96 : Nat → Int → Int → Hp → Option (Int × Hp)} (hk96 : ∀ (v0 : Nat) (v1 : Int) (v3 : Int) (h : Hp), Cl C h → C v0 → Ao (qI C h) (k96 v0 v1 v3 h)) {v0 : Nat} {v1 : Int} {v3 : Int} {h : Hp} (c : Cl C h) (Cv0 : C v0) : Ao (qI C h) (f_cHall_fillsBlocked_b181 k96 v0 v1 v3 h) := by
  unfold f_cHall_fillsBlocked_b181
  have F0 := Av.rf c
  exact ao_jI F0 (hk96 _ _ _ _ (F0.cl) Cv0)
theorem av_cHall_fillsBlocked_b96 {C : Nat → Prop} {k96 : Nat → Int → Int → Hp → Option (Int × Hp)} (hk96 : ∀ (v0 : Nat) (v1 : Int) (v3 : Int) (h : Hp), Cl C h → C v0 → Ao (qI C h) (k96 v0 v1 v3 h)) {v0 : Nat} {v1 : Int} {v3 : Int} {h : Hp} (c : Cl C h) (Cv0 : C v0) : Ao (qI C h) (f_cHall_fillsBlocked_b96 k96 v0 v1 v3 h) := by
  unfold f_cHall_fillsBlocked_b96
  have F0 := Av.rf c
  refine ao_it ?_ ?_
  · exact ao_jI F0 (av_cHall_fillsBlocked_b189_lp FU (F0.cl) Cv0)
  · refine ao_it ao_no ?_
    refine ao_it ?_ ao_no
    refine ao_m (F0.cl.r (F0.cl.r Cv0)) (fun y12 Cy12 => ?_)
    refine ao_b2 F0 (av_cHall_waits (F0.cl)) (fun r15 h13 F2 => ?_)
    refine ao_it ?_ ?_
    · exact ao_jI F2 (av_cHall_fillsBlocked_b181 hk96 (F2.cl) Cv0)
    · refine ao_it ao_no ?_
      refine ao_it ?_ ?_
      · exact ao_jI F2 (av_cHall_fillsBlocked_b181 hk96 (F2.cl) Cv0)
      · refine ao_it ?_ ?_
        · exact ao_jI F2 (av_cHall_fillsBlocked_b181 hk96 (F2.cl) Cv0)
        · refine ao_b2 F2 (av_cHall_frame (F2.cl) Cv0) (fun r19 h17 F3 => ?_)
          refine ao_it ?_ ?_
          · refine ao_J F3 Cy12 (fun h20 F4 => ?_)
            exact ao_so F4
          · exact ao_jI F3 (av_cHall_fillsBlocked_b181 hk96 (F3.cl) Cv0)
theorem av_cHall_fillsBlocked_b96_lp {C : Nat → Prop} (n : Nat) : ∀ {v0 : Nat} {v1 : Int} {v3 : Int} {h : Hp}, Cl C h → C v0 → Ao (qI C h) (f_cHall_fillsBlocked_b96_lp n v0 v1 v3 h) := by
  induction n with
  | zero => intros; exact ao_no
  | succ n ih => intro v0 v1 v3 h c Cv0; exact av_cHall_fillsBlocked_b96 (fun _ _ _ h => ih) c Cv0
theorem av_cHall_fillsBlocked_b94 {C : Nat → Prop} {v0 : Nat} {v1 : Int} {h : Hp} (c : Cl C h) (Cv0 : C v0) : Ao (qI C h) (f_cHall_fillsBlocked_b94 v0 v1 h) := by
  unfold f_cHall_fillsBlocked_b94
  have F0 := Av.rf c
  exact ao_jI F0 (av_cHall_fillsBlocked_b96_lp FU (F0.cl) Cv0)
theorem av_cHall_fillsBlocked_b52 {C : Nat → Prop} {v0 : Nat} {v1 : Int} {v2 : Int} {h : Hp} (c : Cl C h) (Cv0 : C v0) : Ao (qI C h) (f_cHall_fillsBlocked_b52 v0 v1 v2 h) := by
  unfold f_cHall_fillsBlocked_b52
  have F0 := Av.rf c
  refine ao_it ?_ ?_
  · exact ao_jI F0 (av_cHall_fillsBlocked_b94 (F0.cl) Cv0)
  · refine ao_it ?_ ?_
    · exact ao_jI F0 (av_cHall_fillsBlocked_b94 (F0.cl) Cv0)
    · refine ao_b2 F0 (av_cHall_frame (F0.cl) Cv0) (fun r8 h6 F1 => ?_)
      refine ao_it ?_ ?_
      · exact ao_jI F1 (av_cHall_fillsBlocked_b94 (F1.cl) Cv0)
      · refine ao_J F1 Cv0 (fun h9 F2 => ?_)
        exact ao_so F2
theorem av_cHall_fillsBlocked_b40 {C : Nat → Prop} {k4 : Nat → Int → Int → Int → Hp → Option (Int × Hp)} (hk4 : ∀ (v0 : Nat) (v1 : Int) (v2 : Int) (v3 : Int) (h : Hp), Cl C h → C v0 → Ao (qI C h) (k4 v0 v1 v2 v3 h)) {v0 : Nat} {v1 : Int} {v3 : Int} {h : Hp} (c : Cl C h) (Cv0 : C v0) : Ao (qI C h) (f_cHall_fillsBlocked_b40 k4 v0 v1 v3 h) := by
  unfold f_cHall_fillsBlocked_b40
  have F0 := Av.rf c
  exact ao_jI F0 (av_cHall_fillsBlocked_b45 hk4 (F0.cl) Cv0)
theorem av_cHall_fillsBlocked_b4 {C : Nat → Prop} {k4 : Nat → Int → Int → Int → Hp → Option (Int × Hp)} (hk4 : ∀ (v0 : Nat) (v1 : Int) (v2 : Int) (v3 : Int) (h : Hp), Cl C h → C v0 → Ao (qI C h) (k4 v0 v1 v2 v3 h)) {v0 : Nat} {v1 : Int} {v2 : Int} {v3 : Int} {h : Hp} (c : Cl C h) (Cv0 : C v0) : Ao (qI C h) (f_cHall_fillsBlocked_b4 k4 v0 v1 v2 v3 h) := by
  unfold f_cHall_fillsBlocked_b4
  have F0 := Av.rf c
  refine ao_it ?_ ?_
  · exact ao_jI F0 (av_cHall_fillsBlocked_b52 (F0.cl) Cv0)
  · refine ao_it ?_ ?_
    · exact ao_jI F0 (av_cHall_fillsBlocked_b52 (F0.cl) Cv0)
    · refine ao_it ?_ ?_
      · exact ao_jI F0 (av_cHall_fillsBlocked_b40 hk4 (F0.cl) Cv0)
      · refine ao_it ao_no ?_
        refine ao_it ?_ ao_no
        refine ao_b2 F0 (av_cHall_waits (F0.cl)) (fun r5 h3 F1 => ?_)
        refine ao_it ?_ ?_
        · exact ao_jI F1 (av_cHall_fillsBlocked_b45 hk4 (F1.cl) Cv0)
        · exact ao_jI F1 (av_cHall_fillsBlocked_b40 hk4 (F1.cl) Cv0)
theorem av_cHall_fillsBlocked_b4_lp {C : Nat → Prop} (n : Nat) : ∀ {v0 : Nat} {v1 : Int} {v2 : Int} {v3 : Int} {h : Hp}, Cl C h → C v0 → Ao (qI C h) (f_cHall_fillsBlocked_b4_lp n v0 v1 v2 v3 h) := by
  induction n with
  | zero => intros; exact ao_no
  | succ n ih => intro v0 v1 v2 v3 h c Cv0; exact av_cHall_fillsBlocked_b4 (fun _ _ _ _ h => ih) c Cv0
theorem av_cHall_fillsBlocked {C : Nat → Prop} {v0 : Nat} {v1 : Int} {h : Hp} (c : Cl C h) (Cv0 : C v0) : Ao (qI C h) (f_cHall_fillsBlocked v0 v1 h) := by
  unfold f_cHall_fillsBlocked
  have F0 := Av.rf c
  exact ao_jI F0 (av_cHall_fillsBlocked_b4_lp FU (F0.cl) Cv0)
theorem av_cStore_copy_b92 {C : Nat → Prop} {k12 : Nat → Int → Nat → Int → Int → Int → Int → Hp → Option (Hp)} (hk12 : ∀ (v0 : Nat) (v2 : Int) (v3 : Nat) (v4 : Int) (v5 : Int) (v6 : Int) (v7 : Int) (h : Hp), Cl C h → C v3 → Ao (qV C h) (k12 v0 v2 v3 v4 v5 v6 v7 h)) {v0 : Nat} {v2 : Int} {v3 : Nat} {v4 : Int} {v5 : Int} {v6 : Int} {v7 : Int} {h : Hp} (c : Cl C h) (Cv3 : C v3) : Ao (qV C h) (f_cStore_copy_b92 k12 v0 v2 v3 v4 v5 v6 v7 h) := by
  unfold f_cStore_copy_b92
  have F0 := Av.rf c
  refine ao_it ao_no ?_
  refine ao_it ?_ ao_no
  refine ao_v (fun y16 => ?_)
  refine ao_it ao_no ?_
  refine ao_it ?_ ao_no
  refine ao_v (fun y19 => ?_)
  exact ao_jV F0 (hk12 _ _ _ _ _ _ _ _ (F0.cl) Cv3)
theorem av_cStore_copy_b12 {C : Nat → Prop} {k12 : Nat → Int → Nat → Int → Int → Int → Int → Hp → Option (Hp)} (hk12 : ∀ (v0 : Nat) (v2 : Int) (v3 : Nat) (v4 : Int) (v5 : Int) (v6 : Int) (v7 : Int) (h : Hp), Cl C h → C v3 → Ao (qV C h) (k12 v0 v2 v3 v4 v5 v6 v7 h)) {v0 : Nat} {v2 : Int} {v3 : Nat} {v4 : Int} {v5 : Int} {v6 : Int} {v7 : Int} {h : Hp} (c : Cl C h) (Cv3 : C v3) : Ao (qV C h) (f_cStore_copy_b12 k12 v0 v2 v3 v4 v5 v6 v7 h) := by
  unfold f_cStore_copy_b12
  have F0 := Av.rf c
  refine ao_it ?_ ?_
  · exact ao_so F0
  · refine ao_it ?_ ?_
    · exact ao_so F0
    · refine ao_v (fun y3 => ?_)
      refine ao_it ao_no ?_
      refine ao_it ?_ ao_no
      refine ao_v (fun y6 => ?_)
      refine ao_it ?_ ?_
      · exact ao_jV F0 (av_cStore_copy_b92 hk12 (F0.cl) Cv3)
      · refine ao_it ao_no ?_
        refine ao_it ?_ ao_no
        refine ao_it ao_no ?_
        refine ao_it ao_no ?_
        refine ao_it ?_ ao_no
        refine ao_cI F0 Cv3 (fun h12 F3 => ?_)
        refine ao_v (fun y13 => ?_)
        exact ao_jV F3 (av_cStore_copy_b92 hk12 (F3.cl) Cv3)
theorem av_cStore_copy_b12_lp {C : Nat → Prop} (n : Nat) : ∀ {v0 : Nat} {v2 : Int} {v3 : Nat} {v4 : Int} {v5 : Int} {v6 : Int} {v7 : Int} {h : Hp}, Cl C h → C v3 → Ao (qV C h) (f_cStore_copy_b12_lp n v0 v2 v3 v4 v5 v6 v7 h) := by
  induction n with
  | zero => intros; exact ao_no
  | succ n ih => intro v0 v2 v3 v4 v5 v6 v7 h c Cv3; exact av_cStore_copy_b12 (fun _ _ _ _ _ _ _ h => ih) c Cv3
theorem av_cStore_copy {C : Nat → Prop} {v0 : Nat} {v1 : Nat} {v2 : Int} {v3 : Nat} {v4 : Int} {h : Hp} (c : Cl C h) (Cv3 : C v3) : Ao (qV C h) (f_cStore_copy v0 v1 v2 v3 v4 h) := by
  unfold f_cStore_copy
  have F0 := Av.rf c
  refine ao_it ao_no ?_
  refine ao_v (fun y2 => ?_)
  exact ao_jV F0 (av_cStore_copy_b12_lp FU (F0.cl) Cv3)
theorem av_cHall_fills_b337 {C : Nat → Prop} {v0 : Nat} {v2 : Nat} {v12 : Int} {h : Hp} (c : Cl C h) (Cv0 : C v0) (Cv2 : C v2) : Ao (qI C h) (f_cHall_fills_b337 v0 v2 v12 h) := by
  unfold f_cHall_fills_b337
  have F0 := Av.rf c
  refine ao_it ao_no ?_
  refine ao_I F0 Cv0 (fun h38 F1 => ?_)
  refine ao_I F1 Cv2 (fun h39 F2 => ?_)
  refine ao_it ?_ ?_
  · exact ao_so F2
  · refine ao_it ?_ ?_
    · exact ao_so F2
    · refine ao_I F2 Cv2 (fun h40 F3 => ?_)
      exact ao_so F3
theorem av_cHall_fills_b310 {C : Nat → Prop} {v0 : Nat} {v2 : Nat} {v4 : Int} {v5 : Int} {v12 : Int} {s0 : Nat} {s1 : Int} {h : Hp} (c : Cl C h) (Cv0 : C v0) (Cv2 : C v2) (Cs0 : C s0) : Ao (qI C h) (f_cHall_fills_b310 v0 v2 v4 v5 v12 s0 s1 h) := by
  unfold f_cHall_fills_b310
  have F0 := Av.rf c
  refine ao_it ao_no ?_
  refine ao_J F0 Cs0 (fun h30 F1 => ?_)
  refine ao_it ?_ ?_
  · exact ao_jI F1 (av_cHall_fills_b337 (F1.cl) Cv0 Cv2)
  · refine ao_it ao_no ?_
    refine ao_it ao_no ?_
    refine ao_b2 F1 (av_cSpans_cut (F1.cl) (F1.cl.r Cv0)) (fun r35 h33 F2 => ?_)
    refine ao_I F2 Cv2 (fun h36 F3 => ?_)
    exact ao_jI F3 (av_cHall_fills_b337 (F3.cl) Cv0 Cv2)
theorem av_cHall_fills_b309 {C : Nat → Prop} {v0 : Nat} {v2 : Nat} {v4 : Int} {v5 : Int} {v12 : Int} {s0 : Nat} {h : Hp} (c : Cl C h) (Cv0 : C v0) (Cv2 : C v2) (Cs0 : C s0) : Ao (qI C h) (f_cHall_fills_b309 v0 v2 v4 v5 v12 s0 h) := by
  unfold f_cHall_fills_b309
  have F0 := Av.rf c
  exact ao_jI F0 (av_cHall_fills_b310 (F0.cl) Cv0 Cv2 Cs0)
theorem av_cHall_fills_b230 {C : Nat → Prop} {v0 : Nat} {v1 : Int} {v2 : Nat} {v4 : Int} {v5 : Int} {v8 : Int} {v11 : Int} {h : Hp} (c : Cl C h) (Cv0 : C v0) (Cv2 : C v2) : Ao (qI C h) (f_cHall_fills_b230 v0 v1 v2 v4 v5 v8 v11 h) := by
  unfold f_cHall_fills_b230
  have F0 := Av.rf c
  refine ao_I F0 Cv0 (fun h20 F1 => ?_)
  refine ao_J F1 Cv0 (fun h21 F2 => ?_)
  refine ao_J F2 Cv0 (fun h22 F3 => ?_)
  refine ao_I F3 Cv0 (fun h23 F4 => ?_)
  refine ao_it ao_no ?_
  refine ao_b1 F4 (av_cStore_copy (F4.cl) (F4.cl.r Cv0)) (fun h25 F5 => ?_)
  refine ao_v (fun y27 => ?_)
  refine ao_it ao_no ?_
  refine ao_it ?_ ?_
  · exact ao_jI F5 (av_cHall_fills_b309 (F5.cl) Cv0 Cv2 Cv0)
  · refine ao_it ?_ ?_
    · exact ao_jI F5 (av_cHall_fills_b309 (F5.cl) Cv0 Cv2 Cv0)
    · exact ao_jI F5 (av_cHall_fills_b310 (F5.cl) Cv0 Cv2 Cv0)
theorem av_cHall_fills_b215 {C : Nat → Prop} {v0 : Nat} {v1 : Int} {v2 : Nat} {v4 : Int} {v5 : Int} {v8 : Int} {v9 : Int} {v11 : Int} {s0 : Int} {s1 : Int} {h : Hp} (c : Cl C h) (Cv0 : C v0) (Cv2 : C v2) : Ao (qI C h) (f_cHall_fills_b215 v0 v1 v2 v4 v5 v8 v9 v11 s0 s1 h) := by
  unfold f_cHall_fills_b215
  have F0 := Av.rf c
  refine ao_it ?_ ?_
  · exact ao_so F0
  · refine ao_it ?_ ?_
    · exact ao_jI F0 (av_cHall_fills_b230 (F0.cl) Cv0 Cv2)
    · refine ao_it ?_ ?_
      · exact ao_jI F0 (av_cHall_fills_b230 (F0.cl) Cv0 Cv2)
      · exact ao_so F0
theorem av_cHall_fills_b201 {C : Nat → Prop} {v0 : Nat} {v1 : Int} {v2 : Nat} {v4 : Int} {v5 : Int} {v8 : Int} {v9 : Int} {s0 : Int} {h : Hp} (c : Cl C h) (Cv0 : C v0) (Cv2 : C v2) : Ao (qI C h) (f_cHall_fills_b201 v0 v1 v2 v4 v5 v8 v9 s0 h) := by
  unfold f_cHall_fills_b201
  have F0 := Av.rf c
  refine ao_it ?_ ?_
  · exact ao_jI F0 (av_cHall_fills_b215 (F0.cl) Cv0 Cv2)
  · exact ao_jI F0 (av_cHall_fills_b215 (F0.cl) Cv0 Cv2)
theorem av_cHall_fills_b175 {C : Nat → Prop} {v0 : Nat} {v1 : Int} {v2 : Nat} {v4 : Int} {v5 : Int} {v8 : Int} {v9 : Int} {s0 : Int} {s1 : Int} {h : Hp} (c : Cl C h) (Cv0 : C v0) (Cv2 : C v2) : Ao (qI C h) (f_cHall_fills_b175 v0 v1 v2 v4 v5 v8 v9 s0 s1 h) := by
  unfold f_cHall_fills_b175
  have F0 := Av.rf c
  refine ao_v (fun y19 => ?_)
  refine ao_it ?_ ?_
  · exact ao_jI F0 (av_cHall_fills_b201 (F0.cl) Cv0 Cv2)
  · exact ao_jI F0 (av_cHall_fills_b201 (F0.cl) Cv0 Cv2)
theorem av_cHall_fills_b149 {C : Nat → Prop} {v0 : Nat} {v1 : Int} {v2 : Nat} {v3 : Int} {v4 : Int} {v5 : Int} {v8 : Int} {s0 : Int} {h : Hp} (c : Cl C h) (Cv0 : C v0) (Cv2 : C v2) : Ao (qI C h) (f_cHall_fills_b149 v0 v1 v2 v3 v4 v5 v8 s0 h) := by
  unfold f_cHall_fills_b149
  have F0 := Av.rf c
  refine ao_b2 F0 (av_cP_sizeOf (F0.cl)) (fun r15 h13 F1 => ?_)
  refine ao_it ?_ ?_
  · refine ao_b2 F1 (av_cP_sizeOf (F1.cl)) (fun r18 h16 F2 => ?_)
    exact ao_jI F2 (av_cHall_fills_b175 (F2.cl) Cv0 Cv2)
  · exact ao_jI F1 (av_cHall_fills_b175 (F1.cl) Cv0 Cv2)
theorem av_cHall_fills_b144 {C : Nat → Prop} {v0 : Nat} {v1 : Int} {v2 : Nat} {v3 : Int} {v4 : Int} {v5 : Int} {v8 : Int} {h : Hp} (c : Cl C h) (Cv0 : C v0) (Cv2 : C v2) : Ao (qI C h) (f_cHall_fills_b144 v0 v1 v2 v3 v4 v5 v8 h) := by
  unfold f_cHall_fills_b144
  have F0 := Av.rf c
  exact ao_jI F0 (av_cHall_fills_b149 (F0.cl) Cv0 Cv2)
theorem av_cHall_fills_b148 {C : Nat → Prop} {v0 : Nat} {v1 : Int} {v2 : Nat} {v3 : Int} {v4 : Int} {v5 : Int} {v8 : Int} {h : Hp} (c : Cl C h) (Cv0 : C v0) (Cv2 : C v2) : Ao (qI C h) (f_cHall_fills_b148 v0 v1 v2 v3 v4 v5 v8 h) := by
  unfold f_cHall_fills_b148
  have F0 := Av.rf c
  exact ao_jI F0 (av_cHall_fills_b149 (F0.cl) Cv0 Cv2)
theorem av_cHall_fills_b110 {C : Nat → Prop} {v0 : Nat} {v1 : Int} {v2 : Nat} {v3 : Int} {v4 : Int} {v5 : Int} {s0 : Int} {h : Hp} (c : Cl C h) (Cv0 : C v0) (Cv2 : C v2) : Ao (qI C h) (f_cHall_fills_b110 v0 v1 v2 v3 v4 v5 s0 h) := by
  unfold f_cHall_fills_b110
  have F0 := Av.rf c
  refine ao_it ?_ ?_
  · exact ao_jI F0 (av_cHall_fills_b148 (F0.cl) Cv0 Cv2)
  · refine ao_it ao_no ?_
    refine ao_it ?_ ?_
    · exact ao_jI F0 (av_cHall_fills_b148 (F0.cl) Cv0 Cv2)
    · refine ao_it ?_ ?_
      · exact ao_jI F0 (av_cHall_fills_b144 (F0.cl) Cv0 Cv2)
      · refine ao_it ?_ ?_
        · exact ao_jI F0 (av_cHall_fills_b148 (F0.cl) Cv0 Cv2)
        · exact ao_jI F0 (av_cHall_fills_b144 (F0.cl) Cv0 Cv2)
theorem av_cHall_fills_b39 {C : Nat → Prop} {v0 : Nat} {v1 : Int} {v2 : Nat} {v3 : Int} {v4 : Int} {s0 : Int} {h : Hp} (c : Cl C h) (Cv0 : C v0) (Cv2 : C v2) : Ao (qI C h) (f_cHall_fills_b39 v0 v1 v2 v3 v4 s0 h) := by
  unfold f_cHall_fills_b39
  have F0 := Av.rf c
  refine ao_it ao_no ?_
  refine ao_v (fun y8 => ?_)
  refine ao_it ?_ ?_
  · exact ao_jI F0 (av_cHall_fills_b110 (F0.cl) Cv0 Cv2)
  · refine ao_it ao_no ?_
    refine ao_it ao_no ?_
    refine ao_it ?_ ao_no
    exact ao_jI F0 (av_cHall_fills_b110 (F0.cl) Cv0 Cv2)
theorem av_cHall_fills_b13 {C : Nat → Prop} {v0 : Nat} {v1 : Int} {v2 : Nat} {v3 : Int} {s0 : Int} {h : Hp} (c : Cl C h) (Cv0 : C v0) (Cv2 : C v2) : Ao (qI C h) (f_cHall_fills_b13 v0 v1 v2 v3 s0 h) := by
  unfold f_cHall_fills_b13
  have F0 := Av.rf c
  refine ao_it ?_ ?_
  · refine ao_it ao_no ?_
    exact ao_jI F0 (av_cHall_fills_b39 (F0.cl) Cv0 Cv2)
  · refine ao_it ao_no ?_
    refine ao_it ao_no ?_
    refine ao_it ao_no ?_
    refine ao_it ?_ ao_no
    exact ao_jI F0 (av_cHall_fills_b39 (F0.cl) Cv0 Cv2)
theorem av_cHall_fills {C : Nat → Prop} {v0 : Nat} {v1 : Int} {v2 : Nat} {v3 : Int} {h : Hp} (c : Cl C h) (Cv0 : C v0) (Cv2 : C v2) : Ao (qI C h) (f_cHall_fills v0 v1 v2 v3 h) := by
  unfold f_cHall_fills
  have F0 := Av.rf c
  refine ao_it ao_no ?_
  refine ao_it ?_ ?_
  · exact ao_jI F0 (av_cHall_fills_b13 (F0.cl) Cv0 Cv2)
  · exact ao_jI F0 (av_cHall_fills_b13 (F0.cl) Cv0 Cv2)
theorem av_cHall_fillsStream_b62 {C : Nat → Prop} {k2 : Nat → Int → Int → Hp → Option (Int × Hp)} (hk2 : ∀ (v0 : Nat) (v1 : Int) (v2 : Int) (h : Hp), Cl C h → C v0 → Ao (qI C h) (k2 v0 v1 v2 h)) {v0 : Nat} {v1 : Int} {v2 : Int} {h : Hp} (c : Cl C h) (Cv0 : C v0) : Ao (qI C h) (f_cHall_fillsStream_b62 k2 v0 v1 v2 h) := by
  unfold f_cHall_fillsStream_b62
  have F0 := Av.rf c
  exact ao_jI F0 (hk2 _ _ _ _ (F0.cl) Cv0)
theorem av_cHall_fillsStream_b2 {C : Nat → Prop} {k2 : Nat → Int → Int → Hp → Option (Int × Hp)} (hk2 : ∀ (v0 : Nat) (v1 : Int) (v2 : Int) (h : Hp), Cl C h → C v0 → Ao (qI C h) (k2 v0 v1 v2 h)) {v0 : Nat} {v1 : Int} {v2 : Int} {h : Hp} (c : Cl C h) (Cv0 : C v0) : Ao (qI C h) (f_cHall_fillsStream_b2 k2 v0 v1 v2 h) := by
  unfold f_cHall_fillsStream_b2
  have F0 := Av.rf c
  refine ao_it ?_ ?_
  · exact ao_so F0
  · refine ao_v (fun y1 => ?_)
    refine ao_it ao_no ?_
    refine ao_it ?_ ao_no
    refine ao_m (F0.cl.r (F0.cl.r Cv0)) (fun y4 Cy4 => ?_)
    refine ao_it ?_ ?_
    · exact ao_jI F0 (av_cHall_fillsStream_b62 hk2 (F0.cl) Cv0)
    · refine ao_it ao_no ?_
      refine ao_b2 F0 (av_cSending_isLive (F0.cl)) (fun r8 h6 F3 => ?_)
      refine ao_it ?_ ?_
      · exact ao_jI F3 (av_cHall_fillsStream_b62 hk2 (F3.cl) Cv0)
      · refine ao_b2 F3 (av_cHall_fills (F3.cl) Cv0 Cy4) (fun r11 h9 F4 => ?_)
        refine ao_it ?_ ?_
        · refine ao_I F4 Cv0 (fun h12 F5 => ?_)
          exact ao_so F5
        · exact ao_jI F4 (av_cHall_fillsStream_b62 hk2 (F4.cl) Cv0)
theorem av_cHall_fillsStream_b2_lp {C : Nat → Prop} (n : Nat) : ∀ {v0 : Nat} {v1 : Int} {v2 : Int} {h : Hp}, Cl C h → C v0 → Ao (qI C h) (f_cHall_fillsStream_b2_lp n v0 v1 v2 h) := by
  induction n with
  | zero => intros; exact ao_no
  | succ n ih => intro v0 v1 v2 h c Cv0; exact av_cHall_fillsStream_b2 (fun _ _ _ h => ih) c Cv0
theorem av_cHall_fillsStream {C : Nat → Prop} {v0 : Nat} {v1 : Int} {h : Hp} (c : Cl C h) (Cv0 : C v0) : Ao (qI C h) (f_cHall_fillsStream v0 v1 h) := by
  unfold f_cHall_fillsStream
  have F0 := Av.rf c
  exact ao_jI F0 (av_cHall_fillsStream_b2_lp FU (F0.cl) Cv0)
theorem av_cHall_fill_b32 {C : Nat → Prop} {v0 : Nat} {h : Hp} (c : Cl C h) : Ao (qI C h) (f_cHall_fill_b32 v0 h) := by
  unfold f_cHall_fill_b32
  have F0 := Av.rf c
  exact ao_so F0
theorem av_cHall_fill {C : Nat → Prop} {v0 : Nat} {v1 : Int} {h : Hp} (c : Cl C h) (Cv0 : C v0) : Ao (qI C h) (f_cHall_fill v0 v1 h) := by
  unfold f_cHall_fill
  have F0 := Av.rf c
  refine ao_b2 F0 (av_cHall_fillsEnds (F0.cl) Cv0) (fun r3 h1 F1 => ?_)
  refine ao_it ?_ ?_
  · exact ao_jI F1 (av_cHall_fill_b32 (F1.cl))
  · refine ao_b2 F1 (av_cHall_fillsGrants (F1.cl) Cv0) (fun r6 h4 F2 => ?_)
    refine ao_it ?_ ?_
    · exact ao_jI F2 (av_cHall_fill_b32 (F2.cl))
    · refine ao_b2 F2 (av_cHall_fillsBlocked (F2.cl) Cv0) (fun r9 h7 F3 => ?_)
      refine ao_it ?_ ?_
      · exact ao_jI F3 (av_cHall_fill_b32 (F3.cl))
      · refine ao_b2 F3 (av_cHall_fillsStream (F3.cl) Cv0) (fun r12 h10 F4 => ?_)
        refine ao_it ?_ ?_
        · exact ao_so F4
        · exact ao_jI F4 (av_cHall_fill_b32 (F4.cl))
theorem av_cSide_carries_b5 {C : Nat → Prop} {k5 : Nat → Int → Hp → Option (Hp)} (hk5 : ∀ (v0 : Nat) (v1 : Int) (h : Hp), Cl C h → C v0 → Ao (qV C h) (k5 v0 v1 h)) {v0 : Nat} {v1 : Int} {h : Hp} (c : Cl C h) (Cv0 : C v0) : Ao (qV C h) (f_cSide_carries_b5 k5 v0 v1 h) := by
  unfold f_cSide_carries_b5
  have F0 := Av.rf c
  refine ao_it ao_no ?_
  refine ao_it ?_ ao_no
  refine ao_it ao_no ?_
  refine ao_it ao_no ?_
  refine ao_it ?_ ao_no
  refine ao_it ao_no ?_
  refine ao_b2 F0 (av_cBytes_left (F0.cl)) (fun r69 h67 F1 => ?_)
  refine ao_it ao_no ?_
  refine ao_b2 F1 (av_cCrypto_fill (F1.cl) (F0.cl.r (F0.cl.r Cv0)) (F0.cl.r Cv0) (F0.cl.r (F0.cl.r (F0.cl.r Cv0)))) (fun r73 h71 F2 => ?_)
  refine ao_it ?_ ?_
  · exact ao_so F2
  · refine ao_b1 F2 (av_cSide_put_I (F2.cl) Cv0) (fun h74 F3 => ?_)
    exact ao_jV F3 (hk5 _ _ _ (F3.cl) Cv0)
theorem av_cSide_carries_b5_lp {C : Nat → Prop} (n : Nat) : ∀ {v0 : Nat} {v1 : Int} {h : Hp}, Cl C h → C v0 → Ao (qV C h) (f_cSide_carries_b5_lp n v0 v1 h) := by
  induction n with
  | zero => intros; exact ao_no
  | succ n ih => intro v0 v1 h c Cv0; exact av_cSide_carries_b5 (fun _ _ h => ih) c Cv0
theorem av_cSide_carries_b246 {C : Nat → Prop} {k145 : Nat → Hp → Option (Hp)} (hk145 : ∀ (v0 : Nat) (h : Hp), Cl C h → C v0 → Ao (qV C h) (k145 v0 h)) {v0 : Nat} {s0 : Nat} {s1 : Int} {h : Hp} (c : Cl C h) (Cv0 : C v0) (Cs0 : C s0) : Ao (qV C h) (f_cSide_carries_b246 k145 v0 s0 s1 h) := by
  unfold f_cSide_carries_b246
  have F0 := Av.rf c
  refine ao_it ao_no ?_
  refine ao_J F0 Cs0 (fun h52 F1 => ?_)
  refine ao_it ao_no ?_
  refine ao_it ao_no ?_
  refine ao_R F1 (F1.cl.r Cv0) (F1.cl.r (F1.cl.r Cv0)) (fun h55 F2 => ?_)
  refine ao_it ao_no ?_
  refine ao_it ao_no ?_
  refine ao_I F2 (F2.cl.r Cv0) (fun h58 F3 => ?_)
  refine ao_b1 F3 (av_cSide_put_I (F3.cl) Cv0) (fun h59 F4 => ?_)
  exact ao_jV F4 (hk145 _ _ (F4.cl) Cv0)
theorem av_cSide_carries_b145 {C : Nat → Prop} {k145 : Nat → Hp → Option (Hp)} (hk145 : ∀ (v0 : Nat) (h : Hp), Cl C h → C v0 → Ao (qV C h) (k145 v0 h)) {v0 : Nat} {h : Hp} (c : Cl C h) (Cv0 : C v0) : Ao (qV C h) (f_cSide_carries_b145 k145 v0 h) := by
  unfold f_cSide_carries_b145
  have F0 := Av.rf c
  refine ao_it ao_no ?_
  refine ao_b2 F0 (av_cBytes_left (F0.cl)) (fun r30 h28 F1 => ?_)
  refine ao_it ao_no ?_
  refine ao_b2 F1 (av_cHall_fill (F1.cl) (F0.cl.r Cv0)) (fun r34 h32 F2 => ?_)
  refine ao_it ?_ ?_
  · exact ao_so F2
  · refine ao_it ao_no ?_
    refine ao_b1 F2 (av_cFrame_clear (F2.cl) (F2.cl.r Cv0)) (fun h36 F3 => ?_)
    refine ao_it ao_no ?_
    refine ao_it ao_no ?_
    refine ao_I F3 (F3.cl.r Cv0) (fun h40 F4 => ?_)
    refine ao_it ao_no ?_
    refine ao_it ao_no ?_
    refine ao_J F4 (F4.cl.r Cv0) (fun h43 F5 => ?_)
    refine ao_it ao_no ?_
    refine ao_it ao_no ?_
    refine ao_J F5 (F5.cl.r Cv0) (fun h46 F6 => ?_)
    refine ao_it ao_no ?_
    refine ao_it ao_no ?_
    refine ao_J F6 (F6.cl.r Cv0) (fun h49 F7 => ?_)
    refine ao_it ao_no ?_
    refine ao_it ?_ ?_
    · exact ao_jV F7 (av_cSide_carries_b246 hk145 (F7.cl) Cv0 (F7.cl.r Cv0))
    · exact ao_jV F7 (av_cSide_carries_b246 hk145 (F7.cl) Cv0 (F7.cl.r Cv0))
theorem av_cSide_carries_b145_lp {C : Nat → Prop} (n : Nat) : ∀ {v0 : Nat} {h : Hp}, Cl C h → C v0 → Ao (qV C h) (f_cSide_carries_b145_lp n v0 h) := by
  induction n with
  | zero => intros; exact ao_no
  | succ n ih => intro v0 h c Cv0; exact av_cSide_carries_b145 (fun _ h => ih) c Cv0
theorem av_cSide_carries_b89 {C : Nat → Prop} {v0 : Nat} {h : Hp} (c : Cl C h) (Cv0 : C v0) : Ao (qV C h) (f_cSide_carries_b89 v0 h) := by
  unfold f_cSide_carries_b89
  have F0 := Av.rf c
  refine ao_it ?_ ?_
  · exact ao_jV F0 (av_cSide_carries_b145_lp FU (F0.cl) Cv0)
  · refine ao_it ao_no ?_
    refine ao_b2 F0 (av_cBytes_left (F0.cl)) (fun r16 h14 F1 => ?_)
    refine ao_it ?_ ?_
    · exact ao_jV F1 (av_cSide_carries_b145_lp FU (F1.cl) Cv0)
    · refine ao_it ao_no ?_
      refine ao_b1 F1 (av_cFrame_clear (F1.cl) (F1.cl.r Cv0)) (fun h18 F2 => ?_)
      refine ao_it ao_no ?_
      refine ao_I F2 (F2.cl.r Cv0) (fun h21 F3 => ?_)
      refine ao_it ao_no ?_
      refine ao_J F3 (F3.cl.r Cv0) (fun h23 F4 => ?_)
      refine ao_I F4 Cv0 (fun h24 F5 => ?_)
      refine ao_b1 F5 (av_cSide_put_I (F5.cl) Cv0) (fun h25 F6 => ?_)
      exact ao_jV F6 (av_cSide_carries_b145_lp FU (F6.cl) Cv0)
theorem av_cSide_carries {C : Nat → Prop} {v0 : Nat} {v1 : Int} {h : Hp} (c : Cl C h) (Cv0 : C v0) : Ao (qV C h) (f_cSide_carries v0 v1 h) := by
  unfold f_cSide_carries
  have F0 := Av.rf c
  refine ao_it ?_ ?_
  · refine ao_it ?_ ?_
    · exact ao_jV F0 (av_cSide_carries_b89 (F0.cl) Cv0)
    · refine ao_it ao_no ?_
      refine ao_b2 F0 (av_cBytes_left (F0.cl)) (fun r4 h2 F1 => ?_)
      refine ao_it ?_ ?_
      · exact ao_jV F1 (av_cSide_carries_b89 (F1.cl) Cv0)
      · refine ao_it ao_no ?_
        refine ao_b1 F1 (av_cFrame_clear (F1.cl) (F1.cl.r Cv0)) (fun h6 F2 => ?_)
        refine ao_it ao_no ?_
        refine ao_I F2 (F2.cl.r Cv0) (fun h9 F3 => ?_)
        refine ao_I F3 Cv0 (fun h10 F4 => ?_)
        refine ao_b1 F4 (av_cSide_put_I (F4.cl) Cv0) (fun h11 F5 => ?_)
        exact ao_jV F5 (av_cSide_carries_b89 (F5.cl) Cv0)
  · exact ao_jV F0 (av_cSide_carries_b5_lp FU (F0.cl) Cv0)
theorem av_cBook_written {C : Nat → Prop} {v0 : Nat} {v1 : Int} {h : Hp} (c : Cl C h) (Cv0 : C v0) : Ao (qI C h) (f_cBook_written v0 v1 h) := by
  unfold f_cBook_written
  have F0 := Av.rf c
  refine ao_it ao_no ?_
  refine ao_it ?_ ao_no
  refine ao_it ao_no ?_
  refine ao_I F0 (F0.cl.r (F0.cl.r Cv0)) (fun h4 F1 => ?_)
  refine ao_it ao_no ?_
  refine ao_it ?_ ao_no
  refine ao_it ao_no ?_
  refine ao_I F1 (F1.cl.r (F1.cl.r Cv0)) (fun h8 F2 => ?_)
  refine ao_b2 F2 (av_cBook_delay (F2.cl)) (fun r11 h9 F3 => ?_)
  exact ao_so F3
theorem av_cCargo_begin_b23 {C : Nat → Prop} {v0 : Nat} {h : Hp} (c : Cl C h) (Cv0 : C v0) : Ao (qV C h) (f_cCargo_begin_b23 v0 h) := by
  unfold f_cCargo_begin_b23
  have F0 := Av.rf c
  refine ao_it ao_no ?_
  refine ao_it ?_ ao_no
  refine ao_I F0 (F0.cl.r Cv0) (fun h8 F1 => ?_)
  refine ao_I F1 Cv0 (fun h9 F2 => ?_)
  exact ao_so F2
theorem av_cCargo_begin {C : Nat → Prop} {v0 : Nat} {h : Hp} (c : Cl C h) (Cv0 : C v0) : Ao (qV C h) (f_cCargo_begin v0 h) := by
  unfold f_cCargo_begin
  have F0 := Av.rf c
  refine ao_it ao_no ?_
  refine ao_it ?_ ?_
  · exact ao_jV F0 (av_cCargo_begin_b23 (F0.cl) Cv0)
  · refine ao_b2R F0 (av_cCargo_twice_AI (F0.cl)) (fun r4 h2 F1 Cr4 => ?_)
    refine ao_R F1 Cv0 Cr4 (fun h5 F2 => ?_)
    exact ao_jV F2 (av_cCargo_begin_b23 (F2.cl) Cv0)
theorem av_cCounting_bytesOf {C : Nat → Prop} {v0 : Int} {v2 : Int} {h : Hp} (c : Cl C h) : Ao (qI C h) (f_cCounting_bytesOf v0 v2 h) := by
  unfold f_cCounting_bytesOf
  have F0 := Av.rf c
  refine ao_v (fun y1 => ?_)
  refine ao_it ?_ ?_
  · refine ao_it ?_ ?_
    · refine ao_it ?_ ?_
      · refine ao_it ?_ ?_
        · exact ao_so F0
        · exact ao_so F0
      · exact ao_so F0
    · exact ao_so F0
  · exact ao_so F0
theorem av_cSide_bytesOf {C : Nat → Prop} {v0 : Nat} {v1 : Int} {h : Hp} (c : Cl C h) : Ao (qI C h) (f_cSide_bytesOf v0 v1 h) := by
  unfold f_cSide_bytesOf
  have F0 := Av.rf c
  refine ao_it ao_no ?_
  refine ao_it ao_no ?_
  refine ao_it ?_ ao_no
  refine ao_v (fun y4 => ?_)
  refine ao_it ao_no ?_
  refine ao_b2 F0 (av_cCounting_bytesOf (F0.cl)) (fun r8 h6 F2 => ?_)
  exact ao_so F2
theorem av_cSide_pad_b2 {C : Nat → Prop} {k2 : Nat → Int → Int → Int → Hp → Option (Hp)} (hk2 : ∀ (v0 : Nat) (v1 : Int) (v2 : Int) (v3 : Int) (h : Hp), Cl C h → C v0 → Ao (qV C h) (k2 v0 v1 v2 v3 h)) {v0 : Nat} {v1 : Int} {v2 : Int} {v3 : Int} {h : Hp} (c : Cl C h) (Cv0 : C v0) : Ao (qV C h) (f_cSide_pad_b2 k2 v0 v1 v2 v3 h) := by
  unfold f_cSide_pad_b2
  have F0 := Av.rf c
  refine ao_it ?_ ?_
  · refine ao_it ao_no ?_
    refine ao_it ?_ ao_no
    refine ao_I F0 (F0.cl.r Cv0) (fun h3 F1 => ?_)
    exact ao_so F1
  · refine ao_it ao_no ?_
    refine ao_it ?_ ao_no
    refine ao_it ao_no ?_
    refine ao_it ?_ ao_no
    refine ao_it ?_ ao_no
    refine ao_I F0 (F0.cl.r Cv0) (fun h9 F2 => ?_)
    refine ao_it ao_no ?_
    refine ao_it ?_ ao_no
    refine ao_I F2 (F0.cl.r (F0.cl.r Cv0)) (fun h12 F3 => ?_)
    exact ao_jV F3 (hk2 _ _ _ _ _ (F3.cl) Cv0)
theorem av_cSide_pad_b2_lp {C : Nat → Prop} (n : Nat) : ∀ {v0 : Nat} {v1 : Int} {v2 : Int} {v3 : Int} {h : Hp}, Cl C h → C v0 → Ao (qV C h) (f_cSide_pad_b2_lp n v0 v1 v2 v3 h) := by
  induction n with
  | zero => intros; exact ao_no
  | succ n ih => intro v0 v1 v2 v3 h c Cv0; exact av_cSide_pad_b2 (fun _ _ _ _ h => ih) c Cv0
theorem av_cSide_pad {C : Nat → Prop} {v0 : Nat} {v1 : Int} {v2 : Int} {h : Hp} (c : Cl C h) (Cv0 : C v0) : Ao (qV C h) (f_cSide_pad v0 v1 v2 h) := by
  unfold f_cSide_pad
  have F0 := Av.rf c
  exact ao_jV F0 (av_cSide_pad_b2_lp FU (F0.cl) Cv0)
theorem av_cSide_draft_b321 {C : Nat → Prop} {v0 : Nat} {v1 : Int} {v4 : Nat} {v5 : Int} {s0 : Nat} {s1 : Int} {s2 : Int} {h : Hp} (c : Cl C h) (Cv0 : C v0) (Cv4 : C v4) (Cs0 : C s0) : Ao (qV C h) (f_cSide_draft_b321 v0 v1 v4 v5 s0 s1 s2 h) := by
  unfold f_cSide_draft_b321
  have F0 := Av.rf c
  refine ao_it ao_no ?_
  refine ao_it ?_ ao_no
  refine ao_it ao_no ?_
  refine ao_I F0 Cs0 (fun h33 F1 => ?_)
  refine ao_it ao_no ?_
  refine ao_it ?_ ao_no
  refine ao_it ?_ ?_
  · refine ao_it ao_no ?_
    refine ao_b1 F1 (av_cCargo_begin (F1.cl) Cv4) (fun h38 F2 => ?_)
    refine ao_it ao_no ?_
    refine ao_it ?_ ao_no
    refine ao_I F2 (F2.cl.r Cv4) (fun h42 F3 => ?_)
    refine ao_b2 F3 (av_cSide_bytesOf (F3.cl)) (fun r45 h43 F4 => ?_)
    refine ao_it ao_no ?_
    refine ao_it ?_ ao_no
    refine ao_it ?_ ?_
    · exact ao_so F4
    · refine ao_b2 F4 (av_cSide_bytesOf (F4.cl)) (fun r50 h48 F5 => ?_)
      refine ao_it ao_no ?_
      refine ao_it ?_ ao_no
      refine ao_b1 F5 (av_cSide_pad (F5.cl) Cv0) (fun h53 F6 => ?_)
      exact ao_so F6
  · exact ao_so F1
theorem av_cSide_draft_b288 {C : Nat → Prop} {v0 : Nat} {v1 : Int} {v4 : Nat} {v5 : Int} {h : Hp} (c : Cl C h) (Cv0 : C v0) (Cv4 : C v4) : Ao (qV C h) (f_cSide_draft_b288 v0 v1 v4 v5 h) := by
  unfold f_cSide_draft_b288
  have F0 := Av.rf c
  refine ao_it ao_no ?_
  refine ao_it ao_no ?_
  refine ao_it ?_ ao_no
  refine ao_I F0 (F0.cl.r Cv0) (fun h29 F1 => ?_)
  refine ao_it ao_no ?_
  refine ao_it ?_ ?_
  · exact ao_jV F1 (av_cSide_draft_b321 (F1.cl) Cv0 Cv4 (F1.cl.r Cv0))
  · exact ao_jV F1 (av_cSide_draft_b321 (F1.cl) Cv0 Cv4 (F1.cl.r Cv0))
theorem av_cSide_draft_b274 {C : Nat → Prop} {v0 : Nat} {v1 : Int} {v4 : Nat} {v5 : Int} {v7 : Int} {h : Hp} (c : Cl C h) (Cv0 : C v0) (Cv4 : C v4) : Ao (qV C h) (f_cSide_draft_b274 v0 v1 v4 v5 v7 h) := by
  unfold f_cSide_draft_b274
  have F0 := Av.rf c
  refine ao_it ?_ ?_
  · exact ao_jV F0 (av_cSide_draft_b288 (F0.cl) Cv0 Cv4)
  · refine ao_it ao_no ?_
    refine ao_b2 F0 (av_cBook_written (F0.cl) (F0.cl.r Cv0)) (fun r90 h88 F1 => ?_)
    exact ao_jV F1 (av_cSide_draft_b288 (F1.cl) Cv0 Cv4)
theorem av_cSide_draft_b246 {C : Nat → Prop} {v0 : Nat} {v1 : Int} {v4 : Nat} {v5 : Int} {v6 : Int} {v7 : Int} {h : Hp} (c : Cl C h) (Cv0 : C v0) (Cv4 : C v4) : Ao (qV C h) (f_cSide_draft_b246 v0 v1 v4 v5 v6 v7 h) := by
  unfold f_cSide_draft_b246
  have F0 := Av.rf c
  refine ao_it ?_ ?_
  · exact ao_jV F0 (av_cSide_draft_b274 (F0.cl) Cv0 Cv4)
  · refine ao_it ao_no ?_
    refine ao_it ?_ ?_
    · exact ao_jV F0 (av_cSide_draft_b274 (F0.cl) Cv0 Cv4)
    · refine ao_I F0 (F0.cl.r Cv0) (fun h86 F1 => ?_)
      exact ao_jV F1 (av_cSide_draft_b288 (F1.cl) Cv0 Cv4)
theorem av_cSide_draft_b203 {C : Nat → Prop} {v0 : Nat} {v1 : Int} {v4 : Nat} {v5 : Int} {v6 : Int} {v7 : Int} {h : Hp} (c : Cl C h) (Cv0 : C v0) (Cv4 : C v4) : Ao (qV C h) (f_cSide_draft_b203 v0 v1 v4 v5 v6 v7 h) := by
  unfold f_cSide_draft_b203
  have F0 := Av.rf c
  refine ao_it ao_no ?_
  refine ao_it ?_ ao_no
  refine ao_it ?_ ?_
  · exact ao_jV F0 (av_cSide_draft_b246 (F0.cl) Cv0 Cv4)
  · refine ao_it ao_no ?_
    refine ao_it ?_ ao_no
    refine ao_it ?_ ?_
    · exact ao_jV F0 (av_cSide_draft_b246 (F0.cl) Cv0 Cv4)
    · refine ao_it ao_no ?_
      refine ao_b2 F0 (av_cBytes_left (F0.cl)) (fun r78 h76 F1 => ?_)
      refine ao_it ?_ ?_
      · exact ao_jV F1 (av_cSide_draft_b246 (F1.cl) Cv0 Cv4)
      · refine ao_it ao_no ?_
        refine ao_b1 F1 (av_cBytes_put (F1.cl) (F1.cl.r Cv0)) (fun h80 F2 => ?_)
        refine ao_it ao_no ?_
        refine ao_it ?_ ao_no
        refine ao_I F2 (F2.cl.r Cv0) (fun h84 F3 => ?_)
        exact ao_jV F3 (av_cSide_draft_b246 (F3.cl) Cv0 Cv4)
theorem av_cSide_draft_b198 {C : Nat → Prop} {v0 : Nat} {v1 : Int} {v4 : Nat} {v5 : Int} {v6 : Int} {v7 : Int} {h : Hp} (c : Cl C h) (Cv0 : C v0) (Cv4 : C v4) : Ao (qV C h) (f_cSide_draft_b198 v0 v1 v4 v5 v6 v7 h) := by
  unfold f_cSide_draft_b198
  have F0 := Av.rf c
  refine ao_b1 F0 (av_cSide_carries (F0.cl) Cv0) (fun h69 F1 => ?_)
  exact ao_jV F1 (av_cSide_draft_b203 (F1.cl) Cv0 Cv4)
theorem av_cSide_draft_b157 {C : Nat → Prop} {v0 : Nat} {v1 : Int} {v4 : Nat} {v5 : Int} {v6 : Int} {h : Hp} (c : Cl C h) (Cv0 : C v0) (Cv4 : C v4) : Ao (qV C h) (f_cSide_draft_b157 v0 v1 v4 v5 v6 h) := by
  unfold f_cSide_draft_b157
  have F0 := Av.rf c
  refine ao_it ao_no ?_
  refine ao_v (fun y64 => ?_)
  refine ao_it ao_no ?_
  refine ao_it ?_ ao_no
  refine ao_it ?_ ?_
  · exact ao_jV F0 (av_cSide_draft_b198 (F0.cl) Cv0 Cv4)
  · refine ao_it ao_no ?_
    refine ao_it ao_no ?_
    refine ao_it ?_ ?_
    · exact ao_jV F0 (av_cSide_draft_b203 (F0.cl) Cv0 Cv4)
    · exact ao_jV F0 (av_cSide_draft_b198 (F0.cl) Cv0 Cv4)
theorem av_cSide_draft_b152 {C : Nat → Prop} {v0 : Nat} {v1 : Int} {v4 : Nat} {v5 : Int} {v6 : Int} {h : Hp} (c : Cl C h) (Cv0 : C v0) (Cv4 : C v4) : Ao (qV C h) (f_cSide_draft_b152 v0 v1 v4 v5 v6 h) := by
  unfold f_cSide_draft_b152
  have F0 := Av.rf c
  refine ao_b1 F0 (av_cSide_acknowledges (F0.cl) Cv0) (fun h91 F1 => ?_)
  exact ao_jV F1 (av_cSide_draft_b157 (F1.cl) Cv0 Cv4)
theorem av_cSide_draft_b122 {C : Nat → Prop} {v0 : Nat} {v1 : Int} {v4 : Nat} {v5 : Int} {h : Hp} (c : Cl C h) (Cv0 : C v0) (Cv4 : C v4) : Ao (qV C h) (f_cSide_draft_b122 v0 v1 v4 v5 h) := by
  unfold f_cSide_draft_b122
  have F0 := Av.rf c
  refine ao_it ao_no ?_
  refine ao_b2 F0 (av_cBook_due (F0.cl)) (fun r58 h56 F1 => ?_)
  refine ao_it ?_ ?_
  · exact ao_jV F1 (av_cSide_draft_b152 (F1.cl) Cv0 Cv4)
  · refine ao_it ao_no ?_
    refine ao_it ao_no ?_
    refine ao_it ?_ ao_no
    refine ao_it ao_no ?_
    refine ao_it ?_ ?_
    · exact ao_jV F1 (av_cSide_draft_b157 (F1.cl) Cv0 Cv4)
    · exact ao_jV F1 (av_cSide_draft_b152 (F1.cl) Cv0 Cv4)
theorem av_cSide_draft {C : Nat → Prop} {v0 : Nat} {v1 : Int} {v2 : Int} {v3 : Int} {h : Hp} (c : Cl C h) (Cv0 : C v0) : Ao (qV C h) (f_cSide_draft v0 v1 v2 v3 h) := by
  unfold f_cSide_draft
  have F0 := Av.rf c
  refine ao_it ao_no ?_
  refine ao_it ?_ ao_no
  refine ao_it ao_no ?_
  refine ao_b1 F0 (av_cBytes_over (F0.cl) (F0.cl.r Cv0) (F0.cl.r (F0.cl.r Cv0))) (fun h4 F1 => ?_)
  refine ao_it ao_no ?_
  refine ao_it ?_ ao_no
  refine ao_m (F1.cl.r (F1.cl.r Cv0)) (fun y8 Cy8 => ?_)
  refine ao_it ao_no ?_
  refine ao_v (fun y10 => ?_)
  refine ao_it ao_no ?_
  refine ao_it ?_ ao_no
  refine ao_I F1 (F1.cl.r Cv0) (fun h13 F4 => ?_)
  refine ao_it ao_no ?_
  refine ao_it ?_ ao_no
  refine ao_I F4 (F4.cl.r Cv0) (fun h16 F5 => ?_)
  refine ao_it ?_ ?_
  · refine ao_it ?_ ?_
    · exact ao_jV F5 (av_cSide_draft_b122 (F5.cl) Cv0 Cy8)
    · refine ao_it ?_ ?_
      · exact ao_jV F5 (av_cSide_draft_b122 (F5.cl) Cv0 Cy8)
      · refine ao_it ?_ ?_
        · exact ao_jV F5 (av_cSide_draft_b122 (F5.cl) Cv0 Cy8)
        · refine ao_it ?_ ?_
          · exact ao_jV F5 (av_cSide_draft_b122 (F5.cl) Cv0 Cy8)
          · refine ao_it ao_no ?_
            refine ao_b1 F5 (av_cBytes_putRow (F5.cl) (F5.cl.r Cv0)) (fun h18 F6 => ?_)
            refine ao_I F6 Cv0 (fun h20 F7 => ?_)
            refine ao_it ao_no ?_
            refine ao_it ?_ ao_no
            refine ao_I F7 (F7.cl.r Cv0) (fun h23 F8 => ?_)
            exact ao_jV F8 (av_cSide_draft_b288 (F8.cl) Cv0 Cy8)
  · refine ao_it ?_ ?_
    · exact ao_jV F5 (av_cSide_draft_b288 (F5.cl) Cv0 Cy8)
    · refine ao_b1 F5 (av_cSide_closes (F5.cl) Cv0) (fun h24 F9 => ?_)
      exact ao_jV F9 (av_cSide_draft_b288 (F9.cl) Cv0 Cy8)
theorem av_cHeader_write_b93 {C : Nat → Prop} {v0 : Nat} {v7 : Int} {h : Hp} (c : Cl C h) (Cv0 : C v0) : Ao (qV C h) (f_cHeader_write_b93 v0 v7 h) := by
  unfold f_cHeader_write_b93
  have F0 := Av.rf c
  refine ao_it ao_no ?_
  refine ao_b1 F0 (av_cBytes_putSized (F0.cl) Cv0) (fun h24 F1 => ?_)
  exact ao_so F1
theorem av_cHeader_write {C : Nat → Prop} {v0 : Nat} {v1 : Int} {v2 : Int} {v3 : Nat} {v4 : Int} {v5 : Int} {v6 : Int} {v7 : Int} {h : Hp} (c : Cl C h) (Cv0 : C v0) : Ao (qV C h) (f_cHeader_write v0 v1 v2 v3 v4 v5 v6 v7 h) := by
  unfold f_cHeader_write
  have F0 := Av.rf c
  refine ao_it ?_ ?_
  · refine ao_it ao_no ?_
    refine ao_b1 F0 (av_cBytes_put (F0.cl) Cv0) (fun h2 F1 => ?_)
    refine ao_b1 F1 (av_cBytes_putMany (F1.cl) Cv0) (fun h4 F2 => ?_)
    refine ao_b1 F2 (av_cBytes_put (F2.cl) Cv0) (fun h6 F3 => ?_)
    refine ao_b1 F3 (av_cBytes_putRow (F3.cl) Cv0) (fun h8 F4 => ?_)
    refine ao_b1 F4 (av_cBytes_put (F4.cl) Cv0) (fun h10 F5 => ?_)
    refine ao_b1 F5 (av_cBytes_putRow (F5.cl) Cv0) (fun h12 F6 => ?_)
    refine ao_it ?_ ?_
    · exact ao_jV F6 (av_cHeader_write_b93 (F6.cl) Cv0)
    · refine ao_b1 F6 (av_cBytes_putNumber (F6.cl) Cv0) (fun h14 F7 => ?_)
      refine ao_b1 F7 (av_cBytes_putRow (F7.cl) Cv0) (fun h16 F8 => ?_)
      exact ao_jV F8 (av_cHeader_write_b93 (F8.cl) Cv0)
  · refine ao_it ao_no ?_
    refine ao_b1 F0 (av_cBytes_put (F0.cl) Cv0) (fun h19 F9 => ?_)
    refine ao_b1 F9 (av_cBytes_putRow (F9.cl) Cv0) (fun h21 F10 => ?_)
    exact ao_so F10
theorem av_cGuard_seal {C : Nat → Prop} {v0 : Nat} {v1 : Nat} {v2 : Int} {v4 : Nat} {v5 : Int} {v6 : Int} {v7 : Int} {h : Hp} (c : Cl C h) (Cv1 : C v1) (Cv4 : C v4) : Ao (qI C h) (f_cGuard_seal v0 v1 v2 v4 v5 v6 v7 h) := by
  unfold f_cGuard_seal
  have F0 := Av.rf c
  refine ao_b1 F0 (av_cGuard_begin (F0.cl) Cv1) (fun h1 F1 => ?_)
  refine ao_it ao_no ?_
  refine ao_it ao_no ?_
  refine ao_b1 F1 (av_cKeystream_cover (F1.cl) (F1.cl.r Cv1) Cv4) (fun h5 F2 => ?_)
  refine ao_b1 F2 (av_cGuard_reckon (F2.cl) Cv1) (fun h7 F3 => ?_)
  refine ao_it ao_no ?_
  refine ao_it ao_no ?_
  refine ao_it ?_ ao_no
  refine ao_cI F3 Cv4 (fun h12 F4 => ?_)
  exact ao_so F4
theorem av_cSpace_grow {C : Nat → Prop} {v0 : Nat} {h : Hp} (c : Cl C h) (Cv0 : C v0) : Ao (qV C h) (f_cSpace_grow v0 h) := by
  unfold f_cSpace_grow
  have F0 := Av.rf c
  refine ao_it ?_ ao_no
  refine ao_nw F0 (fun h2 F1 => ?_)
  refine ao_m (F0.cl.n) (fun y4 Cy4 => ?_)
  refine ao_it ?_ ao_no
  refine ao_nw F1 (fun h7 F3 => ?_)
  refine ao_m (F1.cl.n) (fun y9 Cy9 => ?_)
  refine ao_it ?_ ao_no
  refine ao_nw F3 (fun h12 F5 => ?_)
  refine ao_m (F3.cl.n) (fun y14 Cy14 => ?_)
  refine ao_it ao_no ?_
  refine ao_it ?_ ao_no
  refine ao_cI F5 Cy4 (fun h18 F7 => ?_)
  refine ao_it ao_no ?_
  refine ao_it ?_ ao_no
  refine ao_cI F7 Cy9 (fun h21 F8 => ?_)
  refine ao_it ao_no ?_
  refine ao_it ?_ ao_no
  refine ao_cI F8 Cy14 (fun h24 F9 => ?_)
  refine ao_R F9 Cv0 Cy4 (fun h25 F10 => ?_)
  refine ao_R F10 Cv0 Cy9 (fun h26 F11 => ?_)
  refine ao_R F11 Cv0 Cy14 (fun h27 F12 => ?_)
  exact ao_so F12
theorem av_cSpace_add_b111 {C : Nat → Prop} {v0 : Nat} {h : Hp} (c : Cl C h) (Cv0 : C v0) : Ao (qI C h) (f_cSpace_add_b111 v0 h) := by
  unfold f_cSpace_add_b111
  have F0 := Av.rf c
  refine ao_I F0 Cv0 (fun h16 F1 => ?_)
  exact ao_so F1
theorem av_cSpace_add_b79 {C : Nat → Prop} {v0 : Nat} {v1 : Int} {v3 : Int} {s0 : Nat} {s1 : Int} {s2 : Int} {s3 : Int} {h : Hp} (c : Cl C h) (Cv0 : C v0) (Cs0 : C s0) : Ao (qI C h) (f_cSpace_add_b79 v0 v1 v3 s0 s1 s2 s3 h) := by
  unfold f_cSpace_add_b79
  have F0 := Av.rf c
  refine ao_it ao_no ?_
  refine ao_it ?_ ao_no
  refine ao_I F0 Cs0 (fun h12 F1 => ?_)
  refine ao_I F1 Cv0 (fun h13 F2 => ?_)
  refine ao_it ?_ ?_
  · exact ao_jI F2 (av_cSpace_add_b111 (F2.cl) Cv0)
  · refine ao_I F2 Cv0 (fun h14 F3 => ?_)
    refine ao_I F3 Cv0 (fun h15 F4 => ?_)
    exact ao_jI F4 (av_cSpace_add_b111 (F4.cl) Cv0)
theorem av_cSpace_add_b67 {C : Nat → Prop} {v0 : Nat} {v1 : Int} {v3 : Int} {v5 : Int} {s0 : Nat} {s1 : Int} {s2 : Int} {s3 : Int} {h : Hp} (c : Cl C h) (Cv0 : C v0) (Cs0 : C s0) : Ao (qI C h) (f_cSpace_add_b67 v0 v1 v3 v5 s0 s1 s2 s3 h) := by
  unfold f_cSpace_add_b67
  have F0 := Av.rf c
  refine ao_it ?_ ?_
  · exact ao_jI F0 (av_cSpace_add_b79 (F0.cl) Cv0 Cs0)
  · exact ao_jI F0 (av_cSpace_add_b79 (F0.cl) Cv0 Cs0)
theorem av_cSpace_add_b55 {C : Nat → Prop} {v0 : Nat} {v1 : Int} {v3 : Int} {v4 : Int} {v5 : Int} {s0 : Nat} {s1 : Int} {s2 : Int} {s3 : Int} {h : Hp} (c : Cl C h) (Cv0 : C v0) (Cs0 : C s0) : Ao (qI C h) (f_cSpace_add_b55 v0 v1 v3 v4 v5 s0 s1 s2 s3 h) := by
  unfold f_cSpace_add_b55
  have F0 := Av.rf c
  refine ao_it ?_ ?_
  · exact ao_jI F0 (av_cSpace_add_b67 (F0.cl) Cv0 Cs0)
  · exact ao_jI F0 (av_cSpace_add_b67 (F0.cl) Cv0 Cs0)
theorem av_cSpace_add_b16 {C : Nat → Prop} {v0 : Nat} {v1 : Int} {v2 : Int} {v3 : Int} {v4 : Int} {v5 : Int} {h : Hp} (c : Cl C h) (Cv0 : C v0) : Ao (qI C h) (f_cSpace_add_b16 v0 v1 v2 v3 v4 v5 h) := by
  unfold f_cSpace_add_b16
  have F0 := Av.rf c
  refine ao_it ao_no ?_
  refine ao_it ?_ ao_no
  refine ao_I F0 (F0.cl.r Cv0) (fun h6 F1 => ?_)
  refine ao_it ao_no ?_
  refine ao_it ?_ ao_no
  refine ao_I F1 (F1.cl.r Cv0) (fun h9 F2 => ?_)
  refine ao_it ?_ ?_
  · exact ao_jI F2 (av_cSpace_add_b55 (F2.cl) Cv0 (F2.cl.r Cv0))
  · exact ao_jI F2 (av_cSpace_add_b55 (F2.cl) Cv0 (F2.cl.r Cv0))
theorem av_cSpace_add {C : Nat → Prop} {v0 : Nat} {v1 : Int} {v2 : Int} {v3 : Int} {v4 : Int} {v5 : Int} {h : Hp} (c : Cl C h) (Cv0 : C v0) : Ao (qI C h) (f_cSpace_add v0 v1 v2 v3 v4 v5 h) := by
  unfold f_cSpace_add
  have F0 := Av.rf c
  refine ao_it ao_no ?_
  refine ao_it ?_ ?_
  · exact ao_jI F0 (av_cSpace_add_b16 (F0.cl) Cv0)
  · refine ao_b1 F0 (av_cSpace_grow (F0.cl) Cv0) (fun h2 F1 => ?_)
    exact ao_jI F1 (av_cSpace_add_b16 (F1.cl) Cv0)
theorem av_cBook_send_b49 {C : Nat → Prop} {v0 : Nat} {v1 : Int} {v2 : Int} {v3 : Int} {v4 : Int} {s0 : Int} {h : Hp} (c : Cl C h) (Cv0 : C v0) : Ao (qI C h) (f_cBook_send_b49 v0 v1 v2 v3 v4 s0 h) := by
  unfold f_cBook_send_b49
  have F0 := Av.rf c
  refine ao_I F0 Cv0 (fun h4 F1 => ?_)
  refine ao_it ao_no ?_
  refine ao_it ?_ ao_no
  refine ao_it ao_no ?_
  refine ao_b2 F1 (av_cSpace_add (F1.cl) (F1.cl.r (F1.cl.r Cv0))) (fun r10 h8 F2 => ?_)
  exact ao_so F2
theorem av_cBook_send_b48 {C : Nat → Prop} {v0 : Nat} {v1 : Int} {v2 : Int} {v3 : Int} {v4 : Int} {h : Hp} (c : Cl C h) (Cv0 : C v0) : Ao (qI C h) (f_cBook_send_b48 v0 v1 v2 v3 v4 h) := by
  unfold f_cBook_send_b48
  have F0 := Av.rf c
  exact ao_jI F0 (av_cBook_send_b49 (F0.cl) Cv0)
theorem av_cBook_send_b18 {C : Nat → Prop} {v0 : Nat} {v1 : Int} {v2 : Int} {v3 : Int} {v4 : Int} {h : Hp} (c : Cl C h) (Cv0 : C v0) : Ao (qI C h) (f_cBook_send_b18 v0 v1 v2 v3 v4 h) := by
  unfold f_cBook_send_b18
  have F0 := Av.rf c
  refine ao_it ?_ ?_
  · exact ao_jI F0 (av_cBook_send_b48 (F0.cl) Cv0)
  · refine ao_it ao_no ?_
    refine ao_it ?_ ?_
    · exact ao_jI F0 (av_cBook_send_b48 (F0.cl) Cv0)
    · exact ao_jI F0 (av_cBook_send_b49 (F0.cl) Cv0)
theorem av_cBook_send {C : Nat → Prop} {v0 : Nat} {v1 : Int} {v2 : Int} {v3 : Int} {v4 : Int} {h : Hp} (c : Cl C h) (Cv0 : C v0) : Ao (qI C h) (f_cBook_send v0 v1 v2 v3 v4 h) := by
  unfold f_cBook_send
  have F0 := Av.rf c
  refine ao_it ?_ ?_
  · exact ao_jI F0 (av_cBook_send_b18 (F0.cl) Cv0)
  · refine ao_it ao_no ?_
    refine ao_I F0 (F0.cl.r Cv0) (fun h2 F1 => ?_)
    exact ao_jI F1 (av_cBook_send_b18 (F1.cl) Cv0)
theorem av_cSide_seal_b249 {C : Nat → Prop} {v0 : Nat} {v1 : Int} {v2 : Int} {v6 : Int} {h : Hp} (c : Cl C h) (Cv0 : C v0) : Ao (qI C h) (f_cSide_seal_b249 v0 v1 v2 v6 h) := by
  unfold f_cSide_seal_b249
  have F0 := Av.rf c
  refine ao_I F0 Cv0 (fun h53 F1 => ?_)
  refine ao_it ao_no ?_
  refine ao_it ?_ ao_no
  refine ao_it ?_ ao_no
  refine ao_I F1 (F1.cl.r Cv0) (fun h57 F2 => ?_)
  exact ao_so F2
theorem av_cSide_seal_b218 {C : Nat → Prop} {v0 : Nat} {v1 : Int} {v2 : Int} {v6 : Int} {s0 : Nat} {s1 : Int} {s2 : Int} {s3 : Int} {s4 : Int} {h : Hp} (c : Cl C h) (Cv0 : C v0) (Cs0 : C s0) : Ao (qI C h) (f_cSide_seal_b218 v0 v1 v2 v6 s0 s1 s2 s3 s4 h) := by
  unfold f_cSide_seal_b218
  have F0 := Av.rf c
  refine ao_it ao_no ?_
  refine ao_b2 F0 (av_cBook_send (F0.cl) Cs0) (fun r48 h46 F1 => ?_)
  refine ao_it ao_no ?_
  refine ao_it ?_ ao_no
  refine ao_it ?_ ?_
  · exact ao_so F1
  · refine ao_it ?_ ?_
    · exact ao_jI F1 (av_cSide_seal_b249 (F1.cl) Cv0)
    · refine ao_it ao_no ?_
      refine ao_I F1 Cv0 (fun h52 F2 => ?_)
      exact ao_jI F2 (av_cSide_seal_b249 (F2.cl) Cv0)
theorem av_cSide_seal_b213 {C : Nat → Prop} {v0 : Nat} {v1 : Int} {v2 : Int} {v6 : Int} {s0 : Nat} {s1 : Int} {s2 : Int} {s3 : Int} {h : Hp} (c : Cl C h) (Cv0 : C v0) (Cs0 : C s0) : Ao (qI C h) (f_cSide_seal_b213 v0 v1 v2 v6 s0 s1 s2 s3 h) := by
  unfold f_cSide_seal_b213
  have F0 := Av.rf c
  exact ao_jI F0 (av_cSide_seal_b218 (F0.cl) Cv0 Cs0)
theorem av_cSide_seal_b48 {C : Nat → Prop} {v0 : Nat} {v1 : Int} {v2 : Int} {v3 : Nat} {v4 : Int} {s0 : Nat} {s1 : Int} {h : Hp} (c : Cl C h) (Cv0 : C v0) (Cs0 : C s0) : Ao (qI C h) (f_cSide_seal_b48 v0 v1 v2 v3 v4 s0 s1 h) := by
  unfold f_cSide_seal_b48
  have F0 := Av.rf c
  refine ao_it ao_no ?_
  refine ao_it ?_ ao_no
  refine ao_b1 F0 (av_cHeader_write (F0.cl) Cs0) (fun h13 F1 => ?_)
  refine ao_it ao_no ?_
  refine ao_v (fun y16 => ?_)
  refine ao_it ao_no ?_
  refine ao_b1 F1 (av_cBytes_putMany (F1.cl) (F1.cl.r Cv0)) (fun h18 F3 => ?_)
  refine ao_it ao_no ?_
  refine ao_it ?_ ao_no
  refine ao_it ao_no ?_
  refine ao_it ?_ ao_no
  refine ao_it ao_no ?_
  refine ao_b1 F3 (av_cBytes_putRow (F3.cl) (F3.cl.r Cv0)) (fun h25 F4 => ?_)
  refine ao_it ao_no ?_
  refine ao_it ?_ ao_no
  refine ao_it ao_no ?_
  refine ao_it ao_no ?_
  refine ao_b2 F4 (av_cGuard_seal (F4.cl) (F4.cl.r Cv0) (F4.cl.r Cv0)) (fun r33 h31 F5 => ?_)
  refine ao_it ao_no ?_
  refine ao_it ?_ ao_no
  refine ao_it ao_no ?_
  refine ao_b2 F5 (av_cGuard_shield (F5.cl) (F5.cl.r Cv0) (F5.cl.r Cv0)) (fun r39 h37 F6 => ?_)
  refine ao_it ao_no ?_
  refine ao_it ?_ ao_no
  refine ao_it ?_ ao_no
  refine ao_it ?_ ?_
  · exact ao_jI F6 (av_cSide_seal_b213 (F6.cl) Cv0 (F6.cl.r Cv0))
  · refine ao_it ao_no ?_
    refine ao_it ?_ ao_no
    refine ao_it ?_ ?_
    · exact ao_jI F6 (av_cSide_seal_b218 (F6.cl) Cv0 (F6.cl.r Cv0))
    · exact ao_jI F6 (av_cSide_seal_b213 (F6.cl) Cv0 (F6.cl.r Cv0))
theorem av_cSide_seal {C : Nat → Prop} {v0 : Nat} {v1 : Int} {v2 : Int} {h : Hp} (c : Cl C h) (Cv0 : C v0) : Ao (qI C h) (f_cSide_seal v0 v1 v2 h) := by
  unfold f_cSide_seal
  have F0 := Av.rf c
  refine ao_it ao_no ?_
  refine ao_it ao_no ?_
  refine ao_it ?_ ao_no
  refine ao_m (F0.cl.r (F0.cl.r (F0.cl.r Cv0))) (fun y4 Cy4 => ?_)
  refine ao_b2 F0 (av_cSide_bytesOf (F0.cl)) (fun r7 h5 F2 => ?_)
  refine ao_it ao_no ?_
  refine ao_b1 F2 (av_cBytes_over (F2.cl) (F2.cl.r Cv0) (F2.cl.r Cv0)) (fun h9 F3 => ?_)
  refine ao_it ?_ ?_
  · exact ao_jI F3 (av_cSide_seal_b48 (F3.cl) Cv0 (F3.cl.r Cv0))
  · exact ao_jI F3 (av_cSide_seal_b48 (F3.cl) Cv0 (F3.cl.r Cv0))
theorem av_cSide_datagram_b199 {C : Nat → Prop} {k66 : Nat → Nat → Int → Int → Int → Int → Int → Int → Hp → Option (Int × Hp)} (hk66 : ∀ (v0 : Nat) (v1 : Nat) (v2 : Int) (v3 : Int) (v4 : Int) (v5 : Int) (v6 : Int) (v7 : Int) (h : Hp), Cl C h → C v0 → C v1 → Ao (qI C h) (k66 v0 v1 v2 v3 v4 v5 v6 v7 h)) {v0 : Nat} {v1 : Nat} {v2 : Int} {v3 : Int} {v4 : Int} {v5 : Int} {v6 : Int} {v7 : Int} {h : Hp} (c : Cl C h) (Cv0 : C v0) (Cv1 : C v1) : Ao (qI C h) (f_cSide_datagram_b199 k66 v0 v1 v2 v3 v4 v5 v6 v7 h) := by
  unfold f_cSide_datagram_b199
  have F0 := Av.rf c
  exact ao_jI F0 (hk66 _ _ _ _ _ _ _ _ _ (F0.cl) Cv0 Cv1)
theorem av_cSide_datagram_b197 {C : Nat → Prop} {k66 : Nat → Nat → Int → Int → Int → Int → Int → Int → Hp → Option (Int × Hp)} (hk66 : ∀ (v0 : Nat) (v1 : Nat) (v2 : Int) (v3 : Int) (v4 : Int) (v5 : Int) (v6 : Int) (v7 : Int) (h : Hp), Cl C h → C v0 → C v1 → Ao (qI C h) (k66 v0 v1 v2 v3 v4 v5 v6 v7 h)) {v0 : Nat} {v1 : Nat} {v2 : Int} {v3 : Int} {v4 : Int} {v5 : Int} {v7 : Int} {s0 : Int} {h : Hp} (c : Cl C h) (Cv0 : C v0) (Cv1 : C v1) : Ao (qI C h) (f_cSide_datagram_b197 k66 v0 v1 v2 v3 v4 v5 v7 s0 h) := by
  unfold f_cSide_datagram_b197
  have F0 := Av.rf c
  exact ao_jI F0 (av_cSide_datagram_b199 hk66 (F0.cl) Cv0 Cv1)
theorem av_cSide_datagram_b192 {C : Nat → Prop} {k66 : Nat → Nat → Int → Int → Int → Int → Int → Int → Hp → Option (Int × Hp)} (hk66 : ∀ (v0 : Nat) (v1 : Nat) (v2 : Int) (v3 : Int) (v4 : Int) (v5 : Int) (v6 : Int) (v7 : Int) (h : Hp), Cl C h → C v0 → C v1 → Ao (qI C h) (k66 v0 v1 v2 v3 v4 v5 v6 v7 h)) {v0 : Nat} {v1 : Nat} {v2 : Int} {v3 : Int} {v4 : Int} {v5 : Int} {v7 : Int} {h : Hp} (c : Cl C h) (Cv0 : C v0) (Cv1 : C v1) : Ao (qI C h) (f_cSide_datagram_b192 k66 v0 v1 v2 v3 v4 v5 v7 h) := by
  unfold f_cSide_datagram_b192
  have F0 := Av.rf c
  exact ao_jI F0 (av_cSide_datagram_b197 hk66 (F0.cl) Cv0 Cv1)
theorem av_cSide_datagram_b279 {C : Nat → Prop} {k252 : Nat → Nat → Int → Int → Int → Hp → Option (Int × Hp)} (hk252 : ∀ (v0 : Nat) (v1 : Nat) (v5 : Int) (v7 : Int) (v8 : Int) (h : Hp), Cl C h → C v0 → C v1 → Ao (qI C h) (k252 v0 v1 v5 v7 v8 h)) {v0 : Nat} {v1 : Nat} {v5 : Int} {v7 : Int} {v8 : Int} {h : Hp} (c : Cl C h) (Cv0 : C v0) (Cv1 : C v1) : Ao (qI C h) (f_cSide_datagram_b279 k252 v0 v1 v5 v7 v8 h) := by
  unfold f_cSide_datagram_b279
  have F0 := Av.rf c
  exact ao_jI F0 (hk252 _ _ _ _ _ _ (F0.cl) Cv0 Cv1)
theorem av_cSide_datagram_b252 {C : Nat → Prop} {k252 : Nat → Nat → Int → Int → Int → Hp → Option (Int × Hp)} (hk252 : ∀ (v0 : Nat) (v1 : Nat) (v5 : Int) (v7 : Int) (v8 : Int) (h : Hp), Cl C h → C v0 → C v1 → Ao (qI C h) (k252 v0 v1 v5 v7 v8 h)) {v0 : Nat} {v1 : Nat} {v5 : Int} {v7 : Int} {v8 : Int} {h : Hp} (c : Cl C h) (Cv0 : C v0) (Cv1 : C v1) : Ao (qI C h) (f_cSide_datagram_b252 k252 v0 v1 v5 v7 v8 h) := by
  unfold f_cSide_datagram_b252
  have F0 := Av.rf c
  refine ao_it ?_ ?_
  · refine ao_I F0 Cv0 (fun h33 F1 => ?_)
    refine ao_it ao_no ?_
    refine ao_it ao_no ?_
    refine ao_b1 F1 (av_cLine_add (F1.cl) Cv1) (fun h36 F2 => ?_)
    refine ao_it ao_no ?_
    refine ao_it ?_ ao_no
    refine ao_it ?_ ?_
    · exact ao_so F2
    · refine ao_it ?_ ?_
      · exact ao_so F2
      · refine ao_b1 F2 (av_cSide_discard (F2.cl) Cv0) (fun h40 F3 => ?_)
        exact ao_so F3
  · refine ao_it ao_no ?_
    refine ao_it ?_ ao_no
    refine ao_it ?_ ?_
    · exact ao_jI F0 (av_cSide_datagram_b279 hk252 (F0.cl) Cv0 Cv1)
    · refine ao_b2 F0 (av_cSide_seal (F0.cl) Cv0) (fun r46 h44 F4 => ?_)
      exact ao_jI F4 (av_cSide_datagram_b279 hk252 (F4.cl) Cv0 Cv1)
theorem av_cSide_datagram_b252_lp {C : Nat → Prop} (n : Nat) : ∀ {v0 : Nat} {v1 : Nat} {v5 : Int} {v7 : Int} {v8 : Int} {h : Hp}, Cl C h → C v0 → C v1 → Ao (qI C h) (f_cSide_datagram_b252_lp n v0 v1 v5 v7 v8 h) := by
  induction n with
  | zero => intros; exact ao_no
  | succ n ih => intro v0 v1 v5 v7 v8 h c Cv0 Cv1; exact av_cSide_datagram_b252 (fun _ _ _ _ _ h => ih) c Cv0 Cv1
theorem av_cSide_datagram_b246 {C : Nat → Prop} {v0 : Nat} {v1 : Nat} {v5 : Int} {h : Hp} (c : Cl C h) (Cv0 : C v0) (Cv1 : C v1) : Ao (qI C h) (f_cSide_datagram_b246 v0 v1 v5 h) := by
  unfold f_cSide_datagram_b246
  have F0 := Av.rf c
  exact ao_jI F0 (av_cSide_datagram_b252_lp FU (F0.cl) Cv0 Cv1)
theorem av_cSide_datagram_b225 {C : Nat → Prop} {v0 : Nat} {v1 : Nat} {v3 : Int} {v4 : Int} {v5 : Int} {v6 : Int} {h : Hp} (c : Cl C h) (Cv0 : C v0) (Cv1 : C v1) : Ao (qI C h) (f_cSide_datagram_b225 v0 v1 v3 v4 v5 v6 h) := by
  unfold f_cSide_datagram_b225
  have F0 := Av.rf c
  refine ao_it ?_ ?_
  · exact ao_jI F0 (av_cSide_datagram_b246 (F0.cl) Cv0 Cv1)
  · refine ao_it ?_ ?_
    · exact ao_jI F0 (av_cSide_datagram_b246 (F0.cl) Cv0 Cv1)
    · refine ao_b1 F0 (av_cSide_pad (F0.cl) Cv0) (fun h31 F1 => ?_)
      exact ao_jI F1 (av_cSide_datagram_b246 (F1.cl) Cv0 Cv1)
theorem av_cSide_datagram_b196 {C : Nat → Prop} {k66 : Nat → Nat → Int → Int → Int → Int → Int → Int → Hp → Option (Int × Hp)} (hk66 : ∀ (v0 : Nat) (v1 : Nat) (v2 : Int) (v3 : Int) (v4 : Int) (v5 : Int) (v6 : Int) (v7 : Int) (h : Hp), Cl C h → C v0 → C v1 → Ao (qI C h) (k66 v0 v1 v2 v3 v4 v5 v6 v7 h)) {v0 : Nat} {v1 : Nat} {v2 : Int} {v3 : Int} {v4 : Int} {v5 : Int} {v7 : Int} {h : Hp} (c : Cl C h) (Cv0 : C v0) (Cv1 : C v1) : Ao (qI C h) (f_cSide_datagram_b196 k66 v0 v1 v2 v3 v4 v5 v7 h) := by
  unfold f_cSide_datagram_b196
  have F0 := Av.rf c
  exact ao_jI F0 (av_cSide_datagram_b197 hk66 (F0.cl) Cv0 Cv1)
theorem av_cSide_datagram_b66 {C : Nat → Prop} {k66 : Nat → Nat → Int → Int → Int → Int → Int → Int → Hp → Option (Int × Hp)} (hk66 : ∀ (v0 : Nat) (v1 : Nat) (v2 : Int) (v3 : Int) (v4 : Int) (v5 : Int) (v6 : Int) (v7 : Int) (h : Hp), Cl C h → C v0 → C v1 → Ao (qI C h) (k66 v0 v1 v2 v3 v4 v5 v6 v7 h)) {v0 : Nat} {v1 : Nat} {v2 : Int} {v3 : Int} {v4 : Int} {v5 : Int} {v6 : Int} {v7 : Int} {h : Hp} (c : Cl C h) (Cv0 : C v0) (Cv1 : C v1) : Ao (qI C h) (f_cSide_datagram_b66 k66 v0 v1 v2 v3 v4 v5 v6 v7 h) := by
  unfold f_cSide_datagram_b66
  have F0 := Av.rf c
  refine ao_it ?_ ?_
  · refine ao_it ?_ ?_
    · refine ao_it ?_ ?_
      · exact ao_jI F0 (av_cSide_datagram_b225 (F0.cl) Cv0 Cv1)
      · refine ao_I F0 Cv0 (fun h6 F1 => ?_)
        exact ao_jI F1 (av_cSide_datagram_b225 (F1.cl) Cv0 Cv1)
    · exact ao_so F0
  · refine ao_it ao_no ?_
    refine ao_it ?_ ao_no
    refine ao_I F0 (F0.cl.r Cv0) (fun h9 F2 => ?_)
    refine ao_it ao_no ?_
    refine ao_it ?_ ao_no
    refine ao_it ?_ ?_
    · refine ao_b2 F2 (av_cSide_headSize (F2.cl)) (fun r14 h12 F3 => ?_)
      refine ao_v (fun y15 => ?_)
      refine ao_it ?_ ?_
      · refine ao_b1 F3 (av_cSide_draft (F3.cl) Cv0) (fun h16 F5 => ?_)
        refine ao_it ao_no ?_
        refine ao_it ?_ ao_no
        refine ao_it ?_ ?_
        · refine ao_b2 F5 (av_cSide_headSize (F5.cl)) (fun r22 h20 F6 => ?_)
          refine ao_b2 F6 (av_cSide_bytesOf (F6.cl)) (fun r25 h23 F7 => ?_)
          refine ao_it ao_no ?_
          refine ao_it ?_ ao_no
          refine ao_v (fun y28 => ?_)
          refine ao_it ?_ ?_
          · exact ao_jI F7 (av_cSide_datagram_b192 hk66 (F7.cl) Cv0 Cv1)
          · refine ao_it ?_ ?_
            · exact ao_jI F7 (av_cSide_datagram_b196 hk66 (F7.cl) Cv0 Cv1)
            · refine ao_it ao_no ?_
              refine ao_it ?_ ao_no
              refine ao_it ?_ ?_
              · exact ao_jI F7 (av_cSide_datagram_b196 hk66 (F7.cl) Cv0 Cv1)
              · exact ao_jI F7 (av_cSide_datagram_b192 hk66 (F7.cl) Cv0 Cv1)
        · exact ao_jI F5 (av_cSide_datagram_b199 hk66 (F5.cl) Cv0 Cv1)
      · exact ao_jI F3 (av_cSide_datagram_b199 hk66 (F3.cl) Cv0 Cv1)
    · exact ao_jI F2 (av_cSide_datagram_b199 hk66 (F2.cl) Cv0 Cv1)
theorem av_cSide_datagram_b66_lp {C : Nat → Prop} (n : Nat) : ∀ {v0 : Nat} {v1 : Nat} {v2 : Int} {v3 : Int} {v4 : Int} {v5 : Int} {v6 : Int} {v7 : Int} {h : Hp}, Cl C h → C v0 → C v1 → Ao (qI C h) (f_cSide_datagram_b66_lp n v0 v1 v2 v3 v4 v5 v6 v7 h) := by
  induction n with
  | zero => intros; exact ao_no
  | succ n ih => intro v0 v1 v2 v3 v4 v5 v6 v7 h c Cv0 Cv1; exact av_cSide_datagram_b66 (fun _ _ _ _ _ _ _ _ h => ih) c Cv0 Cv1
theorem av_cSide_datagram_b53 {C : Nat → Prop} {v0 : Nat} {v1 : Nat} {v2 : Int} {s0 : Int} {h : Hp} (c : Cl C h) (Cv0 : C v0) (Cv1 : C v1) : Ao (qI C h) (f_cSide_datagram_b53 v0 v1 v2 s0 h) := by
  unfold f_cSide_datagram_b53
  have F0 := Av.rf c
  exact ao_jI F0 (av_cSide_datagram_b66_lp FU (F0.cl) Cv0 Cv1)
theorem av_cSide_datagram_b30 {C : Nat → Prop} {v0 : Nat} {v1 : Nat} {v2 : Int} {h : Hp} (c : Cl C h) (Cv0 : C v0) (Cv1 : C v1) : Ao (qI C h) (f_cSide_datagram_b30 v0 v1 v2 h) := by
  unfold f_cSide_datagram_b30
  have F0 := Av.rf c
  exact ao_jI F0 (av_cSide_datagram_b53 (F0.cl) Cv0 Cv1)
theorem av_cSide_datagram {C : Nat → Prop} {v0 : Nat} {v1 : Nat} {v2 : Int} {h : Hp} (c : Cl C h) (Cv0 : C v0) (Cv1 : C v1) : Ao (qI C h) (f_cSide_datagram v0 v1 v2 h) := by
  unfold f_cSide_datagram
  have F0 := Av.rf c
  refine ao_b2 F0 (av_cSide_isWorn (F0.cl)) (fun r3 h1 F1 => ?_)
  refine ao_it ?_ ?_
  · refine ao_it ?_ ?_
    · exact ao_jI F1 (av_cSide_datagram_b30 (F1.cl) Cv0 Cv1)
    · refine ao_it ?_ ?_
      · exact ao_jI F1 (av_cSide_datagram_b53 (F1.cl) Cv0 Cv1)
      · exact ao_jI F1 (av_cSide_datagram_b30 (F1.cl) Cv0 Cv1)
  · refine ao_b1 F1 (av_cSide_end (F1.cl) Cv0) (fun h4 F2 => ?_)
    exact ao_so F2
theorem av_cSide_sends_b25 {C : Nat → Prop} {k4 : Nat → Nat → Int → Int → Hp → Option (Hp)} (hk4 : ∀ (v0 : Nat) (v1 : Nat) (v2 : Int) (v3 : Int) (h : Hp), Cl C h → C v0 → C v1 → Ao (qV C h) (k4 v0 v1 v2 v3 h)) {v0 : Nat} {v1 : Nat} {v3 : Int} {s0 : Nat} {s1 : Nat} {s2 : Int} {h : Hp} (c : Cl C h) (Cv0 : C v0) (Cv1 : C v1) (Cs0 : C s0) (Cs1 : C s1) : Ao (qV C h) (f_cSide_sends_b25 k4 v0 v1 v3 s0 s1 s2 h) := by
  unfold f_cSide_sends_b25
  have F0 := Av.rf c
  refine ao_it ao_no ?_
  refine ao_b2 F0 (av_cSide_datagram (F0.cl) Cs0 Cs1) (fun r4 h2 F1 => ?_)
  exact ao_jV F1 (hk4 _ _ _ _ _ (F1.cl) Cv0 Cv1)
theorem av_cSide_sends_b4 {C : Nat → Prop} {k4 : Nat → Nat → Int → Int → Hp → Option (Hp)} (hk4 : ∀ (v0 : Nat) (v1 : Nat) (v2 : Int) (v3 : Int) (h : Hp), Cl C h → C v0 → C v1 → Ao (qV C h) (k4 v0 v1 v2 v3 h)) {v0 : Nat} {v1 : Nat} {v2 : Int} {v3 : Int} {h : Hp} (c : Cl C h) (Cv0 : C v0) (Cv1 : C v1) : Ao (qV C h) (f_cSide_sends_b4 k4 v0 v1 v2 v3 h) := by
  unfold f_cSide_sends_b4
  have F0 := Av.rf c
  refine ao_it ?_ ?_
  · exact ao_so F0
  · refine ao_it ?_ ?_
    · exact ao_so F0
    · refine ao_it ?_ ?_
      · exact ao_jV F0 (av_cSide_sends_b25 hk4 (F0.cl) Cv0 Cv1 Cv0 Cv1)
      · exact ao_jV F0 (av_cSide_sends_b25 hk4 (F0.cl) Cv0 Cv1 Cv0 Cv1)
theorem av_cSide_sends_b4_lp {C : Nat → Prop} (n : Nat) : ∀ {v0 : Nat} {v1 : Nat} {v2 : Int} {v3 : Int} {h : Hp}, Cl C h → C v0 → C v1 → Ao (qV C h) (f_cSide_sends_b4_lp n v0 v1 v2 v3 h) := by
  induction n with
  | zero => intros; exact ao_no
  | succ n ih => intro v0 v1 v2 v3 h c Cv0 Cv1; exact av_cSide_sends_b4 (fun _ _ _ _ h => ih) c Cv0 Cv1
theorem av_cSide_sends {C : Nat → Prop} {v0 : Nat} {v1 : Nat} {h : Hp} (c : Cl C h) (Cv0 : C v0) (Cv1 : C v1) : Ao (qV C h) (f_cSide_sends v0 v1 h) := by
  unfold f_cSide_sends
  have F0 := Av.rf c
  exact ao_jV F0 (av_cSide_sends_b4_lp FU (F0.cl) Cv0 Cv1)
theorem av_cSide_tick_b121 {C : Nat → Prop} {v0 : Nat} {v1 : Nat} {h : Hp} (c : Cl C h) (Cv0 : C v0) (Cv1 : C v1) : Ao (qV C h) (f_cSide_tick_b121 v0 v1 h) := by
  unfold f_cSide_tick_b121
  have F0 := Av.rf c
  refine ao_it ?_ ?_
  · exact ao_so F0
  · refine ao_it ?_ ?_
    · exact ao_so F0
    · refine ao_b1 F0 (av_cSide_sends (F0.cl) Cv0 Cv1) (fun h16 F1 => ?_)
      exact ao_so F1
theorem av_cSide_tick_b89 {C : Nat → Prop} {v0 : Nat} {v1 : Nat} {h : Hp} (c : Cl C h) (Cv0 : C v0) (Cv1 : C v1) : Ao (qV C h) (f_cSide_tick_b89 v0 v1 h) := by
  unfold f_cSide_tick_b89
  have F0 := Av.rf c
  refine ao_b2 F0 (av_cSide_quietLimit (F0.cl)) (fun r12 h10 F1 => ?_)
  refine ao_it ?_ ?_
  · exact ao_jV F1 (av_cSide_tick_b121 (F1.cl) Cv0 Cv1)
  · refine ao_it ao_no ?_
    refine ao_it ?_ ?_
    · exact ao_jV F1 (av_cSide_tick_b121 (F1.cl) Cv0 Cv1)
    · refine ao_b1 F1 (av_cSide_end (F1.cl) Cv0) (fun h14 F2 => ?_)
      exact ao_jV F2 (av_cSide_tick_b121 (F2.cl) Cv0 Cv1)
theorem av_cSide_tick_b77 {C : Nat → Prop} {v0 : Nat} {v1 : Nat} {v2 : Int} {h : Hp} (c : Cl C h) (Cv0 : C v0) (Cv1 : C v1) : Ao (qV C h) (f_cSide_tick_b77 v0 v1 v2 h) := by
  unfold f_cSide_tick_b77
  have F0 := Av.rf c
  refine ao_it ?_ ?_
  · exact ao_jV F0 (av_cSide_tick_b89 (F0.cl) Cv0 Cv1)
  · refine ao_b1 F0 (av_cSide_probe (F0.cl) Cv0) (fun h8 F1 => ?_)
    exact ao_jV F1 (av_cSide_tick_b89 (F1.cl) Cv0 Cv1)
theorem av_cSide_tick_b61 {C : Nat → Prop} {k61 : Nat → Nat → Int → Int → Hp → Option (Hp)} (hk61 : ∀ (v0 : Nat) (v1 : Nat) (v2 : Int) (v3 : Int) (h : Hp), Cl C h → C v0 → C v1 → Ao (qV C h) (k61 v0 v1 v2 v3 h)) {v0 : Nat} {v1 : Nat} {v2 : Int} {v3 : Int} {h : Hp} (c : Cl C h) (Cv0 : C v0) (Cv1 : C v1) : Ao (qV C h) (f_cSide_tick_b61 k61 v0 v1 v2 v3 h) := by
  unfold f_cSide_tick_b61
  have F0 := Av.rf c
  refine ao_it ?_ ?_
  · exact ao_jV F0 (av_cSide_tick_b77 (F0.cl) Cv0 Cv1)
  · refine ao_b1 F0 (av_cSide_settle (F0.cl) Cv0) (fun h18 F1 => ?_)
    exact ao_jV F1 (hk61 _ _ _ _ _ (F1.cl) Cv0 Cv1)
theorem av_cSide_tick_b61_lp {C : Nat → Prop} (n : Nat) : ∀ {v0 : Nat} {v1 : Nat} {v2 : Int} {v3 : Int} {h : Hp}, Cl C h → C v0 → C v1 → Ao (qV C h) (f_cSide_tick_b61_lp n v0 v1 v2 v3 h) := by
  induction n with
  | zero => intros; exact ao_no
  | succ n ih => intro v0 v1 v2 v3 h c Cv0 Cv1; exact av_cSide_tick_b61 (fun _ _ _ _ h => ih) c Cv0 Cv1
theorem av_cSide_tick {C : Nat → Prop} {v0 : Nat} {v1 : Nat} {h : Hp} (c : Cl C h) (Cv0 : C v0) (Cv1 : C v1) : Ao (qV C h) (f_cSide_tick v0 v1 h) := by
  unfold f_cSide_tick
  have F0 := Av.rf c
  refine ao_it ao_no ?_
  refine ao_b2 F0 (av_cBook_tick (F0.cl) (F0.cl.r Cv0)) (fun r4 h2 F1 => ?_)
  refine ao_it ?_ ?_
  · exact ao_so F1
  · refine ao_it ?_ ?_
    · refine ao_it ?_ ?_
      · refine ao_it ?_ ?_
        · exact ao_jV F1 (av_cSide_tick_b77 (F1.cl) Cv0 Cv1)
        · exact ao_jV F1 (av_cSide_tick_b61_lp FU (F1.cl) Cv0 Cv1)
      · refine ao_it ao_no ?_
        refine ao_it ?_ ?_
        · exact ao_jV F1 (av_cSide_tick_b121 (F1.cl) Cv0 Cv1)
        · refine ao_b1 F1 (av_cSide_end (F1.cl) Cv0) (fun h6 F2 => ?_)
          exact ao_jV F2 (av_cSide_tick_b121 (F2.cl) Cv0 Cv1)
    · exact ao_so F1
theorem av_cP_tick__b26 {C : Nat → Prop} {k12 : Nat → Int → Hp → Option (Hp)} (hk12 : ∀ (v0 : Nat) (v1 : Int) (h : Hp), Cl C h → C v0 → Ao (qV C h) (k12 v0 v1 h)) {k26 : Nat → Int → Int → Hp → Option (Hp)} (hk26 : ∀ (v0 : Nat) (v1 : Int) (v2 : Int) (h : Hp), Cl C h → C v0 → Ao (qV C h) (k26 v0 v1 v2 h)) {v0 : Nat} {v1 : Int} {v2 : Int} {h : Hp} (c : Cl C h) (Cv0 : C v0) : Ao (qV C h) (f_cP_tick__b26 k12 k26 v0 v1 v2 h) := by
  unfold f_cP_tick__b26
  have F0 := Av.rf c
  refine ao_it ao_no ?_
  refine ao_it ?_ ao_no
  refine ao_it ao_no ?_
  refine ao_it ?_ ?_
  · exact ao_jV F0 (hk12 _ _ _ (F0.cl) Cv0)
  · refine ao_it ?_ ao_no
    refine ao_it ao_no ?_
    refine ao_it ?_ ao_no
    refine ao_it ?_ ?_
    · exact ao_jV F0 (hk26 _ _ _ _ (F0.cl) Cv0)
    · refine ao_b2 F0 (av_cP_comes (F0.cl) Cv0) (fun r24 h22 F1 => ?_)
      exact ao_jV F1 (hk26 _ _ _ _ (F1.cl) Cv0)
theorem av_cP_tick__b26_lp {C : Nat → Prop} {k12 : Nat → Int → Hp → Option (Hp)} (hk12 : ∀ (v0 : Nat) (v1 : Int) (h : Hp), Cl C h → C v0 → Ao (qV C h) (k12 v0 v1 h)) (n : Nat) : ∀ {v0 : Nat} {v1 : Int} {v2 : Int} {h : Hp}, Cl C h → C v0 → Ao (qV C h) (f_cP_tick__b26_lp k12 n v0 v1 v2 h) := by
  induction n with
  | zero => intros; exact ao_no
  | succ n ih => intro v0 v1 v2 h c Cv0; exact av_cP_tick__b26 hk12 (fun _ _ _ h => ih) c Cv0
theorem av_cP_tick__b84 {C : Nat → Prop} {v0 : Nat} {h : Hp} (c : Cl C h) (Cv0 : C v0) : Ao (qV C h) (f_cP_tick__b84 v0 h) := by
  unfold f_cP_tick__b84
  have F0 := Av.rf c
  refine ao_it ao_no ?_
  refine ao_it ?_ ao_no
  refine ao_it ao_no ?_
  refine ao_it ?_ ao_no
  refine ao_it ao_no ?_
  refine ao_b1 F0 (av_cSide_tick (F0.cl) (F0.cl.r (F0.cl.r Cv0)) (F0.cl.r (F0.cl.r Cv0))) (fun h7 F1 => ?_)
  refine ao_it ao_no ?_
  refine ao_it ?_ ao_no
  refine ao_it ao_no ?_
  refine ao_it ?_ ao_no
  refine ao_it ao_no ?_
  refine ao_b1 F1 (av_cSide_tick (F1.cl) (F1.cl.r (F1.cl.r Cv0)) (F1.cl.r (F1.cl.r Cv0))) (fun h14 F2 => ?_)
  exact ao_so F2
theorem av_cP_tick__b12 {C : Nat → Prop} {k12 : Nat → Int → Hp → Option (Hp)} (hk12 : ∀ (v0 : Nat) (v1 : Int) (h : Hp), Cl C h → C v0 → Ao (qV C h) (k12 v0 v1 h)) {v0 : Nat} {v1 : Int} {h : Hp} (c : Cl C h) (Cv0 : C v0) : Ao (qV C h) (f_cP_tick__b12 k12 v0 v1 h) := by
  unfold f_cP_tick__b12
  have F0 := Av.rf c
  refine ao_it ?_ ?_
  · exact ao_jV F0 (av_cP_tick__b84 (F0.cl) Cv0)
  · refine ao_it ?_ ?_
    · exact ao_jV F0 (av_cP_tick__b84 (F0.cl) Cv0)
    · exact ao_jV F0 (av_cP_tick__b26_lp hk12 FU (F0.cl) Cv0)
theorem av_cP_tick__b12_lp {C : Nat → Prop} (n : Nat) : ∀ {v0 : Nat} {v1 : Int} {h : Hp}, Cl C h → C v0 → Ao (qV C h) (f_cP_tick__b12_lp n v0 v1 h) := by
  induction n with
  | zero => intros; exact ao_no
  | succ n ih => intro v0 v1 h c Cv0; exact av_cP_tick__b12 (fun _ _ h => ih) c Cv0
theorem av_cP_tick_ {C : Nat → Prop} {v0 : Nat} {h : Hp} (c : Cl C h) (Cv0 : C v0) : Ao (qV C h) (f_cP_tick_ v0 h) := by
  unfold f_cP_tick_
  have F0 := Av.rf c
  refine ao_I F0 Cv0 (fun h1 F1 => ?_)
  exact ao_jV F1 (av_cP_tick__b12_lp FU (F1.cl) Cv0)
theorem av_cP_tick_I_b33 {C : Nat → Prop} {k33 : Nat → Int → Int → Hp → Option ((Int × Hp) ⊕ (Nat × Hp))} (hk33 : ∀ (v0 : Nat) (v1 : Int) (v2 : Int) (h : Hp), Cl C h → C v0 → Ao (qTI C h) (k33 v0 v1 v2 h)) {v0 : Nat} {v1 : Int} {v2 : Int} {h : Hp} (c : Cl C h) (Cv0 : C v0) : Ao (qTI C h) (f_cP_tick_I_b33 k33 v0 v1 v2 h) := by
  unfold f_cP_tick_I_b33
  have F0 := Av.rf c
  refine ao_it ?_ ?_
  · exact ao_so F0
  · refine ao_b1 F0 (av_cP_tick_ (F0.cl) Cv0) (fun h14 F1 => ?_)
    exact ao_jTI F1 (hk33 _ _ _ _ (F1.cl) Cv0)
theorem av_cP_tick_I_b33_lp {C : Nat → Prop} (n : Nat) : ∀ {v0 : Nat} {v1 : Int} {v2 : Int} {h : Hp}, Cl C h → C v0 → Ao (qTI C h) (f_cP_tick_I_b33_lp n v0 v1 v2 h) := by
  induction n with
  | zero => intros; exact ao_no
  | succ n ih => intro v0 v1 v2 h c Cv0; exact av_cP_tick_I_b33 (fun _ _ _ h => ih) c Cv0
theorem av_cP_tick_I_b28 {C : Nat → Prop} {v0 : Nat} {v1 : Int} {s0 : Int} {h : Hp} (c : Cl C h) (Cv0 : C v0) : Ao (qTI C h) (f_cP_tick_I_b28 v0 v1 s0 h) := by
  unfold f_cP_tick_I_b28
  have F0 := Av.rf c
  refine ao_bt F0 (av_cP_ready (F0.cl)) (fun a11 h12 F1 => ?_) (fun h9 F2 => ?_)
  · exact ao_so F1
  · exact ao_jTI F2 (av_cP_tick_I_b33_lp FU (F2.cl) Cv0)
theorem av_cP_tick_I {C : Nat → Prop} {v0 : Nat} {v1 : Int} {h : Hp} (c : Cl C h) (Cv0 : C v0) : Ao (qTI C h) (f_cP_tick_I v0 v1 h) := by
  unfold f_cP_tick_I
  have F0 := Av.rf c
  refine ao_b2 F0 (av_cP_in (F0.cl)) (fun r3 h1 F1 => ?_)
  refine ao_bt F1 (av_cP_need (F1.cl)) (fun a6 h7 F2 => ?_) (fun h4 F3 => ?_)
  · exact ao_so F2
  · refine ao_it ?_ ?_
    · exact ao_jTI F3 (av_cP_tick_I_b28 (F3.cl) Cv0)
    · exact ao_jTI F3 (av_cP_tick_I_b28 (F3.cl) Cv0)
theorem av_cP_line_b27 {C : Nat → Prop} {v0 : Nat} {v1 : Int} {v2 : Int} {s0 : Int} {h : Hp} (c : Cl C h) : Ao (qTI C h) (f_cP_line_b27 v0 v1 v2 s0 h) := by
  unfold f_cP_line_b27
  have F0 := Av.rf c
  refine ao_bt F0 (av_cP_need (F0.cl)) (fun a9 h10 F1 => ?_) (fun h7 F2 => ?_)
  · exact ao_so F1
  · refine ao_it ao_no ?_
    refine ao_it ?_ ao_no
    refine ao_v (fun y14 => ?_)
    refine ao_it ?_ ?_
    · refine ao_it ?_ ?_
      · refine ao_it ao_no ?_
        exact ao_so F2
      · refine ao_it ao_no ?_
        exact ao_so F2
    · refine ao_it ao_no ?_
      exact ao_so F2
theorem av_cP_line_b26 {C : Nat → Prop} {v0 : Nat} {v1 : Int} {v2 : Int} {h : Hp} (c : Cl C h) : Ao (qTI C h) (f_cP_line_b26 v0 v1 v2 h) := by
  unfold f_cP_line_b26
  have F0 := Av.rf c
  exact ao_jTI F0 (av_cP_line_b27 (F0.cl))
theorem av_cP_line {C : Nat → Prop} {v0 : Nat} {v1 : Int} {v2 : Int} {h : Hp} (c : Cl C h) : Ao (qTI C h) (f_cP_line v0 v1 v2 h) := by
  unfold f_cP_line
  have F0 := Av.rf c
  refine ao_b2 F0 (av_cP_in (F0.cl)) (fun r3 h1 F1 => ?_)
  refine ao_it ?_ ?_
  · exact ao_jTI F1 (av_cP_line_b26 (F1.cl))
  · refine ao_b2 F1 (av_cP_in (F1.cl)) (fun r6 h4 F2 => ?_)
    refine ao_it ?_ ?_
    · exact ao_jTI F2 (av_cP_line_b26 (F2.cl))
    · exact ao_jTI F2 (av_cP_line_b27 (F2.cl))
theorem av_cP_at {C : Nat → Prop} {v0 : Nat} {v1 : Int} {v2 : Int} {v3 : Int} {h : Hp} (c : Cl C h) (Cv0 : C v0) : Ao (qTI C h) (f_cP_at v0 v1 v2 v3 h) := by
  unfold f_cP_at
  have F0 := Av.rf c
  refine ao_bt2R F0 (av_cP_on (F0.cl) Cv0) (fun a3 h4 F1 => ?_) (fun r6 h1 F2 Cr6 => ?_)
  · exact ao_so F1
  · refine ao_it ao_no ?_
    refine ao_it ao_no ?_
    refine ao_it ?_ ao_no
    refine ao_b2 F2 (av_cP_in (F2.cl)) (fun r12 h10 F3 => ?_)
    refine ao_bt F3 (av_cP_there (F3.cl)) (fun a15 h16 F4 => ?_) (fun h13 F5 => ?_)
    · exact ao_so F4
    · refine ao_it ?_ ?_
      · refine ao_it ?_ ?_
        · refine ao_it ao_no ?_
          refine ao_it ?_ ao_no
          refine ao_it ao_no ?_
          refine ao_it ?_ ao_no
          exact ao_so F5
        · refine ao_it ao_no ?_
          refine ao_it ?_ ao_no
          exact ao_so F5
      · refine ao_it ao_no ?_
        refine ao_it ?_ ao_no
        exact ao_so F5
theorem av_cP_look {C : Nat → Prop} {v0 : Nat} {v1 : Int} {v2 : Int} {h : Hp} (c : Cl C h) (Cv0 : C v0) : Ao (qTI C h) (f_cP_look v0 v1 v2 h) := by
  unfold f_cP_look
  have F0 := Av.rf c
  refine ao_bt2R F0 (av_cP_of (F0.cl) Cv0) (fun a3 h4 F1 => ?_) (fun r6 h1 F2 Cr6 => ?_)
  · exact ao_so F1
  · refine ao_b2 F2 (av_cP_in (F2.cl)) (fun r9 h7 F3 => ?_)
    refine ao_bt F3 (av_cP_need (F3.cl)) (fun a12 h13 F4 => ?_) (fun h10 F5 => ?_)
    · exact ao_so F4
    · refine ao_it ?_ ?_
      · refine ao_it ao_no ?_
        exact ao_so F5
      · refine ao_it ?_ ?_
        · refine ao_it ao_no ?_
          exact ao_so F5
        · refine ao_it ?_ ?_
          · refine ao_it ao_no ?_
            refine ao_it ao_no ?_
            refine ao_it ?_ ?_
            · exact ao_so F5
            · exact ao_so F5
          · refine ao_it ?_ ?_
            · refine ao_it ao_no ?_
              refine ao_it ?_ ?_
              · exact ao_so F5
              · exact ao_so F5
            · refine ao_it ?_ ?_
              · refine ao_it ao_no ?_
                refine ao_it ao_no ?_
                exact ao_so F5
              · refine ao_it ?_ ?_
                · refine ao_it ao_no ?_
                  refine ao_it ao_no ?_
                  refine ao_it ao_no ?_
                  refine ao_it ?_ ao_no
                  refine ao_it ?_ ?_
                  · refine ao_it ?_ ao_no
                    refine ao_it ?_ ?_
                    · refine ao_it ?_ ao_no
                      refine ao_it ?_ ?_
                      · exact ao_so F5
                      · exact ao_so F5
                    · exact ao_so F5
                  · exact ao_so F5
                · refine ao_it ?_ ?_
                  · refine ao_it ao_no ?_
                    exact ao_so F5
                  · refine ao_it ?_ ?_
                    · refine ao_it ao_no ?_
                      exact ao_so F5
                    · refine ao_it ?_ ?_
                      · refine ao_it ao_no ?_
                        refine ao_it ao_no ?_
                        refine ao_it ?_ ao_no
                        refine ao_it ?_ ao_no
                        refine ao_it ?_ ao_no
                        exact ao_so F5
                      · refine ao_it ao_no ?_
                        refine ao_it ao_no ?_
                        refine ao_it ?_ ao_no
                        refine ao_it ao_no ?_
                        refine ao_it ?_ ao_no
                        refine ao_it ao_no ?_
                        refine ao_it ?_ ao_no
                        refine ao_it ao_no ?_
                        exact ao_so F5
theorem av_cBook_look {C : Nat → Prop} {v0 : Nat} {v1 : Int} {h : Hp} (c : Cl C h) : Ao (qI C h) (f_cBook_look v0 v1 h) := by
  unfold f_cBook_look
  have F0 := Av.rf c
  refine ao_it ?_ ?_
  · exact ao_so F0
  · refine ao_it ?_ ?_
    · refine ao_it ao_no ?_
      exact ao_so F0
    · refine ao_it ?_ ?_
      · refine ao_it ao_no ?_
        exact ao_so F0
      · refine ao_it ?_ ?_
        · refine ao_it ao_no ?_
          exact ao_so F0
        · refine ao_it ?_ ?_
          · refine ao_it ao_no ?_
            exact ao_so F0
          · refine ao_it ?_ ?_
            · refine ao_it ao_no ?_
              exact ao_so F0
            · refine ao_it ?_ ?_
              · refine ao_it ao_no ?_
                exact ao_so F0
              · refine ao_it ?_ ?_
                · refine ao_it ao_no ?_
                  exact ao_so F0
                · refine ao_it ?_ ?_
                  · refine ao_it ao_no ?_
                    exact ao_so F0
                  · refine ao_it ?_ ?_
                    · exact ao_so F0
                    · refine ao_it ?_ ?_
                      · refine ao_it ao_no ?_
                        refine ao_b2 F0 (av_cTrip_limit (F0.cl)) (fun r34 h32 F1 => ?_)
                        exact ao_so F1
                      · refine ao_it ao_no ?_
                        exact ao_so F0
theorem av_cP_book {C : Nat → Prop} {v0 : Nat} {v1 : Int} {v2 : Int} {h : Hp} (c : Cl C h) (Cv0 : C v0) : Ao (qTI C h) (f_cP_book v0 v1 v2 h) := by
  unfold f_cP_book
  have F0 := Av.rf c
  refine ao_bt2R F0 (av_cP_of (F0.cl) Cv0) (fun a3 h4 F1 => ?_) (fun r6 h1 F2 Cr6 => ?_)
  · exact ao_so F1
  · refine ao_b2 F2 (av_cP_in (F2.cl)) (fun r9 h7 F3 => ?_)
    refine ao_bt F3 (av_cP_need (F3.cl)) (fun a12 h13 F4 => ?_) (fun h10 F5 => ?_)
    · exact ao_so F4
    · refine ao_it ao_no ?_
      refine ao_it ao_no ?_
      refine ao_b2 F5 (av_cBook_look (F5.cl)) (fun r19 h17 F6 => ?_)
      exact ao_so F6
theorem av_cBook_space {C : Nat → Prop} {v0 : Nat} {v1 : Int} {v2 : Int} {h : Hp} (c : Cl C h) : Ao (qI C h) (f_cBook_space v0 v1 v2 h) := by
  unfold f_cBook_space
  have F0 := Av.rf c
  refine ao_it ao_no ?_
  refine ao_it ?_ ao_no
  refine ao_v (fun y3 => ?_)
  refine ao_it ?_ ?_
  · refine ao_it ao_no ?_
    exact ao_so F0
  · refine ao_it ?_ ?_
    · refine ao_it ao_no ?_
      exact ao_so F0
    · refine ao_it ?_ ?_
      · refine ao_it ao_no ?_
        exact ao_so F0
      · refine ao_it ?_ ?_
        · refine ao_b2 F0 (av_cBook_probeTime (F0.cl)) (fun r17 h15 F2 => ?_)
          exact ao_so F2
        · refine ao_it ?_ ?_
          · refine ao_it ao_no ?_
            exact ao_so F0
          · refine ao_it ?_ ?_
            · refine ao_it ao_no ?_
              exact ao_so F0
            · refine ao_it ?_ ?_
              · refine ao_it ao_no ?_
                refine ao_it ao_no ?_
                exact ao_so F0
              · refine ao_it ?_ ?_
                · refine ao_it ao_no ?_
                  exact ao_so F0
                · refine ao_it ?_ ?_
                  · refine ao_b2 F0 (av_cBook_patience (F0.cl)) (fun r35 h33 F3 => ?_)
                    exact ao_so F3
                  · refine ao_it ?_ ?_
                    · refine ao_it ao_no ?_
                      refine ao_it ?_ ?_
                      · exact ao_so F0
                      · exact ao_so F0
                    · refine ao_it ao_no ?_
                      refine ao_it ao_no ?_
                      exact ao_so F0
theorem av_cP_space_b36 {C : Nat → Prop} {v0 : Nat} {v2 : Int} {v3 : Int} {v4 : Nat} {s0 : Int} {h : Hp} (c : Cl C h) : Ao (qTI C h) (f_cP_space_b36 v0 v2 v3 v4 s0 h) := by
  unfold f_cP_space_b36
  have F0 := Av.rf c
  refine ao_bt F0 (av_cP_need (F0.cl)) (fun a15 h16 F1 => ?_) (fun h13 F2 => ?_)
  · exact ao_so F1
  · refine ao_it ?_ ?_
    · refine ao_it ao_no ?_
      refine ao_it ao_no ?_
      refine ao_b2 F2 (av_cBook_space (F2.cl)) (fun r22 h20 F3 => ?_)
      exact ao_so F3
    · refine ao_it ao_no ?_
      refine ao_it ao_no ?_
      refine ao_it ?_ ao_no
      refine ao_it ?_ ?_
      · exact ao_so F2
      · exact ao_so F2
theorem av_cP_space_b35 {C : Nat → Prop} {v0 : Nat} {v2 : Int} {v3 : Int} {v4 : Nat} {h : Hp} (c : Cl C h) : Ao (qTI C h) (f_cP_space_b35 v0 v2 v3 v4 h) := by
  unfold f_cP_space_b35
  have F0 := Av.rf c
  exact ao_jTI F0 (av_cP_space_b36 (F0.cl))
theorem av_cP_space {C : Nat → Prop} {v0 : Nat} {v1 : Int} {v2 : Int} {v3 : Int} {h : Hp} (c : Cl C h) (Cv0 : C v0) : Ao (qTI C h) (f_cP_space v0 v1 v2 v3 h) := by
  unfold f_cP_space
  have F0 := Av.rf c
  refine ao_bt2R F0 (av_cP_of (F0.cl) Cv0) (fun a3 h4 F1 => ?_) (fun r6 h1 F2 Cr6 => ?_)
  · exact ao_so F1
  · refine ao_b2 F2 (av_cP_in (F2.cl)) (fun r9 h7 F3 => ?_)
    refine ao_it ?_ ?_
    · exact ao_jTI F3 (av_cP_space_b35 (F3.cl))
    · refine ao_b2 F3 (av_cP_in (F3.cl)) (fun r12 h10 F4 => ?_)
      refine ao_it ?_ ?_
      · exact ao_jTI F4 (av_cP_space_b35 (F4.cl))
      · exact ao_jTI F4 (av_cP_space_b36 (F4.cl))
theorem av_cHall_look_II_b31 {C : Nat → Prop} {v0 : Nat} {h : Hp} (c : Cl C h) : Ao (qI C h) (f_cHall_look_II_b31 v0 h) := by
  unfold f_cHall_look_II_b31
  have F0 := Av.rf c
  exact ao_so F0
theorem av_cHall_look_II_b35 {C : Nat → Prop} {v0 : Nat} {v2 : Int} {v3 : Nat} {v4 : Nat} {h : Hp} (c : Cl C h) : Ao (qI C h) (f_cHall_look_II_b35 v0 v2 v3 v4 h) := by
  unfold f_cHall_look_II_b35
  have F0 := Av.rf c
  refine ao_it ?_ ?_
  · refine ao_it ao_no ?_
    exact ao_so F0
  · refine ao_it ?_ ?_
    · refine ao_it ao_no ?_
      exact ao_so F0
    · refine ao_it ?_ ?_
      · refine ao_it ao_no ?_
        exact ao_so F0
      · refine ao_it ?_ ?_
        · refine ao_it ao_no ?_
          exact ao_so F0
        · refine ao_it ?_ ?_
          · refine ao_it ao_no ?_
            exact ao_so F0
          · refine ao_it ?_ ?_
            · refine ao_it ao_no ?_
              refine ao_it ao_no ?_
              refine ao_b2 F0 (av_cSpans_count (F0.cl)) (fun r28 h26 F1 => ?_)
              exact ao_so F1
            · refine ao_it ?_ ?_
              · refine ao_it ao_no ?_
                refine ao_it ao_no ?_
                refine ao_b2 F0 (av_cSpans_count (F0.cl)) (fun r35 h33 F2 => ?_)
                exact ao_so F2
              · refine ao_it ?_ ?_
                · refine ao_it ao_no ?_
                  exact ao_so F0
                · refine ao_it ?_ ?_
                  · refine ao_it ao_no ?_
                    exact ao_so F0
                  · refine ao_it ?_ ?_
                    · refine ao_it ao_no ?_
                      exact ao_so F0
                    · refine ao_it ?_ ?_
                      · refine ao_it ao_no ?_
                        exact ao_so F0
                      · refine ao_it ?_ ?_
                        · refine ao_it ao_no ?_
                          exact ao_so F0
                        · refine ao_it ?_ ?_
                          · refine ao_it ao_no ?_
                            exact ao_so F0
                          · refine ao_it ?_ ?_
                            · refine ao_it ao_no ?_
                              exact ao_so F0
                            · refine ao_it ao_no ?_
                              exact ao_so F0
theorem av_cHall_look_II {C : Nat → Prop} {v0 : Nat} {v1 : Int} {v2 : Int} {h : Hp} (c : Cl C h) (Cv0 : C v0) : Ao (qI C h) (f_cHall_look_II v0 v1 v2 h) := by
  unfold f_cHall_look_II
  have F0 := Av.rf c
  refine ao_b2R F0 (av_cHall_sending (F0.cl) Cv0) (fun r3 h1 F1 Cr3 => ?_)
  refine ao_b2R F1 (av_cHall_receiving (F1.cl) Cv0) (fun r6 h4 F2 Cr6 => ?_)
  refine ao_it ?_ ?_
  · refine ao_it ?_ ?_
    · exact ao_jI F2 (av_cHall_look_II_b35 (F2.cl))
    · exact ao_jI F2 (av_cHall_look_II_b31 (F2.cl))
  · refine ao_it ?_ ?_
    · exact ao_jI F2 (av_cHall_look_II_b35 (F2.cl))
    · exact ao_jI F2 (av_cHall_look_II_b31 (F2.cl))
theorem av_cP_stream {C : Nat → Prop} {v0 : Nat} {v1 : Int} {v2 : Int} {v3 : Int} {h : Hp} (c : Cl C h) (Cv0 : C v0) : Ao (qTI C h) (f_cP_stream v0 v1 v2 v3 h) := by
  unfold f_cP_stream
  have F0 := Av.rf c
  refine ao_bt2R F0 (av_cP_of (F0.cl) Cv0) (fun a3 h4 F1 => ?_) (fun r6 h1 F2 Cr6 => ?_)
  · exact ao_so F1
  · refine ao_b2 F2 (av_cP_in (F2.cl)) (fun r9 h7 F3 => ?_)
    refine ao_bt F3 (av_cP_need (F3.cl)) (fun a12 h13 F4 => ?_) (fun h10 F5 => ?_)
    · exact ao_so F4
    · refine ao_it ao_no ?_
      refine ao_it ao_no ?_
      refine ao_b2 F5 (av_cHall_look_II (F5.cl) (F5.cl.r Cr6)) (fun r19 h17 F6 => ?_)
      exact ao_so F6
theorem av_cHall_look_I_b110 {C : Nat → Prop} {v0 : Nat} {v1 : Int} {h : Hp} (c : Cl C h) : Ao (qI C h) (f_cHall_look_I_b110 v0 v1 h) := by
  unfold f_cHall_look_I_b110
  have F0 := Av.rf c
  refine ao_it ao_no ?_
  refine ao_it ?_ ao_no
  refine ao_v (fun y32 => ?_)
  refine ao_it ?_ ?_
  · refine ao_it ?_ ?_
    · refine ao_it ?_ ?_
      · refine ao_it ao_no ?_
        exact ao_so F0
      · refine ao_it ao_no ?_
        exact ao_so F0
    · refine ao_it ao_no ?_
      exact ao_so F0
  · refine ao_it ao_no ?_
    exact ao_so F0
theorem av_cHall_look_I {C : Nat → Prop} {v0 : Nat} {v1 : Int} {h : Hp} (c : Cl C h) : Ao (qI C h) (f_cHall_look_I v0 v1 h) := by
  unfold f_cHall_look_I
  have F0 := Av.rf c
  refine ao_it ?_ ?_
  · exact ao_so F0
  · refine ao_it ?_ ?_
    · exact ao_so F0
    · refine ao_it ?_ ?_
      · exact ao_so F0
      · refine ao_it ?_ ?_
        · exact ao_so F0
        · refine ao_it ?_ ?_
          · exact ao_so F0
          · refine ao_it ?_ ?_
            · exact ao_jI F0 (av_cHall_look_I_b110 (F0.cl))
            · refine ao_it ?_ ?_
              · exact ao_jI F0 (av_cHall_look_I_b110 (F0.cl))
              · refine ao_it ?_ ?_
                · exact ao_jI F0 (av_cHall_look_I_b110 (F0.cl))
                · refine ao_it ?_ ?_
                  · exact ao_jI F0 (av_cHall_look_I_b110 (F0.cl))
                  · refine ao_it ?_ ?_
                    · exact ao_jI F0 (av_cHall_look_I_b110 (F0.cl))
                    · refine ao_it ?_ ?_
                      · exact ao_jI F0 (av_cHall_look_I_b110 (F0.cl))
                      · refine ao_it ?_ ?_
                        · exact ao_jI F0 (av_cHall_look_I_b110 (F0.cl))
                        · refine ao_it ?_ ?_
                          · exact ao_jI F0 (av_cHall_look_I_b110 (F0.cl))
                          · refine ao_it ?_ ?_
                            · refine ao_it ao_no ?_
                              exact ao_so F0
                            · exact ao_jI F0 (av_cHall_look_I_b110 (F0.cl))
theorem av_cP_streams {C : Nat → Prop} {v0 : Nat} {v1 : Int} {v2 : Int} {h : Hp} (c : Cl C h) (Cv0 : C v0) : Ao (qTI C h) (f_cP_streams v0 v1 v2 h) := by
  unfold f_cP_streams
  have F0 := Av.rf c
  refine ao_bt2R F0 (av_cP_of (F0.cl) Cv0) (fun a3 h4 F1 => ?_) (fun r6 h1 F2 Cr6 => ?_)
  · exact ao_so F1
  · refine ao_b2 F2 (av_cP_in (F2.cl)) (fun r9 h7 F3 => ?_)
    refine ao_bt F3 (av_cP_need (F3.cl)) (fun a12 h13 F4 => ?_) (fun h10 F5 => ?_)
    · exact ao_so F4
    · refine ao_it ao_no ?_
      refine ao_it ao_no ?_
      refine ao_b2 F5 (av_cHall_look_I (F5.cl)) (fun r19 h17 F6 => ?_)
      exact ao_so F6
theorem av_mSeals_nextPrime_b35 {C : Nat → Prop} {k4 : Int → Int → Hp → Option (Int × Hp)} (hk4 : ∀ (v1 : Int) (v2 : Int) (h : Hp), Cl C h → Ao (qI C h) (k4 v1 v2 h)) {k15 : Int → Int → Int → Hp → Option (Int × Hp)} (hk15 : ∀ (v1 : Int) (v2 : Int) (v3 : Int) (h : Hp), Cl C h → Ao (qI C h) (k15 v1 v2 v3 h)) {v1 : Int} {v3 : Int} {s0 : Int} {h : Hp} (c : Cl C h) : Ao (qI C h) (f_mSeals_nextPrime_b35 k4 k15 v1 v3 s0 h) := by
  unfold f_mSeals_nextPrime_b35
  have F0 := Av.rf c
  exact ao_jI F0 (hk15 _ _ _ _ (F0.cl))
theorem av_mSeals_nextPrime_b34 {C : Nat → Prop} {k4 : Int → Int → Hp → Option (Int × Hp)} (hk4 : ∀ (v1 : Int) (v2 : Int) (h : Hp), Cl C h → Ao (qI C h) (k4 v1 v2 h)) {k15 : Int → Int → Int → Hp → Option (Int × Hp)} (hk15 : ∀ (v1 : Int) (v2 : Int) (v3 : Int) (h : Hp), Cl C h → Ao (qI C h) (k15 v1 v2 v3 h)) {v1 : Int} {v3 : Int} {h : Hp} (c : Cl C h) : Ao (qI C h) (f_mSeals_nextPrime_b34 k4 k15 v1 v3 h) := by
  unfold f_mSeals_nextPrime_b34
  have F0 := Av.rf c
  exact ao_jI F0 (av_mSeals_nextPrime_b35 hk4 hk15 (F0.cl))
theorem av_mSeals_nextPrime_b15 {C : Nat → Prop} {k4 : Int → Int → Hp → Option (Int × Hp)} (hk4 : ∀ (v1 : Int) (v2 : Int) (h : Hp), Cl C h → Ao (qI C h) (k4 v1 v2 h)) {k15 : Int → Int → Int → Hp → Option (Int × Hp)} (hk15 : ∀ (v1 : Int) (v2 : Int) (v3 : Int) (h : Hp), Cl C h → Ao (qI C h) (k15 v1 v2 v3 h)) {v1 : Int} {v2 : Int} {v3 : Int} {h : Hp} (c : Cl C h) : Ao (qI C h) (f_mSeals_nextPrime_b15 k4 k15 v1 v2 v3 h) := by
  unfold f_mSeals_nextPrime_b15
  have F0 := Av.rf c
  refine ao_it ?_ ?_
  · exact ao_jI F0 (hk4 _ _ _ (F0.cl))
  · refine ao_it ?_ ?_
    · exact ao_jI F0 (av_mSeals_nextPrime_b34 hk4 hk15 (F0.cl))
    · refine ao_it ao_no ?_
      refine ao_it ?_ ?_
      · exact ao_jI F0 (av_mSeals_nextPrime_b34 hk4 hk15 (F0.cl))
      · exact ao_jI F0 (av_mSeals_nextPrime_b35 hk4 hk15 (F0.cl))
theorem av_mSeals_nextPrime_b15_lp {C : Nat → Prop} {k4 : Int → Int → Hp → Option (Int × Hp)} (hk4 : ∀ (v1 : Int) (v2 : Int) (h : Hp), Cl C h → Ao (qI C h) (k4 v1 v2 h)) (n : Nat) : ∀ {v1 : Int} {v2 : Int} {v3 : Int} {h : Hp}, Cl C h → Ao (qI C h) (f_mSeals_nextPrime_b15_lp k4 n v1 v2 v3 h) := by
  induction n with
  | zero => intros; exact ao_no
  | succ n ih => intro v1 v2 v3 h c; exact av_mSeals_nextPrime_b15 hk4 (fun _ _ _ h => ih) c
theorem av_mSeals_nextPrime_b4 {C : Nat → Prop} {k4 : Int → Int → Hp → Option (Int × Hp)} (hk4 : ∀ (v1 : Int) (v2 : Int) (h : Hp), Cl C h → Ao (qI C h) (k4 v1 v2 h)) {v1 : Int} {v2 : Int} {h : Hp} (c : Cl C h) : Ao (qI C h) (f_mSeals_nextPrime_b4 k4 v1 v2 h) := by
  unfold f_mSeals_nextPrime_b4
  have F0 := Av.rf c
  refine ao_it ?_ ?_
  · exact ao_so F0
  · exact ao_jI F0 (av_mSeals_nextPrime_b15_lp hk4 FU (F0.cl))
theorem av_mSeals_nextPrime_b4_lp {C : Nat → Prop} (n : Nat) : ∀ {v1 : Int} {v2 : Int} {h : Hp}, Cl C h → Ao (qI C h) (f_mSeals_nextPrime_b4_lp n v1 v2 h) := by
  induction n with
  | zero => intros; exact ao_no
  | succ n ih => intro v1 v2 h c; exact av_mSeals_nextPrime_b4 (fun _ _ h => ih) c
theorem av_mSeals_nextPrime {C : Nat → Prop} {v0 : Int} {h : Hp} (c : Cl C h) : Ao (qI C h) (f_mSeals_nextPrime v0 h) := by
  unfold f_mSeals_nextPrime
  have F0 := Av.rf c
  exact ao_jI F0 (av_mSeals_nextPrime_b4_lp FU (F0.cl))
theorem av_mSeals_times_b52 {C : Nat → Prop} {k3 : Nat → Int → Hp → Option (Hp)} (hk3 : ∀ (v0 : Nat) (v1 : Int) (h : Hp), Cl C h → C v0 → Ao (qV C h) (k3 v0 v1 h)) {v0 : Nat} {v1 : Int} {v2 : Int} {h : Hp} (c : Cl C h) (Cv0 : C v0) : Ao (qV C h) (f_mSeals_times_b52 k3 v0 v1 v2 h) := by
  unfold f_mSeals_times_b52
  have F0 := Av.rf c
  refine ao_it ao_no ?_
  refine ao_it ?_ ao_no
  refine ao_J F0 (F0.cl.r Cv0) (fun h15 F1 => ?_)
  exact ao_jV F1 (hk3 _ _ _ (F1.cl) Cv0)
theorem av_mSeals_times_b12 {C : Nat → Prop} {k3 : Nat → Int → Hp → Option (Hp)} (hk3 : ∀ (v0 : Nat) (v1 : Int) (h : Hp), Cl C h → C v0 → Ao (qV C h) (k3 v0 v1 h)) {k12 : Nat → Int → Int → Int → Hp → Option (Hp)} (hk12 : ∀ (v0 : Nat) (v1 : Int) (v2 : Int) (v4 : Int) (h : Hp), Cl C h → C v0 → Ao (qV C h) (k12 v0 v1 v2 v4 h)) {v0 : Nat} {v1 : Int} {v2 : Int} {v4 : Int} {h : Hp} (c : Cl C h) (Cv0 : C v0) : Ao (qV C h) (f_mSeals_times_b12 k3 k12 v0 v1 v2 v4 h) := by
  unfold f_mSeals_times_b12
  have F0 := Av.rf c
  refine ao_it ?_ ?_
  · exact ao_jV F0 (av_mSeals_times_b52 hk3 (F0.cl) Cv0)
  · refine ao_it ?_ ?_
    · exact ao_jV F0 (av_mSeals_times_b52 hk3 (F0.cl) Cv0)
    · refine ao_it ao_no ?_
      refine ao_it ?_ ao_no
      refine ao_it ao_no ?_
      refine ao_it ?_ ao_no
      refine ao_v (fun y12 => ?_)
      exact ao_jV F0 (hk12 _ _ _ _ _ (F0.cl) Cv0)
theorem av_mSeals_times_b12_lp {C : Nat → Prop} {k3 : Nat → Int → Hp → Option (Hp)} (hk3 : ∀ (v0 : Nat) (v1 : Int) (h : Hp), Cl C h → C v0 → Ao (qV C h) (k3 v0 v1 h)) (n : Nat) : ∀ {v0 : Nat} {v1 : Int} {v2 : Int} {v4 : Int} {h : Hp}, Cl C h → C v0 → Ao (qV C h) (f_mSeals_times_b12_lp k3 n v0 v1 v2 v4 h) := by
  induction n with
  | zero => intros; exact ao_no
  | succ n ih => intro v0 v1 v2 v4 h c Cv0; exact av_mSeals_times_b12 hk3 (fun _ _ _ _ h => ih) c Cv0
theorem av_mSeals_times_b69 {C : Nat → Prop} {k69 : Nat → Int → Int → Hp → Option (Hp)} (hk69 : ∀ (v0 : Nat) (v1 : Int) (v3 : Int) (h : Hp), Cl C h → C v0 → Ao (qV C h) (k69 v0 v1 v3 h)) {v0 : Nat} {v1 : Int} {v3 : Int} {h : Hp} (c : Cl C h) (Cv0 : C v0) : Ao (qV C h) (f_mSeals_times_b69 k69 v0 v1 v3 h) := by
  unfold f_mSeals_times_b69
  have F0 := Av.rf c
  refine ao_it ?_ ?_
  · exact ao_so F0
  · refine ao_it ao_no ?_
    refine ao_it ?_ ao_no
    refine ao_v (fun y3 => ?_)
    refine ao_it ao_no ?_
    refine ao_it ?_ ao_no
    refine ao_I F0 (F0.cl.r Cv0) (fun h6 F2 => ?_)
    refine ao_v (fun y7 => ?_)
    exact ao_jV F2 (hk69 _ _ _ _ (F2.cl) Cv0)
theorem av_mSeals_times_b69_lp {C : Nat → Prop} (n : Nat) : ∀ {v0 : Nat} {v1 : Int} {v3 : Int} {h : Hp}, Cl C h → C v0 → Ao (qV C h) (f_mSeals_times_b69_lp n v0 v1 v3 h) := by
  induction n with
  | zero => intros; exact ao_no
  | succ n ih => intro v0 v1 v3 h c Cv0; exact av_mSeals_times_b69 (fun _ _ _ h => ih) c Cv0
theorem av_mSeals_times_b3 {C : Nat → Prop} {k3 : Nat → Int → Hp → Option (Hp)} (hk3 : ∀ (v0 : Nat) (v1 : Int) (h : Hp), Cl C h → C v0 → Ao (qV C h) (k3 v0 v1 h)) {v0 : Nat} {v1 : Int} {h : Hp} (c : Cl C h) (Cv0 : C v0) : Ao (qV C h) (f_mSeals_times_b3 k3 v0 v1 h) := by
  unfold f_mSeals_times_b3
  have F0 := Av.rf c
  refine ao_it ?_ ?_
  · exact ao_jV F0 (av_mSeals_times_b69_lp FU (F0.cl) Cv0)
  · exact ao_jV F0 (av_mSeals_times_b12_lp hk3 FU (F0.cl) Cv0)
theorem av_mSeals_times_b3_lp {C : Nat → Prop} (n : Nat) : ∀ {v0 : Nat} {v1 : Int} {h : Hp}, Cl C h → C v0 → Ao (qV C h) (f_mSeals_times_b3_lp n v0 v1 h) := by
  induction n with
  | zero => intros; exact ao_no
  | succ n ih => intro v0 v1 h c Cv0; exact av_mSeals_times_b3 (fun _ _ h => ih) c Cv0
theorem av_mSeals_times {C : Nat → Prop} {v0 : Nat} {h : Hp} (c : Cl C h) (Cv0 : C v0) : Ao (qV C h) (f_mSeals_times v0 h) := by
  unfold f_mSeals_times
  have F0 := Av.rf c
  exact ao_jV F0 (av_mSeals_times_b3_lp FU (F0.cl) Cv0)
