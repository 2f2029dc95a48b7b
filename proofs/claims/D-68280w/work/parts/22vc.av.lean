/-! frames (gen/av.py) -/
theorem av_mSeals_isAbove_b108 {C : Nat → Prop} {k89 : Nat → Int → Int → Int → Hp → Option (Int × Hp)} (hk89 : ∀ (v0 : Nat) (v3 : Int) (v4 : Int) (v5 : Int) (h : Hp), Cl C h → Ao (qI C h) (k89 v0 v3 v4 v5 h)) {v0 : Nat} {v3 : Int} {v4 : Int} {v5 : Int} {s0 : Int} {h : Hp} (c : Cl C h) : Ao (qI C h) (f_mSeals_isAbove_b108 k89 v0 v3 v4 v5 s0 h) := by
  unfold f_mSeals_isAbove_b108
  have F0 := Av.rf c
  refine ao_it ao_no ?_
  refine ao_it ?_ ao_no
  refine ao_it ?_ ?_
  · exact ao_jI F0 (hk89 _ _ _ _ _ (F0.cl))
  · refine ao_it ?_ ao_no
    refine ao_it ?_ ?_
    · exact ao_so F0
    · exact ao_so F0
theorem av_mSeals_isAbove_b89 {C : Nat → Prop} {k89 : Nat → Int → Int → Int → Hp → Option (Int × Hp)} (hk89 : ∀ (v0 : Nat) (v3 : Int) (v4 : Int) (v5 : Int) (h : Hp), Cl C h → Ao (qI C h) (k89 v0 v3 v4 v5 h)) {v0 : Nat} {v3 : Int} {v4 : Int} {v5 : Int} {h : Hp} (c : Cl C h) : Ao (qI C h) (f_mSeals_isAbove_b89 k89 v0 v3 v4 v5 h) := by
  unfold f_mSeals_isAbove_b89
  have F0 := Av.rf c
  refine ao_it ?_ ?_
  · exact ao_so F0
  · refine ao_it ?_ ?_
    · exact ao_jI F0 (av_mSeals_isAbove_b108 hk89 (F0.cl))
    · exact ao_jI F0 (av_mSeals_isAbove_b108 hk89 (F0.cl))
theorem av_mSeals_isAbove_b89_lp {C : Nat → Prop} (n : Nat) : ∀ {v0 : Nat} {v3 : Int} {v4 : Int} {v5 : Int} {h : Hp}, Cl C h → Ao (qI C h) (f_mSeals_isAbove_b89_lp n v0 v3 v4 v5 h) := by
  induction n with
  | zero => intros; exact ao_no
  | succ n ih => intro v0 v3 v4 v5 h c; exact av_mSeals_isAbove_b89 (fun _ _ _ _ h => ih) c
theorem av_mSeals_isAbove_b68 {C : Nat → Prop} {k68 : Nat → Int → Int → Int → Hp → Option (Int × Hp)} (hk68 : ∀ (v0 : Nat) (v3 : Int) (v4 : Int) (v5 : Int) (h : Hp), Cl C h → C v0 → Ao (qI C h) (k68 v0 v3 v4 v5 h)) {v0 : Nat} {v3 : Int} {v4 : Int} {v5 : Int} {h : Hp} (c : Cl C h) (Cv0 : C v0) : Ao (qI C h) (f_mSeals_isAbove_b68 k68 v0 v3 v4 v5 h) := by
  unfold f_mSeals_isAbove_b68
  have F0 := Av.rf c
  refine ao_it ?_ ?_
  · exact ao_jI F0 (av_mSeals_isAbove_b89_lp FU (F0.cl))
  · refine ao_b1 F0 (av_mSeals_times (F0.cl) Cv0) (fun h10 F1 => ?_)
    exact ao_jI F1 (hk68 _ _ _ _ _ (F1.cl) Cv0)
theorem av_mSeals_isAbove_b68_lp {C : Nat → Prop} (n : Nat) : ∀ {v0 : Nat} {v3 : Int} {v4 : Int} {v5 : Int} {h : Hp}, Cl C h → C v0 → Ao (qI C h) (f_mSeals_isAbove_b68_lp n v0 v3 v4 v5 h) := by
  induction n with
  | zero => intros; exact ao_no
  | succ n ih => intro v0 v3 v4 v5 h c Cv0; exact av_mSeals_isAbove_b68 (fun _ _ _ _ h => ih) c Cv0
theorem av_mSeals_isAbove_b34 {C : Nat → Prop} {k34 : Nat → Int → Int → Int → Int → Hp → Option (Int × Hp)} (hk34 : ∀ (v0 : Nat) (v1 : Int) (v3 : Int) (v4 : Int) (v5 : Int) (h : Hp), Cl C h → C v0 → Ao (qI C h) (k34 v0 v1 v3 v4 v5 h)) {v0 : Nat} {v1 : Int} {v3 : Int} {v4 : Int} {v5 : Int} {h : Hp} (c : Cl C h) (Cv0 : C v0) : Ao (qI C h) (f_mSeals_isAbove_b34 k34 v0 v1 v3 v4 v5 h) := by
  unfold f_mSeals_isAbove_b34
  have F0 := Av.rf c
  refine ao_it ?_ ?_
  · exact ao_jI F0 (av_mSeals_isAbove_b68_lp FU (F0.cl) Cv0)
  · refine ao_it ao_no ?_
    refine ao_it ?_ ao_no
    refine ao_I F0 (F0.cl.r Cv0) (fun h9 F1 => ?_)
    exact ao_jI F1 (hk34 _ _ _ _ _ _ (F1.cl) Cv0)
theorem av_mSeals_isAbove_b34_lp {C : Nat → Prop} (n : Nat) : ∀ {v0 : Nat} {v1 : Int} {v3 : Int} {v4 : Int} {v5 : Int} {h : Hp}, Cl C h → C v0 → Ao (qI C h) (f_mSeals_isAbove_b34_lp n v0 v1 v3 v4 v5 h) := by
  induction n with
  | zero => intros; exact ao_no
  | succ n ih => intro v0 v1 v3 v4 v5 h c Cv0; exact av_mSeals_isAbove_b34 (fun _ _ _ _ _ h => ih) c Cv0
theorem av_mSeals_isAbove_b3 {C : Nat → Prop} {k3 : Nat → Int → Int → Int → Int → Hp → Option (Int × Hp)} (hk3 : ∀ (v0 : Nat) (v1 : Int) (v3 : Int) (v4 : Int) (v5 : Int) (h : Hp), Cl C h → C v0 → Ao (qI C h) (k3 v0 v1 v3 v4 v5 h)) {v0 : Nat} {v1 : Int} {v3 : Int} {v4 : Int} {v5 : Int} {h : Hp} (c : Cl C h) (Cv0 : C v0) : Ao (qI C h) (f_mSeals_isAbove_b3 k3 v0 v1 v3 v4 v5 h) := by
  unfold f_mSeals_isAbove_b3
  have F0 := Av.rf c
  refine ao_it ?_ ?_
  · refine ao_it ao_no ?_
    refine ao_it ?_ ao_no
    refine ao_I F0 (F0.cl.r Cv0) (fun h3 F1 => ?_)
    exact ao_jI F1 (av_mSeals_isAbove_b34_lp FU (F1.cl) Cv0)
  · refine ao_it ao_no ?_
    refine ao_it ?_ ao_no
    refine ao_I F0 (F0.cl.r Cv0) (fun h6 F2 => ?_)
    exact ao_jI F2 (hk3 _ _ _ _ _ _ (F2.cl) Cv0)
theorem av_mSeals_isAbove_b3_lp {C : Nat → Prop} (n : Nat) : ∀ {v0 : Nat} {v1 : Int} {v3 : Int} {v4 : Int} {v5 : Int} {h : Hp}, Cl C h → C v0 → Ao (qI C h) (f_mSeals_isAbove_b3_lp n v0 v1 v3 v4 v5 h) := by
  induction n with
  | zero => intros; exact ao_no
  | succ n ih => intro v0 v1 v3 v4 v5 h c Cv0; exact av_mSeals_isAbove_b3 (fun _ _ _ _ _ h => ih) c Cv0
theorem av_mSeals_isAbove {C : Nat → Prop} {v0 : Nat} {v1 : Int} {v3 : Int} {v4 : Int} {h : Hp} (c : Cl C h) (Cv0 : C v0) : Ao (qI C h) (f_mSeals_isAbove v0 v1 v3 v4 h) := by
  unfold f_mSeals_isAbove
  have F0 := Av.rf c
  exact ao_jI F0 (av_mSeals_isAbove_b3_lp FU (F0.cl) Cv0)
theorem av_mSeals_rootOf_b35 {C : Nat → Prop} {k6 : Nat → Int → Int → Int → Int → Hp → Option (Int × Hp)} (hk6 : ∀ (v0 : Nat) (v1 : Int) (v2 : Int) (v3 : Int) (v5 : Int) (h : Hp), Cl C h → C v0 → Ao (qI C h) (k6 v0 v1 v2 v3 v5 h)) {v0 : Nat} {v1 : Int} {v2 : Int} {v3 : Int} {v5 : Int} {h : Hp} (c : Cl C h) (Cv0 : C v0) : Ao (qI C h) (f_mSeals_rootOf_b35 k6 v0 v1 v2 v3 v5 h) := by
  unfold f_mSeals_rootOf_b35
  have F0 := Av.rf c
  exact ao_jI F0 (hk6 _ _ _ _ _ _ (F0.cl) Cv0)
theorem av_mSeals_rootOf_b6 {C : Nat → Prop} {k6 : Nat → Int → Int → Int → Int → Hp → Option (Int × Hp)} (hk6 : ∀ (v0 : Nat) (v1 : Int) (v2 : Int) (v3 : Int) (v5 : Int) (h : Hp), Cl C h → C v0 → Ao (qI C h) (k6 v0 v1 v2 v3 v5 h)) {v0 : Nat} {v1 : Int} {v2 : Int} {v3 : Int} {v5 : Int} {h : Hp} (c : Cl C h) (Cv0 : C v0) : Ao (qI C h) (f_mSeals_rootOf_b6 k6 v0 v1 v2 v3 v5 h) := by
  unfold f_mSeals_rootOf_b6
  have F0 := Av.rf c
  refine ao_it ?_ ?_
  · exact ao_so F0
  · refine ao_v (fun y1 => ?_)
    refine ao_b2 F0 (av_mSeals_isAbove (F0.cl) Cv0) (fun r4 h2 F2 => ?_)
    refine ao_it ?_ ?_
    · exact ao_jI F2 (av_mSeals_rootOf_b35 hk6 (F2.cl) Cv0)
    · refine ao_v (fun y5 => ?_)
      exact ao_jI F2 (av_mSeals_rootOf_b35 hk6 (F2.cl) Cv0)
theorem av_mSeals_rootOf_b6_lp {C : Nat → Prop} (n : Nat) : ∀ {v0 : Nat} {v1 : Int} {v2 : Int} {v3 : Int} {v5 : Int} {h : Hp}, Cl C h → C v0 → Ao (qI C h) (f_mSeals_rootOf_b6_lp n v0 v1 v2 v3 v5 h) := by
  induction n with
  | zero => intros; exact ao_no
  | succ n ih => intro v0 v1 v2 v3 v5 h c Cv0; exact av_mSeals_rootOf_b6 (fun _ _ _ _ _ h => ih) c Cv0
theorem av_mSeals_rootOf {C : Nat → Prop} {v0 : Nat} {v1 : Int} {v2 : Int} {h : Hp} (c : Cl C h) (Cv0 : C v0) : Ao (qI C h) (f_mSeals_rootOf v0 v1 v2 h) := by
  unfold f_mSeals_rootOf
  have F0 := Av.rf c
  exact ao_jI F0 (av_mSeals_rootOf_b6_lp FU (F0.cl) Cv0)
theorem av_mSeals_init_b224 {C : Nat → Prop} {k195 : Nat → Int → Int → Hp → Option (Hp)} (hk195 : ∀ (v0 : Nat) (v1 : Int) (v2 : Int) (h : Hp), Cl C h → C v0 → Ao (qV C h) (k195 v0 v1 v2 h)) {v0 : Nat} {v1 : Int} {v2 : Int} {h : Hp} (c : Cl C h) (Cv0 : C v0) : Ao (qV C h) (f_mSeals_init_b224 k195 v0 v1 v2 h) := by
  unfold f_mSeals_init_b224
  have F0 := Av.rf c
  refine ao_b2 F0 (av_mSeals_rootOf (F0.cl) Cv0) (fun r104 h102 F1 => ?_)
  refine ao_it ao_no ?_
  refine ao_it ?_ ao_no
  refine ao_J F1 (F0.cl.r Cv0) (fun h107 F2 => ?_)
  exact ao_jV F2 (hk195 _ _ _ _ (F2.cl) Cv0)
theorem av_mSeals_init_b195 {C : Nat → Prop} {k195 : Nat → Int → Int → Hp → Option (Hp)} (hk195 : ∀ (v0 : Nat) (v1 : Int) (v2 : Int) (h : Hp), Cl C h → C v0 → Ao (qV C h) (k195 v0 v1 v2 h)) {v0 : Nat} {v1 : Int} {v2 : Int} {h : Hp} (c : Cl C h) (Cv0 : C v0) : Ao (qV C h) (f_mSeals_init_b195 k195 v0 v1 v2 h) := by
  unfold f_mSeals_init_b195
  have F0 := Av.rf c
  refine ao_it ?_ ?_
  · exact ao_so F0
  · refine ao_b2 F0 (av_mSeals_nextPrime (F0.cl)) (fun r95 h93 F1 => ?_)
    refine ao_it ?_ ?_
    · exact ao_jV F1 (av_mSeals_init_b224 hk195 (F1.cl) Cv0)
    · refine ao_b2 F1 (av_mSeals_rootOf (F1.cl) Cv0) (fun r98 h96 F2 => ?_)
      refine ao_it ao_no ?_
      refine ao_it ?_ ao_no
      refine ao_J F2 (F1.cl.r Cv0) (fun h101 F3 => ?_)
      exact ao_jV F3 (av_mSeals_init_b224 hk195 (F3.cl) Cv0)
theorem av_mSeals_init_b195_lp {C : Nat → Prop} (n : Nat) : ∀ {v0 : Nat} {v1 : Int} {v2 : Int} {h : Hp}, Cl C h → C v0 → Ao (qV C h) (f_mSeals_init_b195_lp n v0 v1 v2 h) := by
  induction n with
  | zero => intros; exact ao_no
  | succ n ih => intro v0 v1 v2 h c Cv0; exact av_mSeals_init_b195 (fun _ _ _ h => ih) c Cv0
theorem av_mSeals_init {C : Nat → Prop} {v0 : Nat} {h : Hp} (c : Cl C h) (Cv0 : C v0) : Ao (qV C h) (f_mSeals_init v0 h) := by
  unfold f_mSeals_init
  have F0 := Av.rf c
  refine ao_it ?_ ao_no
  refine ao_nw F0 (fun h2 F1 => ?_)
  refine ao_R F1 Cv0 (F0.cl.n) (fun h4 F2 => ?_)
  refine ao_it ?_ ao_no
  refine ao_nw F2 (fun h6 F3 => ?_)
  refine ao_R F3 Cv0 (F2.cl.n) (fun h8 F4 => ?_)
  refine ao_it ?_ ao_no
  refine ao_nw F4 (fun h10 F5 => ?_)
  refine ao_R F5 Cv0 (F4.cl.n) (fun h12 F6 => ?_)
  refine ao_it ?_ ao_no
  refine ao_nw F6 (fun h14 F7 => ?_)
  refine ao_R F7 Cv0 (F6.cl.n) (fun h16 F8 => ?_)
  refine ao_it ?_ ao_no
  refine ao_nw F8 (fun h18 F9 => ?_)
  refine ao_R F9 Cv0 (F8.cl.n) (fun h20 F10 => ?_)
  refine ao_it ?_ ao_no
  refine ao_nw F10 (fun h22 F11 => ?_)
  refine ao_R F11 Cv0 (F10.cl.n) (fun h24 F12 => ?_)
  refine ao_it ?_ ao_no
  refine ao_nw F12 (fun h26 F13 => ?_)
  refine ao_R F13 Cv0 (F12.cl.n) (fun h28 F14 => ?_)
  refine ao_it ?_ ao_no
  refine ao_nw F14 (fun h30 F15 => ?_)
  refine ao_R F15 Cv0 (F14.cl.n) (fun h32 F16 => ?_)
  refine ao_it ?_ ao_no
  refine ao_nw F16 (fun h34 F17 => ?_)
  refine ao_R F17 Cv0 (F16.cl.n) (fun h36 F18 => ?_)
  refine ao_it ?_ ao_no
  refine ao_nw F18 (fun h38 F19 => ?_)
  refine ao_R F19 Cv0 (F18.cl.n) (fun h40 F20 => ?_)
  refine ao_it ?_ ao_no
  refine ao_nw F20 (fun h42 F21 => ?_)
  refine ao_R F21 Cv0 (F20.cl.n) (fun h44 F22 => ?_)
  refine ao_it ?_ ao_no
  refine ao_nw F22 (fun h46 F23 => ?_)
  refine ao_R F23 Cv0 (F22.cl.n) (fun h48 F24 => ?_)
  refine ao_it ?_ ao_no
  refine ao_nw F24 (fun h50 F25 => ?_)
  refine ao_R F25 Cv0 (F24.cl.n) (fun h52 F26 => ?_)
  refine ao_it ?_ ao_no
  refine ao_nw F26 (fun h54 F27 => ?_)
  refine ao_R F27 Cv0 (F26.cl.n) (fun h56 F28 => ?_)
  refine ao_it ?_ ao_no
  refine ao_nw F28 (fun h58 F29 => ?_)
  refine ao_R F29 Cv0 (F28.cl.n) (fun h60 F30 => ?_)
  refine ao_it ?_ ao_no
  refine ao_nw F30 (fun h62 F31 => ?_)
  refine ao_R F31 Cv0 (F30.cl.n) (fun h64 F32 => ?_)
  refine ao_it ?_ ao_no
  refine ao_nw F32 (fun h66 F33 => ?_)
  refine ao_R F33 Cv0 (F32.cl.n) (fun h68 F34 => ?_)
  refine ao_it ?_ ao_no
  refine ao_nw F34 (fun h70 F35 => ?_)
  refine ao_R F35 Cv0 (F34.cl.n) (fun h72 F36 => ?_)
  refine ao_it ?_ ao_no
  refine ao_nw F36 (fun h74 F37 => ?_)
  refine ao_R F37 Cv0 (F36.cl.n) (fun h76 F38 => ?_)
  refine ao_it ?_ ao_no
  refine ao_nw F38 (fun h78 F39 => ?_)
  refine ao_R F39 Cv0 (F38.cl.n) (fun h80 F40 => ?_)
  refine ao_it ?_ ao_no
  refine ao_nw F40 (fun h82 F41 => ?_)
  refine ao_R F41 Cv0 (F40.cl.n) (fun h84 F42 => ?_)
  refine ao_it ?_ ao_no
  refine ao_nw F42 (fun h86 F43 => ?_)
  refine ao_R F43 Cv0 (F42.cl.n) (fun h88 F44 => ?_)
  refine ao_it ?_ ao_no
  refine ao_nw F44 (fun h90 F45 => ?_)
  refine ao_R F45 Cv0 (F44.cl.n) (fun h92 F46 => ?_)
  exact ao_jV F46 (av_mSeals_init_b195_lp FU (F46.cl) Cv0)
theorem av_mStreams_init_b449 {C : Nat → Prop} {k435 : Nat → Int → Hp → Option (Hp)} (hk435 : ∀ (v0 : Nat) (v1 : Int) (h : Hp), Cl C h → C v0 → Ao (qV C h) (k435 v0 v1 h)) {k449 : Nat → Int → Int → Hp → Option (Hp)} (hk449 : ∀ (v0 : Nat) (v1 : Int) (v2 : Int) (h : Hp), Cl C h → C v0 → Ao (qV C h) (k449 v0 v1 v2 h)) {v0 : Nat} {v1 : Int} {v2 : Int} {h : Hp} (c : Cl C h) (Cv0 : C v0) : Ao (qV C h) (f_mStreams_init_b449 k435 k449 v0 v1 v2 h) := by
  unfold f_mStreams_init_b449
  have F0 := Av.rf c
  refine ao_it ?_ ?_
  · exact ao_jV F0 (hk435 _ _ _ (F0.cl) Cv0)
  · refine ao_it ao_no ?_
    refine ao_it ?_ ao_no
    refine ao_J F0 (F0.cl.r Cv0) (fun h228 F1 => ?_)
    exact ao_jV F1 (hk449 _ _ _ _ (F1.cl) Cv0)
theorem av_mStreams_init_b449_lp {C : Nat → Prop} {k435 : Nat → Int → Hp → Option (Hp)} (hk435 : ∀ (v0 : Nat) (v1 : Int) (h : Hp), Cl C h → C v0 → Ao (qV C h) (k435 v0 v1 h)) (n : Nat) : ∀ {v0 : Nat} {v1 : Int} {v2 : Int} {h : Hp}, Cl C h → C v0 → Ao (qV C h) (f_mStreams_init_b449_lp k435 n v0 v1 v2 h) := by
  induction n with
  | zero => intros; exact ao_no
  | succ n ih => intro v0 v1 v2 h c Cv0; exact av_mStreams_init_b449 hk435 (fun _ _ _ h => ih) c Cv0
theorem av_mStreams_init_b481 {C : Nat → Prop} {k481 : Nat → Int → Hp → Option (Hp)} (hk481 : ∀ (v0 : Nat) (v1 : Int) (h : Hp), Cl C h → C v0 → Ao (qV C h) (k481 v0 v1 h)) {v0 : Nat} {v1 : Int} {h : Hp} (c : Cl C h) (Cv0 : C v0) : Ao (qV C h) (f_mStreams_init_b481 k481 v0 v1 h) := by
  unfold f_mStreams_init_b481
  have F0 := Av.rf c
  refine ao_it ?_ ?_
  · exact ao_so F0
  · refine ao_it ao_no ?_
    refine ao_it ?_ ao_no
    refine ao_J F0 (F0.cl.r Cv0) (fun h210 F1 => ?_)
    refine ao_it ao_no ?_
    refine ao_it ?_ ao_no
    refine ao_J F1 (F1.cl.r Cv0) (fun h213 F2 => ?_)
    refine ao_it ao_no ?_
    refine ao_it ?_ ao_no
    refine ao_I F2 (F2.cl.r Cv0) (fun h216 F3 => ?_)
    refine ao_it ao_no ?_
    refine ao_it ?_ ao_no
    refine ao_I F3 (F3.cl.r Cv0) (fun h219 F4 => ?_)
    refine ao_it ao_no ?_
    refine ao_it ?_ ao_no
    refine ao_I F4 (F4.cl.r Cv0) (fun h222 F5 => ?_)
    refine ao_it ao_no ?_
    refine ao_it ?_ ao_no
    refine ao_I F5 (F5.cl.r Cv0) (fun h225 F6 => ?_)
    exact ao_jV F6 (hk481 _ _ _ (F6.cl) Cv0)
theorem av_mStreams_init_b481_lp {C : Nat → Prop} (n : Nat) : ∀ {v0 : Nat} {v1 : Int} {h : Hp}, Cl C h → C v0 → Ao (qV C h) (f_mStreams_init_b481_lp n v0 v1 h) := by
  induction n with
  | zero => intros; exact ao_no
  | succ n ih => intro v0 v1 h c Cv0; exact av_mStreams_init_b481 (fun _ _ h => ih) c Cv0
theorem av_mStreams_init_b435 {C : Nat → Prop} {k435 : Nat → Int → Hp → Option (Hp)} (hk435 : ∀ (v0 : Nat) (v1 : Int) (h : Hp), Cl C h → C v0 → Ao (qV C h) (k435 v0 v1 h)) {v0 : Nat} {v1 : Int} {h : Hp} (c : Cl C h) (Cv0 : C v0) : Ao (qV C h) (f_mStreams_init_b435 k435 v0 v1 h) := by
  unfold f_mStreams_init_b435
  have F0 := Av.rf c
  refine ao_it ?_ ?_
  · exact ao_jV F0 (av_mStreams_init_b481_lp FU (F0.cl) Cv0)
  · refine ao_it ao_no ?_
    refine ao_it ?_ ao_no
    refine ao_I F0 (F0.cl.r Cv0) (fun h207 F1 => ?_)
    exact ao_jV F1 (av_mStreams_init_b449_lp hk435 FU (F1.cl) Cv0)
theorem av_mStreams_init_b435_lp {C : Nat → Prop} (n : Nat) : ∀ {v0 : Nat} {v1 : Int} {h : Hp}, Cl C h → C v0 → Ao (qV C h) (f_mStreams_init_b435_lp n v0 v1 h) := by
  induction n with
  | zero => intros; exact ao_no
  | succ n ih => intro v0 v1 h c Cv0; exact av_mStreams_init_b435 (fun _ _ h => ih) c Cv0
theorem av_mStreams_init {C : Nat → Prop} {v0 : Nat} {h : Hp} (c : Cl C h) (Cv0 : C v0) : Ao (qV C h) (f_mStreams_init v0 h) := by
  unfold f_mStreams_init
  have F0 := Av.rf c
  refine ao_it ?_ ao_no
  refine ao_nw F0 (fun h2 F1 => ?_)
  refine ao_R F1 Cv0 (F0.cl.n) (fun h4 F2 => ?_)
  refine ao_it ?_ ao_no
  refine ao_nw F2 (fun h6 F3 => ?_)
  refine ao_R F3 Cv0 (F2.cl.n) (fun h8 F4 => ?_)
  refine ao_it ?_ ao_no
  refine ao_nw F4 (fun h10 F5 => ?_)
  refine ao_R F5 Cv0 (F4.cl.n) (fun h12 F6 => ?_)
  refine ao_it ?_ ao_no
  refine ao_nw F6 (fun h14 F7 => ?_)
  refine ao_R F7 Cv0 (F6.cl.n) (fun h16 F8 => ?_)
  refine ao_it ?_ ao_no
  refine ao_nw F8 (fun h18 F9 => ?_)
  refine ao_R F9 Cv0 (F8.cl.n) (fun h20 F10 => ?_)
  refine ao_it ?_ ao_no
  refine ao_nw F10 (fun h22 F11 => ?_)
  refine ao_R F11 Cv0 (F10.cl.n) (fun h24 F12 => ?_)
  refine ao_it ?_ ao_no
  refine ao_nw F12 (fun h26 F13 => ?_)
  refine ao_R F13 Cv0 (F12.cl.n) (fun h28 F14 => ?_)
  refine ao_it ?_ ao_no
  refine ao_nw F14 (fun h30 F15 => ?_)
  refine ao_R F15 Cv0 (F14.cl.n) (fun h32 F16 => ?_)
  refine ao_it ?_ ao_no
  refine ao_nw F16 (fun h34 F17 => ?_)
  refine ao_R F17 Cv0 (F16.cl.n) (fun h36 F18 => ?_)
  refine ao_it ?_ ao_no
  refine ao_nw F18 (fun h38 F19 => ?_)
  refine ao_R F19 Cv0 (F18.cl.n) (fun h40 F20 => ?_)
  refine ao_it ?_ ao_no
  refine ao_nw F20 (fun h42 F21 => ?_)
  refine ao_R F21 Cv0 (F20.cl.n) (fun h44 F22 => ?_)
  refine ao_it ?_ ao_no
  refine ao_nw F22 (fun h46 F23 => ?_)
  refine ao_R F23 Cv0 (F22.cl.n) (fun h48 F24 => ?_)
  refine ao_it ?_ ao_no
  refine ao_nw F24 (fun h50 F25 => ?_)
  refine ao_R F25 Cv0 (F24.cl.n) (fun h52 F26 => ?_)
  refine ao_it ?_ ao_no
  refine ao_nw F26 (fun h54 F27 => ?_)
  refine ao_R F27 Cv0 (F26.cl.n) (fun h56 F28 => ?_)
  refine ao_it ?_ ao_no
  refine ao_nw F28 (fun h58 F29 => ?_)
  refine ao_R F29 Cv0 (F28.cl.n) (fun h60 F30 => ?_)
  refine ao_it ?_ ao_no
  refine ao_nw F30 (fun h62 F31 => ?_)
  refine ao_R F31 Cv0 (F30.cl.n) (fun h64 F32 => ?_)
  refine ao_it ?_ ao_no
  refine ao_nw F32 (fun h66 F33 => ?_)
  refine ao_R F33 Cv0 (F32.cl.n) (fun h68 F34 => ?_)
  refine ao_it ?_ ao_no
  refine ao_nw F34 (fun h70 F35 => ?_)
  refine ao_R F35 Cv0 (F34.cl.n) (fun h72 F36 => ?_)
  refine ao_it ?_ ao_no
  refine ao_nw F36 (fun h74 F37 => ?_)
  refine ao_R F37 Cv0 (F36.cl.n) (fun h76 F38 => ?_)
  refine ao_it ?_ ao_no
  refine ao_nw F38 (fun h78 F39 => ?_)
  refine ao_R F39 Cv0 (F38.cl.n) (fun h80 F40 => ?_)
  refine ao_it ?_ ao_no
  refine ao_nw F40 (fun h82 F41 => ?_)
  refine ao_R F41 Cv0 (F40.cl.n) (fun h84 F42 => ?_)
  refine ao_it ?_ ao_no
  refine ao_nw F42 (fun h86 F43 => ?_)
  refine ao_R F43 Cv0 (F42.cl.n) (fun h88 F44 => ?_)
  refine ao_it ?_ ao_no
  refine ao_nw F44 (fun h90 F45 => ?_)
  refine ao_R F45 Cv0 (F44.cl.n) (fun h92 F46 => ?_)
  refine ao_it ?_ ao_no
  refine ao_nw F46 (fun h94 F47 => ?_)
  refine ao_R F47 Cv0 (F46.cl.n) (fun h96 F48 => ?_)
  refine ao_it ?_ ao_no
  refine ao_nw F48 (fun h98 F49 => ?_)
  refine ao_R F49 Cv0 (F48.cl.n) (fun h100 F50 => ?_)
  refine ao_it ?_ ao_no
  refine ao_nw F50 (fun h102 F51 => ?_)
  refine ao_R F51 Cv0 (F50.cl.n) (fun h104 F52 => ?_)
  refine ao_it ?_ ao_no
  refine ao_nw F52 (fun h106 F53 => ?_)
  refine ao_R F53 Cv0 (F52.cl.n) (fun h108 F54 => ?_)
  refine ao_it ?_ ao_no
  refine ao_nw F54 (fun h110 F55 => ?_)
  refine ao_R F55 Cv0 (F54.cl.n) (fun h112 F56 => ?_)
  refine ao_it ?_ ao_no
  refine ao_nw F56 (fun h114 F57 => ?_)
  refine ao_R F57 Cv0 (F56.cl.n) (fun h116 F58 => ?_)
  refine ao_it ?_ ao_no
  refine ao_nw F58 (fun h118 F59 => ?_)
  refine ao_R F59 Cv0 (F58.cl.n) (fun h120 F60 => ?_)
  refine ao_it ?_ ao_no
  refine ao_nw F60 (fun h122 F61 => ?_)
  refine ao_R F61 Cv0 (F60.cl.n) (fun h124 F62 => ?_)
  refine ao_it ?_ ao_no
  refine ao_nw F62 (fun h126 F63 => ?_)
  refine ao_R F63 Cv0 (F62.cl.n) (fun h128 F64 => ?_)
  refine ao_it ?_ ao_no
  refine ao_nw F64 (fun h130 F65 => ?_)
  refine ao_R F65 Cv0 (F64.cl.n) (fun h132 F66 => ?_)
  refine ao_it ?_ ao_no
  refine ao_nw F66 (fun h134 F67 => ?_)
  refine ao_R F67 Cv0 (F66.cl.n) (fun h136 F68 => ?_)
  refine ao_it ?_ ao_no
  refine ao_nw F68 (fun h138 F69 => ?_)
  refine ao_R F69 Cv0 (F68.cl.n) (fun h140 F70 => ?_)
  refine ao_it ?_ ao_no
  refine ao_nw F70 (fun h142 F71 => ?_)
  refine ao_R F71 Cv0 (F70.cl.n) (fun h144 F72 => ?_)
  refine ao_it ?_ ao_no
  refine ao_nw F72 (fun h146 F73 => ?_)
  refine ao_R F73 Cv0 (F72.cl.n) (fun h148 F74 => ?_)
  refine ao_it ?_ ao_no
  refine ao_nw F74 (fun h150 F75 => ?_)
  refine ao_R F75 Cv0 (F74.cl.n) (fun h152 F76 => ?_)
  refine ao_it ?_ ao_no
  refine ao_nw F76 (fun h154 F77 => ?_)
  refine ao_R F77 Cv0 (F76.cl.n) (fun h156 F78 => ?_)
  refine ao_it ?_ ao_no
  refine ao_nw F78 (fun h158 F79 => ?_)
  refine ao_R F79 Cv0 (F78.cl.n) (fun h160 F80 => ?_)
  refine ao_it ?_ ao_no
  refine ao_nw F80 (fun h162 F81 => ?_)
  refine ao_R F81 Cv0 (F80.cl.n) (fun h164 F82 => ?_)
  refine ao_it ?_ ao_no
  refine ao_nw F82 (fun h166 F83 => ?_)
  refine ao_R F83 Cv0 (F82.cl.n) (fun h168 F84 => ?_)
  refine ao_it ?_ ao_no
  refine ao_nw F84 (fun h170 F85 => ?_)
  refine ao_R F85 Cv0 (F84.cl.n) (fun h172 F86 => ?_)
  refine ao_it ?_ ao_no
  refine ao_nw F86 (fun h174 F87 => ?_)
  refine ao_R F87 Cv0 (F86.cl.n) (fun h176 F88 => ?_)
  refine ao_it ?_ ao_no
  refine ao_nw F88 (fun h178 F89 => ?_)
  refine ao_R F89 Cv0 (F88.cl.n) (fun h180 F90 => ?_)
  refine ao_it ?_ ao_no
  refine ao_nw F90 (fun h182 F91 => ?_)
  refine ao_R F91 Cv0 (F90.cl.n) (fun h184 F92 => ?_)
  refine ao_it ?_ ao_no
  refine ao_nw F92 (fun h186 F93 => ?_)
  refine ao_R F93 Cv0 (F92.cl.n) (fun h188 F94 => ?_)
  refine ao_it ?_ ao_no
  refine ao_nw F94 (fun h190 F95 => ?_)
  refine ao_R F95 Cv0 (F94.cl.n) (fun h192 F96 => ?_)
  refine ao_it ?_ ao_no
  refine ao_nw F96 (fun h194 F97 => ?_)
  refine ao_R F97 Cv0 (F96.cl.n) (fun h196 F98 => ?_)
  refine ao_it ?_ ao_no
  refine ao_nw F98 (fun h198 F99 => ?_)
  refine ao_R F99 Cv0 (F98.cl.n) (fun h200 F100 => ?_)
  refine ao_it ?_ ao_no
  refine ao_nw F100 (fun h202 F101 => ?_)
  refine ao_R F101 Cv0 (F100.cl.n) (fun h204 F102 => ?_)
  exact ao_jV F102 (av_mStreams_init_b435_lp FU (F102.cl) Cv0)
theorem av_mBook_init_b237 {C : Nat → Prop} {k237 : Nat → Int → Hp → Option (Hp)} (hk237 : ∀ (v0 : Nat) (v1 : Int) (h : Hp), Cl C h → C v0 → Ao (qV C h) (k237 v0 v1 h)) {v0 : Nat} {v1 : Int} {h : Hp} (c : Cl C h) (Cv0 : C v0) : Ao (qV C h) (f_mBook_init_b237 k237 v0 v1 h) := by
  unfold f_mBook_init_b237
  have F0 := Av.rf c
  refine ao_it ?_ ?_
  · exact ao_so F0
  · refine ao_it ao_no ?_
    refine ao_it ?_ ao_no
    refine ao_I F0 (F0.cl.r Cv0) (fun h106 F1 => ?_)
    refine ao_it ao_no ?_
    refine ao_it ?_ ao_no
    refine ao_I F1 (F1.cl.r Cv0) (fun h109 F2 => ?_)
    exact ao_jV F2 (hk237 _ _ _ (F2.cl) Cv0)
theorem av_mBook_init_b237_lp {C : Nat → Prop} (n : Nat) : ∀ {v0 : Nat} {v1 : Int} {h : Hp}, Cl C h → C v0 → Ao (qV C h) (f_mBook_init_b237_lp n v0 v1 h) := by
  induction n with
  | zero => intros; exact ao_no
  | succ n ih => intro v0 v1 h c Cv0; exact av_mBook_init_b237 (fun _ _ h => ih) c Cv0
theorem av_mBook_init {C : Nat → Prop} {v0 : Nat} {h : Hp} (c : Cl C h) (Cv0 : C v0) : Ao (qV C h) (f_mBook_init v0 h) := by
  unfold f_mBook_init
  have F0 := Av.rf c
  refine ao_it ?_ ao_no
  refine ao_nw F0 (fun h2 F1 => ?_)
  refine ao_R F1 Cv0 (F0.cl.n) (fun h4 F2 => ?_)
  refine ao_it ?_ ao_no
  refine ao_nw F2 (fun h6 F3 => ?_)
  refine ao_R F3 Cv0 (F2.cl.n) (fun h8 F4 => ?_)
  refine ao_it ?_ ao_no
  refine ao_nw F4 (fun h10 F5 => ?_)
  refine ao_R F5 Cv0 (F4.cl.n) (fun h12 F6 => ?_)
  refine ao_it ?_ ao_no
  refine ao_nw F6 (fun h14 F7 => ?_)
  refine ao_R F7 Cv0 (F6.cl.n) (fun h16 F8 => ?_)
  refine ao_it ?_ ao_no
  refine ao_nw F8 (fun h18 F9 => ?_)
  refine ao_R F9 Cv0 (F8.cl.n) (fun h20 F10 => ?_)
  refine ao_it ?_ ao_no
  refine ao_nw F10 (fun h22 F11 => ?_)
  refine ao_R F11 Cv0 (F10.cl.n) (fun h24 F12 => ?_)
  refine ao_it ?_ ao_no
  refine ao_nw F12 (fun h26 F13 => ?_)
  refine ao_R F13 Cv0 (F12.cl.n) (fun h28 F14 => ?_)
  refine ao_it ?_ ao_no
  refine ao_nw F14 (fun h30 F15 => ?_)
  refine ao_R F15 Cv0 (F14.cl.n) (fun h32 F16 => ?_)
  refine ao_it ?_ ao_no
  refine ao_nw F16 (fun h34 F17 => ?_)
  refine ao_R F17 Cv0 (F16.cl.n) (fun h36 F18 => ?_)
  refine ao_it ?_ ao_no
  refine ao_nw F18 (fun h38 F19 => ?_)
  refine ao_R F19 Cv0 (F18.cl.n) (fun h40 F20 => ?_)
  refine ao_it ?_ ao_no
  refine ao_nw F20 (fun h42 F21 => ?_)
  refine ao_R F21 Cv0 (F20.cl.n) (fun h44 F22 => ?_)
  refine ao_it ?_ ao_no
  refine ao_nw F22 (fun h46 F23 => ?_)
  refine ao_R F23 Cv0 (F22.cl.n) (fun h48 F24 => ?_)
  refine ao_it ?_ ao_no
  refine ao_nw F24 (fun h50 F25 => ?_)
  refine ao_R F25 Cv0 (F24.cl.n) (fun h52 F26 => ?_)
  refine ao_it ?_ ao_no
  refine ao_nw F26 (fun h54 F27 => ?_)
  refine ao_R F27 Cv0 (F26.cl.n) (fun h56 F28 => ?_)
  refine ao_I F28 Cv0 (fun h57 F29 => ?_)
  refine ao_I F29 Cv0 (fun h58 F30 => ?_)
  refine ao_I F30 Cv0 (fun h59 F31 => ?_)
  refine ao_I F31 Cv0 (fun h60 F32 => ?_)
  refine ao_I F32 Cv0 (fun h61 F33 => ?_)
  refine ao_I F33 Cv0 (fun h62 F34 => ?_)
  refine ao_I F34 Cv0 (fun h63 F35 => ?_)
  refine ao_it ?_ ao_no
  refine ao_nw F35 (fun h65 F36 => ?_)
  refine ao_R F36 Cv0 (F35.cl.n) (fun h67 F37 => ?_)
  refine ao_it ?_ ao_no
  refine ao_nw F37 (fun h69 F38 => ?_)
  refine ao_R F38 Cv0 (F37.cl.n) (fun h71 F39 => ?_)
  refine ao_it ?_ ao_no
  refine ao_nw F39 (fun h73 F40 => ?_)
  refine ao_R F40 Cv0 (F39.cl.n) (fun h75 F41 => ?_)
  refine ao_it ?_ ao_no
  refine ao_nw F41 (fun h77 F42 => ?_)
  refine ao_R F42 Cv0 (F41.cl.n) (fun h79 F43 => ?_)
  refine ao_it ?_ ao_no
  refine ao_nw F43 (fun h81 F44 => ?_)
  refine ao_R F44 Cv0 (F43.cl.n) (fun h83 F45 => ?_)
  refine ao_it ?_ ao_no
  refine ao_nw F45 (fun h85 F46 => ?_)
  refine ao_R F46 Cv0 (F45.cl.n) (fun h87 F47 => ?_)
  refine ao_it ?_ ao_no
  refine ao_nw F47 (fun h89 F48 => ?_)
  refine ao_R F48 Cv0 (F47.cl.n) (fun h91 F49 => ?_)
  refine ao_it ?_ ao_no
  refine ao_nw F49 (fun h93 F50 => ?_)
  refine ao_R F50 Cv0 (F49.cl.n) (fun h95 F51 => ?_)
  refine ao_it ?_ ao_no
  refine ao_nw F51 (fun h97 F52 => ?_)
  refine ao_R F52 Cv0 (F51.cl.n) (fun h99 F53 => ?_)
  refine ao_it ?_ ao_no
  refine ao_nw F53 (fun h101 F54 => ?_)
  refine ao_R F54 Cv0 (F53.cl.n) (fun h103 F55 => ?_)
  exact ao_jV F55 (av_mBook_init_b237_lp FU (F55.cl) Cv0)
theorem av_mWire_init {C : Nat → Prop} {v0 : Nat} {h : Hp} (c : Cl C h) (Cv0 : C v0) : Ao (qV C h) (f_mWire_init v0 h) := by
  unfold f_mWire_init
  have F0 := Av.rf c
  refine ao_it ?_ ao_no
  refine ao_nw F0 (fun h2 F1 => ?_)
  refine ao_R F1 Cv0 (F0.cl.n) (fun h4 F2 => ?_)
  exact ao_so F2
theorem av_mCargo_init {C : Nat → Prop} {v0 : Nat} {h : Hp} (c : Cl C h) (Cv0 : C v0) : Ao (qV C h) (f_mCargo_init v0 h) := by
  unfold f_mCargo_init
  have F0 := Av.rf c
  refine ao_it ?_ ao_no
  refine ao_nw F0 (fun h2 F1 => ?_)
  refine ao_R F1 Cv0 (F0.cl.n) (fun h4 F2 => ?_)
  refine ao_it ?_ ao_no
  refine ao_nw F2 (fun h6 F3 => ?_)
  refine ao_R F3 Cv0 (F2.cl.n) (fun h8 F4 => ?_)
  refine ao_it ?_ ao_no
  refine ao_nw F4 (fun h10 F5 => ?_)
  refine ao_R F5 Cv0 (F4.cl.n) (fun h12 F6 => ?_)
  refine ao_it ?_ ao_no
  refine ao_nw F6 (fun h14 F7 => ?_)
  refine ao_R F7 Cv0 (F6.cl.n) (fun h16 F8 => ?_)
  refine ao_it ?_ ao_no
  refine ao_nw F8 (fun h18 F9 => ?_)
  refine ao_R F9 Cv0 (F8.cl.n) (fun h20 F10 => ?_)
  exact ao_so F10
theorem av_mDraft_init {C : Nat → Prop} {v0 : Nat} {h : Hp} (c : Cl C h) (Cv0 : C v0) : Ao (qV C h) (f_mDraft_init v0 h) := by
  unfold f_mDraft_init
  have F0 := Av.rf c
  refine ao_it ?_ ao_no
  refine ao_nw F0 (fun h2 F1 => ?_)
  refine ao_R F1 Cv0 (F0.cl.n) (fun h4 F2 => ?_)
  exact ao_so F2
theorem av_mGreet_init {C : Nat → Prop} {v0 : Nat} {v1 : Int} {v2 : Nat} {h : Hp} (c : Cl C h) (Cv0 : C v0) (Cv2 : C v2) : Ao (qV C h) (f_mGreet_init v0 v1 v2 h) := by
  unfold f_mGreet_init
  have F0 := Av.rf c
  refine ao_it ?_ ao_no
  refine ao_nw F0 (fun h2 F1 => ?_)
  refine ao_R F1 Cv0 (F0.cl.n) (fun h4 F2 => ?_)
  refine ao_it ?_ ao_no
  refine ao_nw F2 (fun h6 F3 => ?_)
  refine ao_R F3 Cv0 (F2.cl.n) (fun h8 F4 => ?_)
  refine ao_it ?_ ao_no
  refine ao_nw F4 (fun h10 F5 => ?_)
  refine ao_R F5 Cv0 (F4.cl.n) (fun h12 F6 => ?_)
  refine ao_it ?_ ao_no
  refine ao_nw F6 (fun h14 F7 => ?_)
  refine ao_R F7 Cv0 (F6.cl.n) (fun h16 F8 => ?_)
  refine ao_it ?_ ao_no
  refine ao_nw F8 (fun h18 F9 => ?_)
  refine ao_R F9 Cv0 (F8.cl.n) (fun h20 F10 => ?_)
  refine ao_it ?_ ao_no
  refine ao_nw F10 (fun h22 F11 => ?_)
  refine ao_R F11 Cv0 (F10.cl.n) (fun h24 F12 => ?_)
  refine ao_it ?_ ao_no
  refine ao_nw F12 (fun h26 F13 => ?_)
  refine ao_R F13 Cv0 (F12.cl.n) (fun h28 F14 => ?_)
  refine ao_it ?_ ao_no
  refine ao_nw F14 (fun h30 F15 => ?_)
  refine ao_R F15 Cv0 (F14.cl.n) (fun h32 F16 => ?_)
  refine ao_I F16 Cv0 (fun h33 F17 => ?_)
  refine ao_it ?_ ao_no
  refine ao_nw F17 (fun h35 F18 => ?_)
  refine ao_R F18 Cv0 (F17.cl.n) (fun h37 F19 => ?_)
  refine ao_it ?_ ao_no
  refine ao_nw F19 (fun h39 F20 => ?_)
  refine ao_R F20 Cv0 (F19.cl.n) (fun h41 F21 => ?_)
  refine ao_I F21 Cv0 (fun h42 F22 => ?_)
  refine ao_it ?_ ao_no
  refine ao_nw F22 (fun h44 F23 => ?_)
  refine ao_R F23 Cv0 (F22.cl.n) (fun h46 F24 => ?_)
  refine ao_it ?_ ao_no
  refine ao_nw F24 (fun h48 F25 => ?_)
  refine ao_R F25 Cv0 (F24.cl.n) (fun h50 F26 => ?_)
  refine ao_it ?_ ao_no
  refine ao_nw F26 (fun h52 F27 => ?_)
  refine ao_R F27 Cv0 (F26.cl.n) (fun h54 F28 => ?_)
  refine ao_it ?_ ao_no
  refine ao_nw F28 (fun h56 F29 => ?_)
  refine ao_R F29 Cv0 (F28.cl.n) (fun h58 F30 => ?_)
  refine ao_I F30 Cv0 (fun h59 F31 => ?_)
  refine ao_R F31 Cv0 Cv2 (fun h60 F32 => ?_)
  exact ao_so F32
theorem av_mSide_init {C : Nat → Prop} {v0 : Nat} {v1 : Int} {v2 : Nat} {v3 : Nat} {h : Hp} (c : Cl C h) (Cv0 : C v0) (Cv2 : C v2) (Cv3 : C v3) : Ao (qV C h) (f_mSide_init v0 v1 v2 v3 h) := by
  unfold f_mSide_init
  have F0 := Av.rf c
  refine ao_it ?_ ao_no
  refine ao_nw F0 (fun h2 F1 => ?_)
  refine ao_b1 F1 (av_mBook_init (F1.cl) (F0.cl.n)) (fun h4 F2 => ?_)
  refine ao_R F2 Cv0 (F0.cl.n) (fun h6 F3 => ?_)
  refine ao_it ?_ ao_no
  refine ao_nw F3 (fun h8 F4 => ?_)
  refine ao_R F4 Cv0 (F3.cl.n) (fun h10 F5 => ?_)
  refine ao_it ?_ ao_no
  refine ao_nw F5 (fun h12 F6 => ?_)
  refine ao_R F6 Cv0 (F5.cl.n) (fun h14 F7 => ?_)
  refine ao_it ?_ ao_no
  refine ao_nw F7 (fun h16 F8 => ?_)
  refine ao_R F8 Cv0 (F7.cl.n) (fun h18 F9 => ?_)
  refine ao_it ?_ ao_no
  refine ao_nw F9 (fun h20 F10 => ?_)
  refine ao_R F10 Cv0 (F9.cl.n) (fun h22 F11 => ?_)
  refine ao_it ?_ ao_no
  refine ao_nw F11 (fun h24 F12 => ?_)
  refine ao_R F12 Cv0 (F11.cl.n) (fun h26 F13 => ?_)
  refine ao_it ?_ ao_no
  refine ao_nw F13 (fun h28 F14 => ?_)
  refine ao_R F14 Cv0 (F13.cl.n) (fun h30 F15 => ?_)
  refine ao_it ?_ ao_no
  refine ao_nw F15 (fun h32 F16 => ?_)
  refine ao_b1 F16 (av_mWire_init (F16.cl) (F15.cl.n)) (fun h34 F17 => ?_)
  refine ao_R F17 Cv0 (F15.cl.n) (fun h36 F18 => ?_)
  refine ao_it ?_ ao_no
  refine ao_nw F18 (fun h38 F19 => ?_)
  refine ao_R F19 Cv0 (F18.cl.n) (fun h40 F20 => ?_)
  refine ao_it ?_ ao_no
  refine ao_nw F20 (fun h42 F21 => ?_)
  refine ao_R F21 Cv0 (F20.cl.n) (fun h44 F22 => ?_)
  refine ao_it ?_ ao_no
  refine ao_nw F22 (fun h46 F23 => ?_)
  refine ao_R F23 Cv0 (F22.cl.n) (fun h48 F24 => ?_)
  refine ao_it ?_ ao_no
  refine ao_nw F24 (fun h50 F25 => ?_)
  refine ao_R F25 Cv0 (F24.cl.n) (fun h52 F26 => ?_)
  refine ao_it ?_ ao_no
  refine ao_nw F26 (fun h54 F27 => ?_)
  refine ao_R F27 Cv0 (F26.cl.n) (fun h56 F28 => ?_)
  refine ao_it ?_ ao_no
  refine ao_nw F28 (fun h58 F29 => ?_)
  refine ao_R F29 Cv0 (F28.cl.n) (fun h60 F30 => ?_)
  refine ao_it ?_ ao_no
  refine ao_nw F30 (fun h62 F31 => ?_)
  refine ao_R F31 Cv0 (F30.cl.n) (fun h64 F32 => ?_)
  refine ao_it ?_ ao_no
  refine ao_nw F32 (fun h66 F33 => ?_)
  refine ao_R F33 Cv0 (F32.cl.n) (fun h68 F34 => ?_)
  refine ao_it ?_ ao_no
  refine ao_nw F34 (fun h70 F35 => ?_)
  refine ao_R F35 Cv0 (F34.cl.n) (fun h72 F36 => ?_)
  refine ao_it ?_ ao_no
  refine ao_nw F36 (fun h74 F37 => ?_)
  refine ao_R F37 Cv0 (F36.cl.n) (fun h76 F38 => ?_)
  refine ao_it ?_ ao_no
  refine ao_nw F38 (fun h78 F39 => ?_)
  refine ao_it ?_ ao_no
  refine ao_nw F39 (fun h81 F40 => ?_)
  refine ao_b1 F40 (av_mCargo_init (F40.cl) (F39.cl.n)) (fun h83 F41 => ?_)
  refine ao_it ?_ ao_no
  refine ao_R F41 (F38.cl.n) (F39.cl.n) (fun h86 F42 => ?_)
  refine ao_it ?_ ao_no
  refine ao_nw F42 (fun h88 F43 => ?_)
  refine ao_b1 F43 (av_mCargo_init (F43.cl) (F42.cl.n)) (fun h90 F44 => ?_)
  refine ao_it ?_ ao_no
  refine ao_R F44 (F38.cl.n) (F42.cl.n) (fun h93 F45 => ?_)
  refine ao_it ?_ ao_no
  refine ao_nw F45 (fun h95 F46 => ?_)
  refine ao_b1 F46 (av_mCargo_init (F46.cl) (F45.cl.n)) (fun h97 F47 => ?_)
  refine ao_it ?_ ao_no
  refine ao_R F47 (F38.cl.n) (F45.cl.n) (fun h100 F48 => ?_)
  refine ao_R F48 Cv0 (F38.cl.n) (fun h101 F49 => ?_)
  refine ao_it ?_ ao_no
  refine ao_nw F49 (fun h103 F50 => ?_)
  refine ao_R F50 Cv0 (F49.cl.n) (fun h105 F51 => ?_)
  refine ao_it ?_ ao_no
  refine ao_nw F51 (fun h107 F52 => ?_)
  refine ao_it ?_ ao_no
  refine ao_nw F52 (fun h110 F53 => ?_)
  refine ao_b1 F53 (av_mDraft_init (F53.cl) (F52.cl.n)) (fun h112 F54 => ?_)
  refine ao_it ?_ ao_no
  refine ao_R F54 (F51.cl.n) (F52.cl.n) (fun h115 F55 => ?_)
  refine ao_it ?_ ao_no
  refine ao_nw F55 (fun h117 F56 => ?_)
  refine ao_b1 F56 (av_mDraft_init (F56.cl) (F55.cl.n)) (fun h119 F57 => ?_)
  refine ao_it ?_ ao_no
  refine ao_R F57 (F51.cl.n) (F55.cl.n) (fun h122 F58 => ?_)
  refine ao_it ?_ ao_no
  refine ao_nw F58 (fun h124 F59 => ?_)
  refine ao_b1 F59 (av_mDraft_init (F59.cl) (F58.cl.n)) (fun h126 F60 => ?_)
  refine ao_it ?_ ao_no
  refine ao_R F60 (F51.cl.n) (F58.cl.n) (fun h129 F61 => ?_)
  refine ao_R F61 Cv0 (F51.cl.n) (fun h130 F62 => ?_)
  refine ao_it ?_ ao_no
  refine ao_nw F62 (fun h132 F63 => ?_)
  refine ao_R F63 Cv0 (F62.cl.n) (fun h134 F64 => ?_)
  refine ao_it ?_ ao_no
  refine ao_nw F64 (fun h136 F65 => ?_)
  refine ao_R F65 Cv0 (F64.cl.n) (fun h138 F66 => ?_)
  refine ao_it ?_ ao_no
  refine ao_nw F66 (fun h140 F67 => ?_)
  refine ao_R F67 Cv0 (F66.cl.n) (fun h142 F68 => ?_)
  refine ao_it ?_ ao_no
  refine ao_nw F68 (fun h144 F69 => ?_)
  refine ao_b1 F69 (av_mDraft_init (F69.cl) (F68.cl.n)) (fun h146 F70 => ?_)
  refine ao_R F70 Cv0 (F68.cl.n) (fun h148 F71 => ?_)
  refine ao_I F71 Cv0 (fun h149 F72 => ?_)
  refine ao_R F72 Cv0 Cv2 (fun h150 F73 => ?_)
  refine ao_R F73 Cv0 Cv3 (fun h151 F74 => ?_)
  refine ao_it ?_ ao_no
  refine ao_nw F74 (fun h153 F75 => ?_)
  refine ao_b1 F75 (av_mGreet_init (F75.cl) (F74.cl.n) Cv2) (fun h155 F76 => ?_)
  refine ao_R F76 Cv0 (F74.cl.n) (fun h157 F77 => ?_)
  exact ao_so F77
theorem av_mStreams_setGrant_b24 {C : Nat → Prop} {v0 : Nat} {v1 : Int} {v2 : Int} {v3 : Int} {h : Hp} (c : Cl C h) (Cv0 : C v0) : Ao (qV C h) (f_mStreams_setGrant_b24 v0 v1 v2 v3 h) := by
  unfold f_mStreams_setGrant_b24
  have F0 := Av.rf c
  refine ao_it ?_ ?_
  · exact ao_so F0
  · refine ao_it ao_no ?_
    refine ao_it ?_ ao_no
    refine ao_I F0 (F0.cl.r Cv0) (fun h9 F1 => ?_)
    exact ao_so F1
theorem av_mStreams_setGrant {C : Nat → Prop} {v0 : Nat} {v1 : Int} {v2 : Int} {v3 : Int} {h : Hp} (c : Cl C h) (Cv0 : C v0) : Ao (qV C h) (f_mStreams_setGrant v0 v1 v2 v3 h) := by
  unfold f_mStreams_setGrant
  have F0 := Av.rf c
  refine ao_it ao_no ?_
  refine ao_it ?_ ao_no
  refine ao_J F0 (F0.cl.r Cv0) (fun h3 F1 => ?_)
  refine ao_it ?_ ?_
  · exact ao_jV F1 (av_mStreams_setGrant_b24 (F1.cl) Cv0)
  · refine ao_it ao_no ?_
    refine ao_it ?_ ao_no
    refine ao_J F1 (F1.cl.r Cv0) (fun h6 F2 => ?_)
    exact ao_jV F2 (av_mStreams_setGrant_b24 (F2.cl) Cv0)
theorem av_mP_set {C : Nat → Prop} {v0 : Nat} {v1 : Int} {v2 : Int} {v3 : Int} {h : Hp} (c : Cl C h) (Cv0 : C v0) : Ao (qV C h) (f_mP_set v0 v1 v2 v3 h) := by
  unfold f_mP_set
  have F0 := Av.rf c
  refine ao_it ao_no ?_
  refine ao_it ?_ ao_no
  refine ao_it ao_no ?_
  refine ao_it ao_no ?_
  refine ao_it ?_ ao_no
  refine ao_J F0 (F0.cl.r (F0.cl.r (F0.cl.r Cv0))) (fun h6 F1 => ?_)
  refine ao_it ?_ ?_
  · exact ao_so F1
  · refine ao_it ao_no ?_
    refine ao_b1 F1 (av_mStreams_setGrant (F1.cl) (F1.cl.r Cv0)) (fun h8 F2 => ?_)
    exact ao_so F2
theorem av_mP_init_b216 {C : Nat → Prop} {k192 : Nat → Int → Hp → Option (Hp)} (hk192 : ∀ (v0 : Nat) (v1 : Int) (h : Hp), Cl C h → C v0 → Ao (qV C h) (k192 v0 v1 h)) {k216 : Nat → Int → Int → Hp → Option (Hp)} (hk216 : ∀ (v0 : Nat) (v1 : Int) (v2 : Int) (h : Hp), Cl C h → C v0 → Ao (qV C h) (k216 v0 v1 v2 h)) {v0 : Nat} {v1 : Int} {v2 : Int} {h : Hp} (c : Cl C h) (Cv0 : C v0) : Ao (qV C h) (f_mP_init_b216 k192 k216 v0 v1 v2 h) := by
  unfold f_mP_init_b216
  have F0 := Av.rf c
  refine ao_it ?_ ?_
  · refine ao_b1 F0 (av_mP_set (F0.cl) Cv0) (fun h93 F1 => ?_)
    refine ao_b1 F1 (av_mP_set (F1.cl) Cv0) (fun h95 F2 => ?_)
    exact ao_jV F2 (hk192 _ _ _ (F2.cl) Cv0)
  · refine ao_b1 F0 (av_mP_set (F0.cl) Cv0) (fun h97 F3 => ?_)
    exact ao_jV F3 (hk216 _ _ _ _ (F3.cl) Cv0)
theorem av_mP_init_b216_lp {C : Nat → Prop} {k192 : Nat → Int → Hp → Option (Hp)} (hk192 : ∀ (v0 : Nat) (v1 : Int) (h : Hp), Cl C h → C v0 → Ao (qV C h) (k192 v0 v1 h)) (n : Nat) : ∀ {v0 : Nat} {v1 : Int} {v2 : Int} {h : Hp}, Cl C h → C v0 → Ao (qV C h) (f_mP_init_b216_lp k192 n v0 v1 v2 h) := by
  induction n with
  | zero => intros; exact ao_no
  | succ n ih => intro v0 v1 v2 h c Cv0; exact av_mP_init_b216 hk192 (fun _ _ _ h => ih) c Cv0
theorem av_mP_init_b192 {C : Nat → Prop} {k192 : Nat → Int → Hp → Option (Hp)} (hk192 : ∀ (v0 : Nat) (v1 : Int) (h : Hp), Cl C h → C v0 → Ao (qV C h) (k192 v0 v1 h)) {v0 : Nat} {v1 : Int} {h : Hp} (c : Cl C h) (Cv0 : C v0) : Ao (qV C h) (f_mP_init_b192 k192 v0 v1 h) := by
  unfold f_mP_init_b192
  have F0 := Av.rf c
  refine ao_it ?_ ?_
  · exact ao_so F0
  · refine ao_b1 F0 (av_mP_set (F0.cl) Cv0) (fun h89 F1 => ?_)
    refine ao_b1 F1 (av_mP_set (F1.cl) Cv0) (fun h91 F2 => ?_)
    exact ao_jV F2 (av_mP_init_b216_lp hk192 FU (F2.cl) Cv0)
theorem av_mP_init_b192_lp {C : Nat → Prop} (n : Nat) : ∀ {v0 : Nat} {v1 : Int} {h : Hp}, Cl C h → C v0 → Ao (qV C h) (f_mP_init_b192_lp n v0 v1 h) := by
  induction n with
  | zero => intros; exact ao_no
  | succ n ih => intro v0 v1 h c Cv0; exact av_mP_init_b192 (fun _ _ h => ih) c Cv0
theorem av_mP_init {C : Nat → Prop} {v0 : Nat} {h : Hp} (c : Cl C h) (Cv0 : C v0) : Ao (qV C h) (f_mP_init v0 h) := by
  unfold f_mP_init
  have F0 := Av.rf c
  refine ao_it ?_ ao_no
  refine ao_nw F0 (fun h2 F1 => ?_)
  refine ao_R F1 Cv0 (F0.cl.n) (fun h4 F2 => ?_)
  refine ao_it ?_ ao_no
  refine ao_nw F2 (fun h6 F3 => ?_)
  refine ao_R F3 Cv0 (F2.cl.n) (fun h8 F4 => ?_)
  refine ao_it ?_ ao_no
  refine ao_nw F4 (fun h10 F5 => ?_)
  refine ao_b1 F5 (av_mSeals_init (F5.cl) (F4.cl.n)) (fun h12 F6 => ?_)
  refine ao_R F6 Cv0 (F4.cl.n) (fun h14 F7 => ?_)
  refine ao_it ?_ ao_no
  refine ao_nw F7 (fun h16 F8 => ?_)
  refine ao_b1 F8 (av_mStreams_init (F8.cl) (F7.cl.n)) (fun h18 F9 => ?_)
  refine ao_R F9 Cv0 (F7.cl.n) (fun h20 F10 => ?_)
  refine ao_it ?_ ao_no
  refine ao_nw F10 (fun h22 F11 => ?_)
  refine ao_it ?_ ao_no
  refine ao_nw F11 (fun h25 F12 => ?_)
  refine ao_b1 F12 (av_mSide_init (F12.cl) (F11.cl.n) (F12.cl.r Cv0) (F12.cl.r Cv0)) (fun h27 F13 => ?_)
  refine ao_it ?_ ao_no
  refine ao_R F13 (F10.cl.n) (F11.cl.n) (fun h30 F14 => ?_)
  refine ao_it ?_ ao_no
  refine ao_nw F14 (fun h32 F15 => ?_)
  refine ao_b1 F15 (av_mSide_init (F15.cl) (F14.cl.n) (F15.cl.r Cv0) (F15.cl.r Cv0)) (fun h34 F16 => ?_)
  refine ao_it ?_ ao_no
  refine ao_R F16 (F10.cl.n) (F14.cl.n) (fun h37 F17 => ?_)
  refine ao_R F17 Cv0 (F10.cl.n) (fun h38 F18 => ?_)
  refine ao_it ?_ ao_no
  refine ao_nw F18 (fun h40 F19 => ?_)
  refine ao_R F19 Cv0 (F18.cl.n) (fun h42 F20 => ?_)
  refine ao_it ?_ ao_no
  refine ao_nw F20 (fun h44 F21 => ?_)
  refine ao_R F21 Cv0 (F20.cl.n) (fun h46 F22 => ?_)
  refine ao_it ?_ ao_no
  refine ao_nw F22 (fun h48 F23 => ?_)
  refine ao_R F23 Cv0 (F22.cl.n) (fun h50 F24 => ?_)
  refine ao_it ?_ ao_no
  refine ao_nw F24 (fun h52 F25 => ?_)
  refine ao_R F25 Cv0 (F24.cl.n) (fun h54 F26 => ?_)
  refine ao_it ?_ ao_no
  refine ao_nw F26 (fun h56 F27 => ?_)
  refine ao_R F27 Cv0 (F26.cl.n) (fun h58 F28 => ?_)
  refine ao_it ?_ ao_no
  refine ao_nw F28 (fun h60 F29 => ?_)
  refine ao_R F29 Cv0 (F28.cl.n) (fun h62 F30 => ?_)
  refine ao_it ?_ ao_no
  refine ao_nw F30 (fun h64 F31 => ?_)
  refine ao_R F31 Cv0 (F30.cl.n) (fun h66 F32 => ?_)
  refine ao_it ?_ ao_no
  refine ao_nw F32 (fun h68 F33 => ?_)
  refine ao_R F33 Cv0 (F32.cl.n) (fun h70 F34 => ?_)
  refine ao_it ?_ ao_no
  refine ao_nw F34 (fun h72 F35 => ?_)
  refine ao_R F35 Cv0 (F34.cl.n) (fun h74 F36 => ?_)
  refine ao_it ?_ ao_no
  refine ao_nw F36 (fun h76 F37 => ?_)
  refine ao_R F37 Cv0 (F36.cl.n) (fun h78 F38 => ?_)
  refine ao_it ?_ ao_no
  refine ao_nw F38 (fun h80 F39 => ?_)
  refine ao_R F39 Cv0 (F38.cl.n) (fun h82 F40 => ?_)
  refine ao_it ?_ ao_no
  refine ao_nw F40 (fun h84 F41 => ?_)
  refine ao_b1 F41 (av_mWire_init (F41.cl) (F40.cl.n)) (fun h86 F42 => ?_)
  refine ao_R F42 Cv0 (F40.cl.n) (fun h88 F43 => ?_)
  exact ao_jV F43 (av_mP_init_b192_lp FU (F43.cl) Cv0)
theorem av_mP_thrown {C : Nat → Prop} {v0 : Nat} {h : Hp} (c : Cl C h) : Ao (qI C h) (f_mP_thrown v0 h) := by
  unfold f_mP_thrown
  have F0 := Av.rf c
  exact ao_so F0
theorem av_mP_fails_b10 {C : Nat → Prop} {v0 : Nat} {v1 : Int} {s0 : Nat} {s1 : Int} {h : Hp} (c : Cl C h) (Cs0 : C s0) : Ao (qI C h) (f_mP_fails_b10 v0 v1 s0 s1 h) := by
  unfold f_mP_fails_b10
  have F0 := Av.rf c
  refine ao_it ao_no ?_
  refine ao_I F0 Cs0 (fun h2 F1 => ?_)
  refine ao_it ?_ ao_no
  exact ao_so F1
theorem av_mP_fails {C : Nat → Prop} {v0 : Nat} {v1 : Int} {v2 : Int} {h : Hp} (c : Cl C h) (Cv0 : C v0) : Ao (qI C h) (f_mP_fails v0 v1 v2 h) := by
  unfold f_mP_fails
  have F0 := Av.rf c
  refine ao_it ?_ ?_
  · exact ao_jI F0 (av_mP_fails_b10 (F0.cl) Cv0)
  · exact ao_jI F0 (av_mP_fails_b10 (F0.cl) Cv0)
theorem av_mP_no_b9 {C : Nat → Prop} {h : Hp} (c : Cl C h) : Ao (qI C h) (f_mP_no_b9  h) := by
  unfold f_mP_no_b9
  have F0 := Av.rf c
  exact ao_so F0
theorem av_mP_no {C : Nat → Prop} {v0 : Int} {h : Hp} (c : Cl C h) : Ao (qI C h) (f_mP_no v0 h) := by
  unfold f_mP_no
  have F0 := Av.rf c
  refine ao_it ?_ ?_
  · exact ao_jI F0 (av_mP_no_b9 (F0.cl))
  · refine ao_it ?_ ?_
    · exact ao_so F0
    · exact ao_jI F0 (av_mP_no_b9 (F0.cl))
theorem av_mP_feed_b83 {C : Nat → Prop} {k30 : Nat → Int → Int → Int → Int → Int → Int → Hp → Option (Int × Hp)} (hk30 : ∀ (v0 : Nat) (v1 : Int) (v2 : Int) (v3 : Int) (v4 : Int) (v5 : Int) (v6 : Int) (h : Hp), Cl C h → C v0 → Ao (qI C h) (k30 v0 v1 v2 v3 v4 v5 v6 h)) {v0 : Nat} {v1 : Int} {v2 : Int} {v3 : Int} {v4 : Int} {v5 : Int} {v6 : Int} {s0 : Int} {h : Hp} (c : Cl C h) (Cv0 : C v0) : Ao (qI C h) (f_mP_feed_b83 k30 v0 v1 v2 v3 v4 v5 v6 s0 h) := by
  unfold f_mP_feed_b83
  have F0 := Av.rf c
  refine ao_it ao_no ?_
  refine ao_it ?_ ao_no
  refine ao_I F0 (F0.cl.r Cv0) (fun h7 F1 => ?_)
  refine ao_I F1 Cv0 (fun h8 F2 => ?_)
  exact ao_jI F2 (hk30 _ _ _ _ _ _ _ _ (F2.cl) Cv0)
theorem av_mP_feed_b30 {C : Nat → Prop} {k30 : Nat → Int → Int → Int → Int → Int → Int → Hp → Option (Int × Hp)} (hk30 : ∀ (v0 : Nat) (v1 : Int) (v2 : Int) (v3 : Int) (v4 : Int) (v5 : Int) (v6 : Int) (h : Hp), Cl C h → C v0 → Ao (qI C h) (k30 v0 v1 v2 v3 v4 v5 v6 h)) {v0 : Nat} {v1 : Int} {v2 : Int} {v3 : Int} {v4 : Int} {v5 : Int} {v6 : Int} {h : Hp} (c : Cl C h) (Cv0 : C v0) : Ao (qI C h) (f_mP_feed_b30 k30 v0 v1 v2 v3 v4 v5 v6 h) := by
  unfold f_mP_feed_b30
  have F0 := Av.rf c
  refine ao_it ?_ ?_
  · exact ao_so F0
  · refine ao_it ?_ ?_
    · refine ao_it ?_ ?_
      · refine ao_it ?_ ?_
        · refine ao_it ?_ ?_
          · exact ao_jI F0 (av_mP_feed_b83 hk30 (F0.cl) Cv0)
          · exact ao_jI F0 (av_mP_feed_b83 hk30 (F0.cl) Cv0)
        · exact ao_jI F0 (av_mP_feed_b83 hk30 (F0.cl) Cv0)
      · exact ao_jI F0 (av_mP_feed_b83 hk30 (F0.cl) Cv0)
    · exact ao_jI F0 (av_mP_feed_b83 hk30 (F0.cl) Cv0)
theorem av_mP_feed_b30_lp {C : Nat → Prop} (n : Nat) : ∀ {v0 : Nat} {v1 : Int} {v2 : Int} {v3 : Int} {v4 : Int} {v5 : Int} {v6 : Int} {h : Hp}, Cl C h → C v0 → Ao (qI C h) (f_mP_feed_b30_lp n v0 v1 v2 v3 v4 v5 v6 h) := by
  induction n with
  | zero => intros; exact ao_no
  | succ n ih => intro v0 v1 v2 v3 v4 v5 v6 h c Cv0; exact av_mP_feed_b30 (fun _ _ _ _ _ _ _ h => ih) c Cv0
theorem av_mP_feed_b18 {C : Nat → Prop} {v0 : Nat} {v1 : Int} {v2 : Int} {v3 : Int} {v4 : Int} {v5 : Int} {s0 : Nat} {s1 : Int} {h : Hp} (c : Cl C h) (Cv0 : C v0) (Cs0 : C s0) : Ao (qI C h) (f_mP_feed_b18 v0 v1 v2 v3 v4 v5 s0 s1 h) := by
  unfold f_mP_feed_b18
  have F0 := Av.rf c
  refine ao_it ao_no ?_
  refine ao_b2 F0 (av_mP_fails (F0.cl) Cs0) (fun r4 h2 F1 => ?_)
  refine ao_it ?_ ?_
  · exact ao_jI F1 (av_mP_feed_b30_lp FU (F1.cl) Cv0)
  · exact ao_so F1
theorem av_mP_feed {C : Nat → Prop} {v0 : Nat} {v1 : Int} {v2 : Int} {v3 : Int} {v4 : Int} {v5 : Int} {h : Hp} (c : Cl C h) (Cv0 : C v0) : Ao (qI C h) (f_mP_feed v0 v1 v2 v3 v4 v5 h) := by
  unfold f_mP_feed
  have F0 := Av.rf c
  refine ao_it ?_ ?_
  · exact ao_jI F0 (av_mP_feed_b18 (F0.cl) Cv0 Cv0)
  · exact ao_jI F0 (av_mP_feed_b18 (F0.cl) Cv0 Cv0)
theorem av_mP_end_b18 {C : Nat → Prop} {v0 : Nat} {v1 : Int} {s0 : Nat} {s1 : Int} {h : Hp} (c : Cl C h) (Cv0 : C v0) (Cs0 : C s0) : Ao (qI C h) (f_mP_end_b18 v0 v1 s0 s1 h) := by
  unfold f_mP_end_b18
  have F0 := Av.rf c
  refine ao_it ao_no ?_
  refine ao_b2 F0 (av_mP_fails (F0.cl) Cs0) (fun r4 h2 F1 => ?_)
  refine ao_it ?_ ?_
  · refine ao_v (fun y5 => ?_)
    refine ao_I F1 Cv0 (fun h6 F3 => ?_)
    exact ao_so F3
  · exact ao_so F1
theorem av_mP_end_b13 {C : Nat → Prop} {v0 : Nat} {v1 : Int} {s0 : Nat} {h : Hp} (c : Cl C h) (Cv0 : C v0) (Cs0 : C s0) : Ao (qI C h) (f_mP_end_b13 v0 v1 s0 h) := by
  unfold f_mP_end_b13
  have F0 := Av.rf c
  exact ao_jI F0 (av_mP_end_b18 (F0.cl) Cv0 Cs0)
theorem av_mP_end {C : Nat → Prop} {v0 : Nat} {v1 : Int} {h : Hp} (c : Cl C h) (Cv0 : C v0) : Ao (qI C h) (f_mP_end v0 v1 h) := by
  unfold f_mP_end
  have F0 := Av.rf c
  refine ao_it ?_ ?_
  · exact ao_jI F0 (av_mP_end_b13 (F0.cl) Cv0 Cv0)
  · refine ao_it ?_ ?_
    · exact ao_jI F0 (av_mP_end_b18 (F0.cl) Cv0 Cv0)
    · exact ao_jI F0 (av_mP_end_b13 (F0.cl) Cv0 Cv0)
theorem av_mP_key_b57 {C : Nat → Prop} {k57 : Nat → Int → Int → Hp → Option (Hp)} (hk57 : ∀ (v0 : Nat) (v1 : Int) (v2 : Int) (h : Hp), Cl C h → C v0 → Ao (qV C h) (k57 v0 v1 v2 h)) {v0 : Nat} {v1 : Int} {v2 : Int} {h : Hp} (c : Cl C h) (Cv0 : C v0) : Ao (qV C h) (f_mP_key_b57 k57 v0 v1 v2 h) := by
  unfold f_mP_key_b57
  have F0 := Av.rf c
  refine ao_it ?_ ?_
  · refine ao_it ao_no ?_
    refine ao_it ?_ ao_no
    refine ao_it ao_no ?_
    refine ao_I F0 (F0.cl.r (F0.cl.r Cv0)) (fun h18 F1 => ?_)
    refine ao_I F1 Cv0 (fun h19 F2 => ?_)
    exact ao_so F2
  · refine ao_it ao_no ?_
    refine ao_it ?_ ao_no
    refine ao_it ao_no ?_
    refine ao_it ao_no ?_
    refine ao_it ao_no ?_
    refine ao_it ?_ ao_no
    refine ao_it ao_no ?_
    refine ao_it ?_ ao_no
    refine ao_I F0 (F0.cl.r (F0.cl.r (F0.cl.r (F0.cl.r Cv0)))) (fun h28 F3 => ?_)
    exact ao_jV F3 (hk57 _ _ _ _ (F3.cl) Cv0)
theorem av_mP_key_b57_lp {C : Nat → Prop} (n : Nat) : ∀ {v0 : Nat} {v1 : Int} {v2 : Int} {h : Hp}, Cl C h → C v0 → Ao (qV C h) (f_mP_key_b57_lp n v0 v1 v2 h) := by
  induction n with
  | zero => intros; exact ao_no
  | succ n ih => intro v0 v1 v2 h c Cv0; exact av_mP_key_b57 (fun _ _ _ h => ih) c Cv0
theorem av_mP_key_b47 {C : Nat → Prop} {v0 : Nat} {v1 : Int} {s0 : Nat} {s1 : Int} {h : Hp} (c : Cl C h) (Cv0 : C v0) (Cs0 : C s0) : Ao (qV C h) (f_mP_key_b47 v0 v1 s0 s1 h) := by
  unfold f_mP_key_b47
  have F0 := Av.rf c
  refine ao_it ao_no ?_
  refine ao_b2 F0 (av_mP_fails (F0.cl) Cs0) (fun r14 h12 F1 => ?_)
  refine ao_it ?_ ?_
  · exact ao_jV F1 (av_mP_key_b57_lp FU (F1.cl) Cv0)
  · exact ao_so F1
theorem av_mP_key_b22 {C : Nat → Prop} {v0 : Nat} {v1 : Int} {s0 : Nat} {s1 : Int} {h : Hp} (c : Cl C h) (Cv0 : C v0) (Cs0 : C s0) : Ao (qV C h) (f_mP_key_b22 v0 v1 s0 s1 h) := by
  unfold f_mP_key_b22
  have F0 := Av.rf c
  refine ao_it ao_no ?_
  refine ao_b2 F0 (av_mP_fails (F0.cl) Cs0) (fun r7 h5 F1 => ?_)
  refine ao_it ?_ ?_
  · exact ao_so F1
  · refine ao_it ao_no ?_
    refine ao_it ?_ ao_no
    refine ao_it ao_no ?_
    refine ao_it ?_ ?_
    · exact ao_jV F1 (av_mP_key_b47 (F1.cl) Cv0 Cv0)
    · exact ao_jV F1 (av_mP_key_b47 (F1.cl) Cv0 Cv0)
theorem av_mP_key_b17 {C : Nat → Prop} {v0 : Nat} {v1 : Int} {s0 : Nat} {h : Hp} (c : Cl C h) (Cv0 : C v0) (Cs0 : C s0) : Ao (qV C h) (f_mP_key_b17 v0 v1 s0 h) := by
  unfold f_mP_key_b17
  have F0 := Av.rf c
  exact ao_jV F0 (av_mP_key_b22 (F0.cl) Cv0 Cs0)
theorem av_mP_key {C : Nat → Prop} {v0 : Nat} {v1 : Int} {h : Hp} (c : Cl C h) (Cv0 : C v0) : Ao (qV C h) (f_mP_key v0 v1 h) := by
  unfold f_mP_key
  have F0 := Av.rf c
  refine ao_b2 F0 (av_mP_no (F0.cl)) (fun r3 h1 F1 => ?_)
  refine ao_it ?_ ?_
  · exact ao_jV F1 (av_mP_key_b17 (F1.cl) Cv0 Cv0)
  · refine ao_it ?_ ?_
    · exact ao_jV F1 (av_mP_key_b22 (F1.cl) Cv0 Cv0)
    · exact ao_jV F1 (av_mP_key_b17 (F1.cl) Cv0 Cv0)
theorem av_mP_random_b57 {C : Nat → Prop} {k57 : Nat → Int → Int → Hp → Option (Hp)} (hk57 : ∀ (v0 : Nat) (v1 : Int) (v2 : Int) (h : Hp), Cl C h → C v0 → Ao (qV C h) (k57 v0 v1 v2 h)) {v0 : Nat} {v1 : Int} {v2 : Int} {h : Hp} (c : Cl C h) (Cv0 : C v0) : Ao (qV C h) (f_mP_random_b57 k57 v0 v1 v2 h) := by
  unfold f_mP_random_b57
  have F0 := Av.rf c
  refine ao_it ?_ ?_
  · refine ao_it ao_no ?_
    refine ao_it ?_ ao_no
    refine ao_it ao_no ?_
    refine ao_I F0 (F0.cl.r (F0.cl.r Cv0)) (fun h18 F1 => ?_)
    refine ao_I F1 Cv0 (fun h19 F2 => ?_)
    exact ao_so F2
  · refine ao_it ao_no ?_
    refine ao_it ?_ ao_no
    refine ao_it ao_no ?_
    refine ao_it ao_no ?_
    refine ao_it ao_no ?_
    refine ao_it ?_ ao_no
    refine ao_it ao_no ?_
    refine ao_it ?_ ao_no
    refine ao_I F0 (F0.cl.r (F0.cl.r (F0.cl.r (F0.cl.r Cv0)))) (fun h28 F3 => ?_)
    exact ao_jV F3 (hk57 _ _ _ _ (F3.cl) Cv0)
theorem av_mP_random_b57_lp {C : Nat → Prop} (n : Nat) : ∀ {v0 : Nat} {v1 : Int} {v2 : Int} {h : Hp}, Cl C h → C v0 → Ao (qV C h) (f_mP_random_b57_lp n v0 v1 v2 h) := by
  induction n with
  | zero => intros; exact ao_no
  | succ n ih => intro v0 v1 v2 h c Cv0; exact av_mP_random_b57 (fun _ _ _ h => ih) c Cv0
theorem av_mP_random_b47 {C : Nat → Prop} {v0 : Nat} {v1 : Int} {s0 : Nat} {s1 : Int} {h : Hp} (c : Cl C h) (Cv0 : C v0) (Cs0 : C s0) : Ao (qV C h) (f_mP_random_b47 v0 v1 s0 s1 h) := by
  unfold f_mP_random_b47
  have F0 := Av.rf c
  refine ao_it ao_no ?_
  refine ao_b2 F0 (av_mP_fails (F0.cl) Cs0) (fun r14 h12 F1 => ?_)
  refine ao_it ?_ ?_
  · exact ao_jV F1 (av_mP_random_b57_lp FU (F1.cl) Cv0)
  · exact ao_so F1
theorem av_mP_random_b22 {C : Nat → Prop} {v0 : Nat} {v1 : Int} {s0 : Nat} {s1 : Int} {h : Hp} (c : Cl C h) (Cv0 : C v0) (Cs0 : C s0) : Ao (qV C h) (f_mP_random_b22 v0 v1 s0 s1 h) := by
  unfold f_mP_random_b22
  have F0 := Av.rf c
  refine ao_it ao_no ?_
  refine ao_b2 F0 (av_mP_fails (F0.cl) Cs0) (fun r7 h5 F1 => ?_)
  refine ao_it ?_ ?_
  · exact ao_so F1
  · refine ao_it ao_no ?_
    refine ao_it ?_ ao_no
    refine ao_it ao_no ?_
    refine ao_it ?_ ?_
    · exact ao_jV F1 (av_mP_random_b47 (F1.cl) Cv0 Cv0)
    · exact ao_jV F1 (av_mP_random_b47 (F1.cl) Cv0 Cv0)
theorem av_mP_random_b17 {C : Nat → Prop} {v0 : Nat} {v1 : Int} {s0 : Nat} {h : Hp} (c : Cl C h) (Cv0 : C v0) (Cs0 : C s0) : Ao (qV C h) (f_mP_random_b17 v0 v1 s0 h) := by
  unfold f_mP_random_b17
  have F0 := Av.rf c
  exact ao_jV F0 (av_mP_random_b22 (F0.cl) Cv0 Cs0)
theorem av_mP_random {C : Nat → Prop} {v0 : Nat} {v1 : Int} {h : Hp} (c : Cl C h) (Cv0 : C v0) : Ao (qV C h) (f_mP_random v0 v1 h) := by
  unfold f_mP_random
  have F0 := Av.rf c
  refine ao_b2 F0 (av_mP_no (F0.cl)) (fun r3 h1 F1 => ?_)
  refine ao_it ?_ ?_
  · exact ao_jV F1 (av_mP_random_b17 (F1.cl) Cv0 Cv0)
  · refine ao_it ?_ ?_
    · exact ao_jV F1 (av_mP_random_b22 (F1.cl) Cv0 Cv0)
    · exact ao_jV F1 (av_mP_random_b17 (F1.cl) Cv0 Cv0)
theorem av_mP_parameter_b97 {C : Nat → Prop} {v0 : Nat} {v1 : Int} {v2 : Int} {v3 : Int} {s0 : Nat} {s1 : Int} {h : Hp} (c : Cl C h) (Cv0 : C v0) (Cs0 : C s0) : Ao (qV C h) (f_mP_parameter_b97 v0 v1 v2 v3 s0 s1 h) := by
  unfold f_mP_parameter_b97
  have F0 := Av.rf c
  refine ao_it ao_no ?_
  refine ao_b2 F0 (av_mP_fails (F0.cl) Cs0) (fun r14 h12 F1 => ?_)
  refine ao_it ?_ ?_
  · refine ao_b1 F1 (av_mP_set (F1.cl) Cv0) (fun h15 F2 => ?_)
    exact ao_so F2
  · exact ao_so F1
theorem av_mP_parameter_b72 {C : Nat → Prop} {v0 : Nat} {v1 : Int} {v2 : Int} {v3 : Int} {s0 : Nat} {s1 : Int} {h : Hp} (c : Cl C h) (Cv0 : C v0) (Cs0 : C s0) : Ao (qV C h) (f_mP_parameter_b72 v0 v1 v2 v3 s0 s1 h) := by
  unfold f_mP_parameter_b72
  have F0 := Av.rf c
  refine ao_it ao_no ?_
  refine ao_b2 F0 (av_mP_fails (F0.cl) Cs0) (fun r7 h5 F1 => ?_)
  refine ao_it ?_ ?_
  · exact ao_so F1
  · refine ao_it ao_no ?_
    refine ao_it ?_ ao_no
    refine ao_it ao_no ?_
    refine ao_it ?_ ?_
    · exact ao_jV F1 (av_mP_parameter_b97 (F1.cl) Cv0 Cv0)
    · exact ao_jV F1 (av_mP_parameter_b97 (F1.cl) Cv0 Cv0)
theorem av_mP_parameter_b67 {C : Nat → Prop} {v0 : Nat} {v1 : Int} {v2 : Int} {v3 : Int} {s0 : Nat} {h : Hp} (c : Cl C h) (Cv0 : C v0) (Cs0 : C s0) : Ao (qV C h) (f_mP_parameter_b67 v0 v1 v2 v3 s0 h) := by
  unfold f_mP_parameter_b67
  have F0 := Av.rf c
  exact ao_jV F0 (av_mP_parameter_b72 (F0.cl) Cv0 Cs0)
theorem av_mP_parameter_b64 {C : Nat → Prop} {v0 : Nat} {v1 : Int} {v2 : Int} {v3 : Int} {s0 : Nat} {s1 : Int} {s2 : Int} {h : Hp} (c : Cl C h) (Cv0 : C v0) (Cs0 : C s0) : Ao (qV C h) (f_mP_parameter_b64 v0 v1 v2 v3 s0 s1 s2 h) := by
  unfold f_mP_parameter_b64
  have F0 := Av.rf c
  refine ao_it ?_ ?_
  · exact ao_jV F0 (av_mP_parameter_b72 (F0.cl) Cv0 Cs0)
  · exact ao_jV F0 (av_mP_parameter_b67 (F0.cl) Cv0 Cs0)
theorem av_mP_parameter_b21 {C : Nat → Prop} {v0 : Nat} {v1 : Int} {v2 : Int} {v3 : Int} {s0 : Int} {h : Hp} (c : Cl C h) (Cv0 : C v0) : Ao (qV C h) (f_mP_parameter_b21 v0 v1 v2 v3 s0 h) := by
  unfold f_mP_parameter_b21
  have F0 := Av.rf c
  refine ao_b2 F0 (av_mP_no (F0.cl)) (fun r3 h1 F1 => ?_)
  refine ao_it ?_ ?_
  · exact ao_jV F1 (av_mP_parameter_b67 (F1.cl) Cv0 Cv0)
  · refine ao_it ?_ ?_
    · exact ao_jV F1 (av_mP_parameter_b67 (F1.cl) Cv0 Cv0)
    · refine ao_it ?_ ?_
      · exact ao_jV F1 (av_mP_parameter_b67 (F1.cl) Cv0 Cv0)
      · refine ao_it ?_ ?_
        · refine ao_it ?_ ?_
          · exact ao_jV F1 (av_mP_parameter_b64 (F1.cl) Cv0 Cv0)
          · exact ao_jV F1 (av_mP_parameter_b64 (F1.cl) Cv0 Cv0)
        · exact ao_jV F1 (av_mP_parameter_b64 (F1.cl) Cv0 Cv0)
theorem av_mP_parameter_b16 {C : Nat → Prop} {v0 : Nat} {v1 : Int} {v2 : Int} {v3 : Int} {h : Hp} (c : Cl C h) (Cv0 : C v0) : Ao (qV C h) (f_mP_parameter_b16 v0 v1 v2 v3 h) := by
  unfold f_mP_parameter_b16
  have F0 := Av.rf c
  exact ao_jV F0 (av_mP_parameter_b21 (F0.cl) Cv0)
theorem av_mP_parameter_b20 {C : Nat → Prop} {v0 : Nat} {v1 : Int} {v2 : Int} {v3 : Int} {h : Hp} (c : Cl C h) (Cv0 : C v0) : Ao (qV C h) (f_mP_parameter_b20 v0 v1 v2 v3 h) := by
  unfold f_mP_parameter_b20
  have F0 := Av.rf c
  exact ao_jV F0 (av_mP_parameter_b21 (F0.cl) Cv0)
theorem av_mP_parameter {C : Nat → Prop} {v0 : Nat} {v1 : Int} {v2 : Int} {v3 : Int} {h : Hp} (c : Cl C h) (Cv0 : C v0) : Ao (qV C h) (f_mP_parameter v0 v1 v2 v3 h) := by
  unfold f_mP_parameter
  have F0 := Av.rf c
  refine ao_it ?_ ?_
  · exact ao_jV F0 (av_mP_parameter_b16 (F0.cl) Cv0)
  · refine ao_it ?_ ?_
    · exact ao_jV F0 (av_mP_parameter_b20 (F0.cl) Cv0)
    · refine ao_it ?_ ?_
      · exact ao_jV F0 (av_mP_parameter_b20 (F0.cl) Cv0)
      · exact ao_jV F0 (av_mP_parameter_b16 (F0.cl) Cv0)
theorem av_mSeals_right {C : Nat → Prop} {v0 : Int} {v2 : Int} {h : Hp} (c : Cl C h) : Ao (qI C h) (f_mSeals_right v0 v2 h) := by
  unfold f_mSeals_right
  have F0 := Av.rf c
  exact ao_so F0
theorem av_mSeals_round {C : Nat → Prop} {v0 : Nat} {v1 : Int} {h : Hp} (c : Cl C h) (Cv0 : C v0) : Ao (qV C h) (f_mSeals_round v0 v1 h) := by
  unfold f_mSeals_round
  have F0 := Av.rf c
  refine ao_v (fun y1 => ?_)
  refine ao_it ao_no ?_
  refine ao_it ?_ ao_no
  refine ao_v (fun y4 => ?_)
  refine ao_it ?_ ao_no
  refine ao_v (fun y6 => ?_)
  refine ao_it ?_ ao_no
  refine ao_v (fun y8 => ?_)
  refine ao_it ?_ ao_no
  refine ao_b2 F0 (av_mSeals_right (F0.cl)) (fun r12 h10 F5 => ?_)
  refine ao_b2 F5 (av_mSeals_right (F5.cl)) (fun r15 h13 F6 => ?_)
  refine ao_b2 F6 (av_mSeals_right (F6.cl)) (fun r18 h16 F7 => ?_)
  refine ao_it ao_no ?_
  refine ao_it ?_ ao_no
  refine ao_it ao_no ?_
  refine ao_it ?_ ao_no
  refine ao_v (fun y23 => ?_)
  refine ao_it ao_no ?_
  refine ao_it ?_ ao_no
  refine ao_v (fun y26 => ?_)
  refine ao_it ?_ ao_no
  refine ao_v (fun y28 => ?_)
  refine ao_it ?_ ao_no
  refine ao_v (fun y30 => ?_)
  refine ao_b2 F7 (av_mSeals_right (F7.cl)) (fun r33 h31 F12 => ?_)
  refine ao_b2 F12 (av_mSeals_right (F12.cl)) (fun r36 h34 F13 => ?_)
  refine ao_b2 F13 (av_mSeals_right (F13.cl)) (fun r39 h37 F14 => ?_)
  refine ao_v (fun y40 => ?_)
  refine ao_it ao_no ?_
  refine ao_it ?_ ao_no
  refine ao_it ?_ ao_no
  refine ao_J F14 (F14.cl.r Cv0) (fun h44 F16 => ?_)
  refine ao_it ao_no ?_
  refine ao_it ?_ ao_no
  refine ao_J F16 (F16.cl.r Cv0) (fun h47 F17 => ?_)
  exact ao_so F17
theorem av_mSeals_part_b195 {C : Nat → Prop} {k2 : Nat → Int → Int → Hp → Option (Hp)} (hk2 : ∀ (v0 : Nat) (v1 : Int) (v2 : Int) (h : Hp), Cl C h → C v0 → Ao (qV C h) (k2 v0 v1 v2 h)) {v0 : Nat} {v1 : Int} {v2 : Int} {h : Hp} (c : Cl C h) (Cv0 : C v0) : Ao (qV C h) (f_mSeals_part_b195 k2 v0 v1 v2 h) := by
  unfold f_mSeals_part_b195
  have F0 := Av.rf c
  exact ao_jV F0 (hk2 _ _ _ _ (F0.cl) Cv0)
theorem av_mSeals_part_b248 {C : Nat → Prop} {k248 : Nat → Int → Hp → Option (Hp)} (hk248 : ∀ (v0 : Nat) (v2 : Int) (h : Hp), Cl C h → C v0 → Ao (qV C h) (k248 v0 v2 h)) {v0 : Nat} {v2 : Int} {h : Hp} (c : Cl C h) (Cv0 : C v0) : Ao (qV C h) (f_mSeals_part_b248 k248 v0 v2 h) := by
  unfold f_mSeals_part_b248
  have F0 := Av.rf c
  refine ao_it ?_ ?_
  · exact ao_so F0
  · refine ao_it ao_no ?_
    refine ao_it ?_ ao_no
    refine ao_it ao_no ?_
    refine ao_it ?_ ao_no
    refine ao_it ?_ ao_no
    refine ao_J F0 (F0.cl.r Cv0) (fun h51 F1 => ?_)
    exact ao_jV F1 (hk248 _ _ _ (F1.cl) Cv0)
theorem av_mSeals_part_b248_lp {C : Nat → Prop} (n : Nat) : ∀ {v0 : Nat} {v2 : Int} {h : Hp}, Cl C h → C v0 → Ao (qV C h) (f_mSeals_part_b248_lp n v0 v2 h) := by
  induction n with
  | zero => intros; exact ao_no
  | succ n ih => intro v0 v2 h c Cv0; exact av_mSeals_part_b248 (fun _ _ h => ih) c Cv0
theorem av_mSeals_part_b229 {C : Nat → Prop} {k229 : Nat → Int → Hp → Option (Hp)} (hk229 : ∀ (v0 : Nat) (v2 : Int) (h : Hp), Cl C h → C v0 → Ao (qV C h) (k229 v0 v2 h)) {v0 : Nat} {v2 : Int} {h : Hp} (c : Cl C h) (Cv0 : C v0) : Ao (qV C h) (f_mSeals_part_b229 k229 v0 v2 h) := by
  unfold f_mSeals_part_b229
  have F0 := Av.rf c
  refine ao_it ?_ ?_
  · exact ao_jV F0 (av_mSeals_part_b248_lp FU (F0.cl) Cv0)
  · refine ao_b1 F0 (av_mSeals_round (F0.cl) Cv0) (fun h44 F1 => ?_)
    exact ao_jV F1 (hk229 _ _ _ (F1.cl) Cv0)
theorem av_mSeals_part_b229_lp {C : Nat → Prop} (n : Nat) : ∀ {v0 : Nat} {v2 : Int} {h : Hp}, Cl C h → C v0 → Ao (qV C h) (f_mSeals_part_b229_lp n v0 v2 h) := by
  induction n with
  | zero => intros; exact ao_no
  | succ n ih => intro v0 v2 h c Cv0; exact av_mSeals_part_b229 (fun _ _ h => ih) c Cv0
theorem av_mSeals_part_b203 {C : Nat → Prop} {k203 : Nat → Int → Hp → Option (Hp)} (hk203 : ∀ (v0 : Nat) (v2 : Int) (h : Hp), Cl C h → C v0 → Ao (qV C h) (k203 v0 v2 h)) {v0 : Nat} {v2 : Int} {h : Hp} (c : Cl C h) (Cv0 : C v0) : Ao (qV C h) (f_mSeals_part_b203 k203 v0 v2 h) := by
  unfold f_mSeals_part_b203
  have F0 := Av.rf c
  refine ao_it ?_ ?_
  · exact ao_jV F0 (av_mSeals_part_b229_lp FU (F0.cl) Cv0)
  · refine ao_it ao_no ?_
    refine ao_it ?_ ao_no
    refine ao_it ao_no ?_
    refine ao_it ?_ ao_no
    refine ao_J F0 (F0.cl.r Cv0) (fun h43 F1 => ?_)
    exact ao_jV F1 (hk203 _ _ _ (F1.cl) Cv0)
theorem av_mSeals_part_b203_lp {C : Nat → Prop} (n : Nat) : ∀ {v0 : Nat} {v2 : Int} {h : Hp}, Cl C h → C v0 → Ao (qV C h) (f_mSeals_part_b203_lp n v0 v2 h) := by
  induction n with
  | zero => intros; exact ao_no
  | succ n ih => intro v0 v2 h c Cv0; exact av_mSeals_part_b203 (fun _ _ h => ih) c Cv0
theorem av_mSeals_part_b2 {C : Nat → Prop} {k2 : Nat → Int → Int → Hp → Option (Hp)} (hk2 : ∀ (v0 : Nat) (v1 : Int) (v2 : Int) (h : Hp), Cl C h → C v0 → Ao (qV C h) (k2 v0 v1 v2 h)) {v0 : Nat} {v1 : Int} {v2 : Int} {h : Hp} (c : Cl C h) (Cv0 : C v0) : Ao (qV C h) (f_mSeals_part_b2 k2 v0 v1 v2 h) := by
  unfold f_mSeals_part_b2
  have F0 := Av.rf c
  refine ao_it ?_ ?_
  · exact ao_jV F0 (av_mSeals_part_b203_lp FU (F0.cl) Cv0)
  · refine ao_it ?_ ?_
    · refine ao_it ao_no ?_
      refine ao_it ?_ ao_no
      refine ao_b2 F0 (av_mSeals_right (F0.cl)) (fun r5 h3 F1 => ?_)
      refine ao_it ao_no ?_
      refine ao_it ?_ ao_no
      refine ao_b2 F1 (av_mSeals_right (F1.cl)) (fun r10 h8 F2 => ?_)
      refine ao_it ao_no ?_
      refine ao_it ?_ ao_no
      refine ao_v (fun y13 => ?_)
      refine ao_it ?_ ao_no
      refine ao_b2 F2 (av_mSeals_right (F2.cl)) (fun r17 h15 F4 => ?_)
      refine ao_it ao_no ?_
      refine ao_it ?_ ao_no
      refine ao_b2 F4 (av_mSeals_right (F4.cl)) (fun r22 h20 F5 => ?_)
      refine ao_it ao_no ?_
      refine ao_it ?_ ao_no
      refine ao_v (fun y25 => ?_)
      refine ao_it ?_ ao_no
      refine ao_it ?_ ao_no
      refine ao_it ?_ ao_no
      refine ao_J F5 (F5.cl.r Cv0) (fun h29 F7 => ?_)
      exact ao_jV F7 (av_mSeals_part_b195 hk2 (F7.cl) Cv0)
    · refine ao_v (fun y30 => ?_)
      refine ao_it ao_no ?_
      refine ao_it ?_ ao_no
      refine ao_it ?_ ao_no
      refine ao_it ?_ ao_no
      refine ao_it ?_ ao_no
      refine ao_it ao_no ?_
      refine ao_it ?_ ao_no
      refine ao_J F0 (F0.cl.r Cv0) (fun h38 F9 => ?_)
      exact ao_jV F9 (av_mSeals_part_b195 hk2 (F9.cl) Cv0)
theorem av_mSeals_part_b2_lp {C : Nat → Prop} (n : Nat) : ∀ {v0 : Nat} {v1 : Int} {v2 : Int} {h : Hp}, Cl C h → C v0 → Ao (qV C h) (f_mSeals_part_b2_lp n v0 v1 v2 h) := by
  induction n with
  | zero => intros; exact ao_no
  | succ n ih => intro v0 v1 v2 h c Cv0; exact av_mSeals_part_b2 (fun _ _ _ h => ih) c Cv0
theorem av_mSeals_part {C : Nat → Prop} {v0 : Nat} {v1 : Int} {h : Hp} (c : Cl C h) (Cv0 : C v0) : Ao (qV C h) (f_mSeals_part v0 v1 h) := by
  unfold f_mSeals_part
  have F0 := Av.rf c
  exact ao_jV F0 (av_mSeals_part_b2_lp FU (F0.cl) Cv0)
theorem av_mSeals_digestWork_b125 {C : Nat → Prop} {k125 : Nat → Int → Hp → Option (Hp)} (hk125 : ∀ (v0 : Nat) (v3 : Int) (h : Hp), Cl C h → C v0 → Ao (qV C h) (k125 v0 v3 h)) {v0 : Nat} {v3 : Int} {h : Hp} (c : Cl C h) (Cv0 : C v0) : Ao (qV C h) (f_mSeals_digestWork_b125 k125 v0 v3 h) := by
  unfold f_mSeals_digestWork_b125
  have F0 := Av.rf c
  refine ao_it ?_ ?_
  · exact ao_so F0
  · refine ao_it ao_no ?_
    refine ao_it ?_ ao_no
    refine ao_it ao_no ?_
    refine ao_it ?_ ao_no
    refine ao_I F0 (F0.cl.r Cv0) (fun h22 F1 => ?_)
    exact ao_jV F1 (hk125 _ _ _ (F1.cl) Cv0)
theorem av_mSeals_digestWork_b125_lp {C : Nat → Prop} (n : Nat) : ∀ {v0 : Nat} {v3 : Int} {h : Hp}, Cl C h → C v0 → Ao (qV C h) (f_mSeals_digestWork_b125_lp n v0 v3 h) := by
  induction n with
  | zero => intros; exact ao_no
  | succ n ih => intro v0 v3 h c Cv0; exact av_mSeals_digestWork_b125 (fun _ _ h => ih) c Cv0
theorem av_mSeals_digestWork_b107 {C : Nat → Prop} {k107 : Nat → Int → Int → Hp → Option (Hp)} (hk107 : ∀ (v0 : Nat) (v2 : Int) (v3 : Int) (h : Hp), Cl C h → C v0 → Ao (qV C h) (k107 v0 v2 v3 h)) {v0 : Nat} {v2 : Int} {v3 : Int} {h : Hp} (c : Cl C h) (Cv0 : C v0) : Ao (qV C h) (f_mSeals_digestWork_b107 k107 v0 v2 v3 h) := by
  unfold f_mSeals_digestWork_b107
  have F0 := Av.rf c
  refine ao_it ?_ ?_
  · exact ao_jV F0 (av_mSeals_digestWork_b125_lp FU (F0.cl) Cv0)
  · refine ao_b1 F0 (av_mSeals_part (F0.cl) Cv0) (fun h16 F1 => ?_)
    exact ao_jV F1 (hk107 _ _ _ _ (F1.cl) Cv0)
theorem av_mSeals_digestWork_b107_lp {C : Nat → Prop} (n : Nat) : ∀ {v0 : Nat} {v2 : Int} {v3 : Int} {h : Hp}, Cl C h → C v0 → Ao (qV C h) (f_mSeals_digestWork_b107_lp n v0 v2 v3 h) := by
  induction n with
  | zero => intros; exact ao_no
  | succ n ih => intro v0 v2 v3 h c Cv0; exact av_mSeals_digestWork_b107 (fun _ _ _ h => ih) c Cv0
theorem av_mSeals_digestWork_b81 {C : Nat → Prop} {k81 : Nat → Int → Int → Hp → Option (Hp)} (hk81 : ∀ (v0 : Nat) (v2 : Int) (v3 : Int) (h : Hp), Cl C h → C v0 → Ao (qV C h) (k81 v0 v2 v3 h)) {v0 : Nat} {v2 : Int} {v3 : Int} {h : Hp} (c : Cl C h) (Cv0 : C v0) : Ao (qV C h) (f_mSeals_digestWork_b81 k81 v0 v2 v3 h) := by
  unfold f_mSeals_digestWork_b81
  have F0 := Av.rf c
  refine ao_it ?_ ?_
  · exact ao_jV F0 (av_mSeals_digestWork_b107_lp FU (F0.cl) Cv0)
  · refine ao_it ao_no ?_
    refine ao_it ?_ ao_no
    refine ao_it ao_no ?_
    refine ao_it ?_ ao_no
    refine ao_J F0 (F0.cl.r Cv0) (fun h15 F1 => ?_)
    exact ao_jV F1 (hk81 _ _ _ _ (F1.cl) Cv0)
theorem av_mSeals_digestWork_b81_lp {C : Nat → Prop} (n : Nat) : ∀ {v0 : Nat} {v2 : Int} {v3 : Int} {h : Hp}, Cl C h → C v0 → Ao (qV C h) (f_mSeals_digestWork_b81_lp n v0 v2 v3 h) := by
  induction n with
  | zero => intros; exact ao_no
  | succ n ih => intro v0 v2 v3 h c Cv0; exact av_mSeals_digestWork_b81 (fun _ _ _ h => ih) c Cv0
theorem av_mSeals_digestWork_b45 {C : Nat → Prop} {k45 : Nat → Int → Int → Int → Hp → Option (Hp)} (hk45 : ∀ (v0 : Nat) (v1 : Int) (v2 : Int) (v3 : Int) (h : Hp), Cl C h → C v0 → Ao (qV C h) (k45 v0 v1 v2 v3 h)) {v0 : Nat} {v1 : Int} {v2 : Int} {v3 : Int} {h : Hp} (c : Cl C h) (Cv0 : C v0) : Ao (qV C h) (f_mSeals_digestWork_b45 k45 v0 v1 v2 v3 h) := by
  unfold f_mSeals_digestWork_b45
  have F0 := Av.rf c
  refine ao_it ?_ ?_
  · exact ao_jV F0 (av_mSeals_digestWork_b81_lp FU (F0.cl) Cv0)
  · refine ao_it ao_no ?_
    refine ao_it ?_ ao_no
    refine ao_I F0 (F0.cl.r Cv0) (fun h10 F1 => ?_)
    exact ao_jV F1 (hk45 _ _ _ _ _ (F1.cl) Cv0)
theorem av_mSeals_digestWork_b45_lp {C : Nat → Prop} (n : Nat) : ∀ {v0 : Nat} {v1 : Int} {v2 : Int} {v3 : Int} {h : Hp}, Cl C h → C v0 → Ao (qV C h) (f_mSeals_digestWork_b45_lp n v0 v1 v2 v3 h) := by
  induction n with
  | zero => intros; exact ao_no
  | succ n ih => intro v0 v1 v2 v3 h c Cv0; exact av_mSeals_digestWork_b45 (fun _ _ _ _ h => ih) c Cv0
theorem av_mSeals_digestWork_b16 {C : Nat → Prop} {k16 : Nat → Int → Int → Int → Hp → Option (Hp)} (hk16 : ∀ (v0 : Nat) (v1 : Int) (v2 : Int) (v3 : Int) (h : Hp), Cl C h → C v0 → Ao (qV C h) (k16 v0 v1 v2 v3 h)) {v0 : Nat} {v1 : Int} {v2 : Int} {v3 : Int} {h : Hp} (c : Cl C h) (Cv0 : C v0) : Ao (qV C h) (f_mSeals_digestWork_b16 k16 v0 v1 v2 v3 h) := by
  unfold f_mSeals_digestWork_b16
  have F0 := Av.rf c
  refine ao_it ?_ ?_
  · refine ao_it ao_no ?_
    refine ao_it ?_ ao_no
    refine ao_I F0 (F0.cl.r Cv0) (fun h4 F1 => ?_)
    exact ao_jV F1 (av_mSeals_digestWork_b45_lp FU (F1.cl) Cv0)
  · refine ao_it ao_no ?_
    refine ao_it ?_ ao_no
    refine ao_I F0 (F0.cl.r Cv0) (fun h7 F2 => ?_)
    exact ao_jV F2 (hk16 _ _ _ _ _ (F2.cl) Cv0)
theorem av_mSeals_digestWork_b16_lp {C : Nat → Prop} (n : Nat) : ∀ {v0 : Nat} {v1 : Int} {v2 : Int} {v3 : Int} {h : Hp}, Cl C h → C v0 → Ao (qV C h) (f_mSeals_digestWork_b16_lp n v0 v1 v2 v3 h) := by
  induction n with
  | zero => intros; exact ao_no
  | succ n ih => intro v0 v1 v2 v3 h c Cv0; exact av_mSeals_digestWork_b16 (fun _ _ _ _ h => ih) c Cv0
theorem av_mSeals_digestWork {C : Nat → Prop} {v0 : Nat} {v1 : Int} {h : Hp} (c : Cl C h) (Cv0 : C v0) : Ao (qV C h) (f_mSeals_digestWork v0 v1 h) := by
  unfold f_mSeals_digestWork
  have F0 := Av.rf c
  refine ao_v (fun y1 => ?_)
  exact ao_jV F0 (av_mSeals_digestWork_b16_lp FU (F0.cl) Cv0)
theorem av_mSeals_macText_b32 {C : Nat → Prop} {k3 : Nat → Nat → Int → Int → Int → Hp → Option (Hp)} (hk3 : ∀ (v0 : Nat) (v1 : Nat) (v2 : Int) (v3 : Int) (v4 : Int) (h : Hp), Cl C h → C v0 → Ao (qV C h) (k3 v0 v1 v2 v3 v4 h)) {v0 : Nat} {v1 : Nat} {v2 : Int} {v3 : Int} {v4 : Int} {s0 : Nat} {s1 : Int} {s2 : Int} {h : Hp} (c : Cl C h) (Cv0 : C v0) (Cs0 : C s0) : Ao (qV C h) (f_mSeals_macText_b32 k3 v0 v1 v2 v3 v4 s0 s1 s2 h) := by
  unfold f_mSeals_macText_b32
  have F0 := Av.rf c
  refine ao_it ao_no ?_
  refine ao_it ?_ ao_no
  refine ao_I F0 Cs0 (fun h29 F1 => ?_)
  exact ao_jV F1 (hk3 _ _ _ _ _ _ (F1.cl) Cv0)
theorem av_mSeals_macText_b154 {C : Nat → Prop} {k154 : Nat → Int → Hp → Option (Hp)} (hk154 : ∀ (v0 : Nat) (v4 : Int) (h : Hp), Cl C h → C v0 → Ao (qV C h) (k154 v0 v4 h)) {v0 : Nat} {v4 : Int} {h : Hp} (c : Cl C h) (Cv0 : C v0) : Ao (qV C h) (f_mSeals_macText_b154 k154 v0 v4 h) := by
  unfold f_mSeals_macText_b154
  have F0 := Av.rf c
  refine ao_it ?_ ?_
  · refine ao_b1 F0 (av_mSeals_digestWork (F0.cl) Cv0) (fun h20 F1 => ?_)
    exact ao_so F1
  · refine ao_it ao_no ?_
    refine ao_it ?_ ao_no
    refine ao_it ao_no ?_
    refine ao_it ?_ ao_no
    refine ao_I F0 (F0.cl.r Cv0) (fun h26 F2 => ?_)
    exact ao_jV F2 (hk154 _ _ _ (F2.cl) Cv0)
theorem av_mSeals_macText_b154_lp {C : Nat → Prop} (n : Nat) : ∀ {v0 : Nat} {v4 : Int} {h : Hp}, Cl C h → C v0 → Ao (qV C h) (f_mSeals_macText_b154_lp n v0 v4 h) := by
  induction n with
  | zero => intros; exact ao_no
  | succ n ih => intro v0 v4 h c Cv0; exact av_mSeals_macText_b154 (fun _ _ h => ih) c Cv0
theorem av_mSeals_macText_b121 {C : Nat → Prop} {k121 : Nat → Int → Hp → Option (Hp)} (hk121 : ∀ (v0 : Nat) (v4 : Int) (h : Hp), Cl C h → C v0 → Ao (qV C h) (k121 v0 v4 h)) {v0 : Nat} {v4 : Int} {h : Hp} (c : Cl C h) (Cv0 : C v0) : Ao (qV C h) (f_mSeals_macText_b121 k121 v0 v4 h) := by
  unfold f_mSeals_macText_b121
  have F0 := Av.rf c
  refine ao_it ?_ ?_
  · exact ao_jV F0 (av_mSeals_macText_b154_lp FU (F0.cl) Cv0)
  · refine ao_it ao_no ?_
    refine ao_it ?_ ao_no
    refine ao_it ao_no ?_
    refine ao_it ?_ ao_no
    refine ao_I F0 (F0.cl.r Cv0) (fun h19 F1 => ?_)
    exact ao_jV F1 (hk121 _ _ _ (F1.cl) Cv0)
theorem av_mSeals_macText_b121_lp {C : Nat → Prop} (n : Nat) : ∀ {v0 : Nat} {v4 : Int} {h : Hp}, Cl C h → C v0 → Ao (qV C h) (f_mSeals_macText_b121_lp n v0 v4 h) := by
  induction n with
  | zero => intros; exact ao_no
  | succ n ih => intro v0 v4 h c Cv0; exact av_mSeals_macText_b121 (fun _ _ h => ih) c Cv0
theorem av_mSeals_macText_b75 {C : Nat → Prop} {k75 : Nat → Int → Hp → Option (Hp)} (hk75 : ∀ (v0 : Nat) (v4 : Int) (h : Hp), Cl C h → C v0 → Ao (qV C h) (k75 v0 v4 h)) {v0 : Nat} {v4 : Int} {h : Hp} (c : Cl C h) (Cv0 : C v0) : Ao (qV C h) (f_mSeals_macText_b75 k75 v0 v4 h) := by
  unfold f_mSeals_macText_b75
  have F0 := Av.rf c
  refine ao_it ?_ ?_
  · refine ao_b1 F0 (av_mSeals_digestWork (F0.cl) Cv0) (fun h8 F1 => ?_)
    exact ao_jV F1 (av_mSeals_macText_b121_lp FU (F1.cl) Cv0)
  · refine ao_it ao_no ?_
    refine ao_it ?_ ao_no
    refine ao_it ao_no ?_
    refine ao_it ?_ ao_no
    refine ao_I F0 (F0.cl.r Cv0) (fun h14 F2 => ?_)
    exact ao_jV F2 (hk75 _ _ _ (F2.cl) Cv0)
theorem av_mSeals_macText_b75_lp {C : Nat → Prop} (n : Nat) : ∀ {v0 : Nat} {v4 : Int} {h : Hp}, Cl C h → C v0 → Ao (qV C h) (f_mSeals_macText_b75_lp n v0 v4 h) := by
  induction n with
  | zero => intros; exact ao_no
  | succ n ih => intro v0 v4 h c Cv0; exact av_mSeals_macText_b75 (fun _ _ h => ih) c Cv0
theorem av_mSeals_macText_b42 {C : Nat → Prop} {k42 : Nat → Int → Hp → Option (Hp)} (hk42 : ∀ (v0 : Nat) (v4 : Int) (h : Hp), Cl C h → C v0 → Ao (qV C h) (k42 v0 v4 h)) {v0 : Nat} {v4 : Int} {h : Hp} (c : Cl C h) (Cv0 : C v0) : Ao (qV C h) (f_mSeals_macText_b42 k42 v0 v4 h) := by
  unfold f_mSeals_macText_b42
  have F0 := Av.rf c
  refine ao_it ?_ ?_
  · exact ao_jV F0 (av_mSeals_macText_b75_lp FU (F0.cl) Cv0)
  · refine ao_it ao_no ?_
    refine ao_it ?_ ao_no
    refine ao_it ao_no ?_
    refine ao_it ?_ ao_no
    refine ao_I F0 (F0.cl.r Cv0) (fun h7 F1 => ?_)
    exact ao_jV F1 (hk42 _ _ _ (F1.cl) Cv0)
theorem av_mSeals_macText_b42_lp {C : Nat → Prop} (n : Nat) : ∀ {v0 : Nat} {v4 : Int} {h : Hp}, Cl C h → C v0 → Ao (qV C h) (f_mSeals_macText_b42_lp n v0 v4 h) := by
  induction n with
  | zero => intros; exact ao_no
  | succ n ih => intro v0 v4 h c Cv0; exact av_mSeals_macText_b42 (fun _ _ h => ih) c Cv0
theorem av_mSeals_macText_b3 {C : Nat → Prop} {k3 : Nat → Nat → Int → Int → Int → Hp → Option (Hp)} (hk3 : ∀ (v0 : Nat) (v1 : Nat) (v2 : Int) (v3 : Int) (v4 : Int) (h : Hp), Cl C h → C v0 → Ao (qV C h) (k3 v0 v1 v2 v3 v4 h)) {v0 : Nat} {v1 : Nat} {v2 : Int} {v3 : Int} {v4 : Int} {h : Hp} (c : Cl C h) (Cv0 : C v0) : Ao (qV C h) (f_mSeals_macText_b3 k3 v0 v1 v2 v3 v4 h) := by
  unfold f_mSeals_macText_b3
  have F0 := Av.rf c
  refine ao_it ?_ ?_
  · exact ao_jV F0 (av_mSeals_macText_b42_lp FU (F0.cl) Cv0)
  · refine ao_it ?_ ?_
    · exact ao_jV F0 (av_mSeals_macText_b32 hk3 (F0.cl) Cv0 (F0.cl.r Cv0))
    · refine ao_it ao_no ?_
      refine ao_it ?_ ao_no
      exact ao_jV F0 (av_mSeals_macText_b32 hk3 (F0.cl) Cv0 (F0.cl.r Cv0))
theorem av_mSeals_macText_b3_lp {C : Nat → Prop} (n : Nat) : ∀ {v0 : Nat} {v1 : Nat} {v2 : Int} {v3 : Int} {v4 : Int} {h : Hp}, Cl C h → C v0 → Ao (qV C h) (f_mSeals_macText_b3_lp n v0 v1 v2 v3 v4 h) := by
  induction n with
  | zero => intros; exact ao_no
  | succ n ih => intro v0 v1 v2 v3 v4 h c Cv0; exact av_mSeals_macText_b3 (fun _ _ _ _ _ h => ih) c Cv0
theorem av_mSeals_macText {C : Nat → Prop} {v0 : Nat} {v1 : Nat} {v2 : Int} {v3 : Int} {h : Hp} (c : Cl C h) (Cv0 : C v0) : Ao (qV C h) (f_mSeals_macText v0 v1 v2 v3 h) := by
  unfold f_mSeals_macText
  have F0 := Av.rf c
  exact ao_jV F0 (av_mSeals_macText_b3_lp FU (F0.cl) Cv0)
theorem av_mSeals_mac_b47 {C : Nat → Prop} {k47 : Nat → Nat → Int → Hp → Option (Hp)} (hk47 : ∀ (v0 : Nat) (v7 : Nat) (v8 : Int) (h : Hp), Cl C h → C v7 → Ao (qV C h) (k47 v0 v7 v8 h)) {v0 : Nat} {v7 : Nat} {v8 : Int} {h : Hp} (c : Cl C h) (Cv7 : C v7) : Ao (qV C h) (f_mSeals_mac_b47 k47 v0 v7 v8 h) := by
  unfold f_mSeals_mac_b47
  have F0 := Av.rf c
  refine ao_it ?_ ?_
  · exact ao_so F0
  · refine ao_it ao_no ?_
    refine ao_it ?_ ao_no
    refine ao_it ao_no ?_
    refine ao_it ?_ ao_no
    refine ao_I F0 Cv7 (fun h13 F1 => ?_)
    exact ao_jV F1 (hk47 _ _ _ _ (F1.cl) Cv7)
theorem av_mSeals_mac_b47_lp {C : Nat → Prop} (n : Nat) : ∀ {v0 : Nat} {v7 : Nat} {v8 : Int} {h : Hp}, Cl C h → C v7 → Ao (qV C h) (f_mSeals_mac_b47_lp n v0 v7 v8 h) := by
  induction n with
  | zero => intros; exact ao_no
  | succ n ih => intro v0 v7 v8 h c Cv7; exact av_mSeals_mac_b47 (fun _ _ _ h => ih) c Cv7
theorem av_mSeals_mac_b3 {C : Nat → Prop} {k3 : Nat → Nat → Int → Int → Nat → Int → Int → Nat → Int → Hp → Option (Hp)} (hk3 : ∀ (v0 : Nat) (v1 : Nat) (v2 : Int) (v3 : Int) (v4 : Nat) (v5 : Int) (v6 : Int) (v7 : Nat) (v8 : Int) (h : Hp), Cl C h → C v0 → C v7 → Ao (qV C h) (k3 v0 v1 v2 v3 v4 v5 v6 v7 v8 h)) {v0 : Nat} {v1 : Nat} {v2 : Int} {v3 : Int} {v4 : Nat} {v5 : Int} {v6 : Int} {v7 : Nat} {v8 : Int} {h : Hp} (c : Cl C h) (Cv0 : C v0) (Cv7 : C v7) : Ao (qV C h) (f_mSeals_mac_b3 k3 v0 v1 v2 v3 v4 v5 v6 v7 v8 h) := by
  unfold f_mSeals_mac_b3
  have F0 := Av.rf c
  refine ao_it ?_ ?_
  · refine ao_I F0 Cv0 (fun h1 F1 => ?_)
    refine ao_b1 F1 (av_mSeals_macText (F1.cl) Cv0) (fun h2 F2 => ?_)
    exact ao_jV F2 (av_mSeals_mac_b47_lp FU (F2.cl) Cv7)
  · refine ao_it ao_no ?_
    refine ao_it ?_ ao_no
    refine ao_it ao_no ?_
    refine ao_it ?_ ao_no
    refine ao_I F0 (F0.cl.r Cv0) (fun h8 F3 => ?_)
    exact ao_jV F3 (hk3 _ _ _ _ _ _ _ _ _ _ (F3.cl) Cv0 Cv7)
theorem av_mSeals_mac_b3_lp {C : Nat → Prop} (n : Nat) : ∀ {v0 : Nat} {v1 : Nat} {v2 : Int} {v3 : Int} {v4 : Nat} {v5 : Int} {v6 : Int} {v7 : Nat} {v8 : Int} {h : Hp}, Cl C h → C v0 → C v7 → Ao (qV C h) (f_mSeals_mac_b3_lp n v0 v1 v2 v3 v4 v5 v6 v7 v8 h) := by
  induction n with
  | zero => intros; exact ao_no
  | succ n ih => intro v0 v1 v2 v3 v4 v5 v6 v7 v8 h c Cv0 Cv7; exact av_mSeals_mac_b3 (fun _ _ _ _ _ _ _ _ _ h => ih) c Cv0 Cv7
theorem av_mSeals_mac {C : Nat → Prop} {v0 : Nat} {v1 : Nat} {v2 : Int} {v3 : Int} {v4 : Nat} {v5 : Int} {v6 : Int} {v7 : Nat} {h : Hp} (c : Cl C h) (Cv0 : C v0) (Cv7 : C v7) : Ao (qV C h) (f_mSeals_mac v0 v1 v2 v3 v4 v5 v6 v7 h) := by
  unfold f_mSeals_mac
  have F0 := Av.rf c
  exact ao_jV F0 (av_mSeals_mac_b3_lp FU (F0.cl) Cv0 Cv7)
theorem av_mSeals_words {C : Nat → Prop} {v0 : Int} {h : Hp} (c : Cl C h) : Ao (qI C h) (f_mSeals_words v0 h) := by
  unfold f_mSeals_words
  have F0 := Av.rf c
  refine ao_it ?_ ?_
  · exact ao_so F0
  · refine ao_it ?_ ?_
    · exact ao_so F0
    · refine ao_it ?_ ?_
      · exact ao_so F0
      · refine ao_it ?_ ?_
        · exact ao_so F0
        · refine ao_it ?_ ?_
          · exact ao_so F0
          · refine ao_it ?_ ?_
            · exact ao_so F0
            · refine ao_it ?_ ?_
              · exact ao_so F0
              · refine ao_it ?_ ?_
                · exact ao_so F0
                · refine ao_it ?_ ?_
                  · exact ao_so F0
                  · refine ao_it ?_ ?_
                    · exact ao_so F0
                    · exact ao_so F0
theorem av_mSeals_tell {C : Nat → Prop} {v0 : Nat} {v1 : Int} {h : Hp} (c : Cl C h) (Cv0 : C v0) : Ao (qV C h) (f_mSeals_tell v0 v1 h) := by
  unfold f_mSeals_tell
  have F0 := Av.rf c
  refine ao_it ao_no ?_
  refine ao_it ?_ ao_no
  refine ao_I F0 (F0.cl.r Cv0) (fun h3 F1 => ?_)
  refine ao_I F1 Cv0 (fun h4 F2 => ?_)
  exact ao_so F2
theorem av_mSeals_label_b228 {C : Nat → Prop} {k228 : Nat → Int → Nat → Int → Int → Hp → Option (Hp)} (hk228 : ∀ (v0 : Nat) (v6 : Int) (v7 : Nat) (v8 : Int) (v12 : Int) (h : Hp), Cl C h → C v7 → Ao (qV C h) (k228 v0 v6 v7 v8 v12 h)) {v0 : Nat} {v6 : Int} {v7 : Nat} {v8 : Int} {v12 : Int} {h : Hp} (c : Cl C h) (Cv7 : C v7) : Ao (qV C h) (f_mSeals_label_b228 k228 v0 v6 v7 v8 v12 h) := by
  unfold f_mSeals_label_b228
  have F0 := Av.rf c
  refine ao_it ?_ ?_
  · exact ao_so F0
  · refine ao_it ao_no ?_
    refine ao_it ?_ ao_no
    refine ao_it ao_no ?_
    refine ao_it ?_ ao_no
    refine ao_I F0 Cv7 (fun h45 F1 => ?_)
    exact ao_jV F1 (hk228 _ _ _ _ _ _ (F1.cl) Cv7)
theorem av_mSeals_label_b228_lp {C : Nat → Prop} (n : Nat) : ∀ {v0 : Nat} {v6 : Int} {v7 : Nat} {v8 : Int} {v12 : Int} {h : Hp}, Cl C h → C v7 → Ao (qV C h) (f_mSeals_label_b228_lp n v0 v6 v7 v8 v12 h) := by
  induction n with
  | zero => intros; exact ao_no
  | succ n ih => intro v0 v6 v7 v8 v12 h c Cv7; exact av_mSeals_label_b228 (fun _ _ _ _ _ h => ih) c Cv7
theorem av_mSeals_label_b198 {C : Nat → Prop} {k198 : Nat → Int → Nat → Int → Int → Hp → Option (Hp)} (hk198 : ∀ (v0 : Nat) (v6 : Int) (v7 : Nat) (v8 : Int) (v12 : Int) (h : Hp), Cl C h → C v0 → C v7 → Ao (qV C h) (k198 v0 v6 v7 v8 v12 h)) {v0 : Nat} {v6 : Int} {v7 : Nat} {v8 : Int} {v12 : Int} {h : Hp} (c : Cl C h) (Cv0 : C v0) (Cv7 : C v7) : Ao (qV C h) (f_mSeals_label_b198 k198 v0 v6 v7 v8 v12 h) := by
  unfold f_mSeals_label_b198
  have F0 := Av.rf c
  refine ao_it ?_ ?_
  · exact ao_jV F0 (av_mSeals_label_b228_lp FU (F0.cl) Cv7)
  · refine ao_it ao_no ?_
    refine ao_it ?_ ao_no
    refine ao_it ao_no ?_
    refine ao_it ?_ ao_no
    refine ao_I F0 (F0.cl.r Cv0) (fun h40 F1 => ?_)
    exact ao_jV F1 (hk198 _ _ _ _ _ _ (F1.cl) Cv0 Cv7)
theorem av_mSeals_label_b198_lp {C : Nat → Prop} (n : Nat) : ∀ {v0 : Nat} {v6 : Int} {v7 : Nat} {v8 : Int} {v12 : Int} {h : Hp}, Cl C h → C v0 → C v7 → Ao (qV C h) (f_mSeals_label_b198_lp n v0 v6 v7 v8 v12 h) := by
  induction n with
  | zero => intros; exact ao_no
  | succ n ih => intro v0 v6 v7 v8 v12 h c Cv0 Cv7; exact av_mSeals_label_b198 (fun _ _ _ _ _ h => ih) c Cv0 Cv7
theorem av_mSeals_label_b150 {C : Nat → Prop} {k150 : Nat → Nat → Int → Int → Nat → Int → Int → Hp → Option (Hp)} (hk150 : ∀ (v0 : Nat) (v1 : Nat) (v2 : Int) (v6 : Int) (v7 : Nat) (v8 : Int) (v12 : Int) (h : Hp), Cl C h → C v0 → C v7 → Ao (qV C h) (k150 v0 v1 v2 v6 v7 v8 v12 h)) {v0 : Nat} {v1 : Nat} {v2 : Int} {v6 : Int} {v7 : Nat} {v8 : Int} {v12 : Int} {h : Hp} (c : Cl C h) (Cv0 : C v0) (Cv7 : C v7) : Ao (qV C h) (f_mSeals_label_b150 k150 v0 v1 v2 v6 v7 v8 v12 h) := by
  unfold f_mSeals_label_b150
  have F0 := Av.rf c
  refine ao_it ?_ ?_
  · refine ao_I F0 Cv0 (fun h28 F1 => ?_)
    refine ao_b1 F1 (av_mSeals_macText (F1.cl) Cv0) (fun h29 F2 => ?_)
    exact ao_jV F2 (av_mSeals_label_b198_lp FU (F2.cl) Cv0 Cv7)
  · refine ao_it ao_no ?_
    refine ao_it ?_ ao_no
    refine ao_it ao_no ?_
    refine ao_it ?_ ao_no
    refine ao_I F0 (F0.cl.r Cv0) (fun h35 F3 => ?_)
    exact ao_jV F3 (hk150 _ _ _ _ _ _ _ _ (F3.cl) Cv0 Cv7)
theorem av_mSeals_label_b150_lp {C : Nat → Prop} (n : Nat) : ∀ {v0 : Nat} {v1 : Nat} {v2 : Int} {v6 : Int} {v7 : Nat} {v8 : Int} {v12 : Int} {h : Hp}, Cl C h → C v0 → C v7 → Ao (qV C h) (f_mSeals_label_b150_lp n v0 v1 v2 v6 v7 v8 v12 h) := by
  induction n with
  | zero => intros; exact ao_no
  | succ n ih => intro v0 v1 v2 v6 v7 v8 v12 h c Cv0 Cv7; exact av_mSeals_label_b150 (fun _ _ _ _ _ _ _ h => ih) c Cv0 Cv7
theorem av_mSeals_label_b120 {C : Nat → Prop} {k120 : Nat → Nat → Int → Nat → Int → Int → Nat → Int → Int → Hp → Option (Hp)} (hk120 : ∀ (v0 : Nat) (v1 : Nat) (v2 : Int) (v4 : Nat) (v5 : Int) (v6 : Int) (v7 : Nat) (v8 : Int) (v12 : Int) (h : Hp), Cl C h → C v0 → C v7 → Ao (qV C h) (k120 v0 v1 v2 v4 v5 v6 v7 v8 v12 h)) {v0 : Nat} {v1 : Nat} {v2 : Int} {v4 : Nat} {v5 : Int} {v6 : Int} {v7 : Nat} {v8 : Int} {v12 : Int} {h : Hp} (c : Cl C h) (Cv0 : C v0) (Cv7 : C v7) : Ao (qV C h) (f_mSeals_label_b120 k120 v0 v1 v2 v4 v5 v6 v7 v8 v12 h) := by
  unfold f_mSeals_label_b120
  have F0 := Av.rf c
  refine ao_it ?_ ?_
  · refine ao_b1 F0 (av_mSeals_tell (F0.cl) Cv0) (fun h22 F1 => ?_)
    exact ao_jV F1 (av_mSeals_label_b150_lp FU (F1.cl) Cv0 Cv7)
  · refine ao_it ao_no ?_
    refine ao_it ?_ ao_no
    refine ao_b1 F0 (av_mSeals_tell (F0.cl) Cv0) (fun h26 F2 => ?_)
    exact ao_jV F2 (hk120 _ _ _ _ _ _ _ _ _ _ (F2.cl) Cv0 Cv7)
theorem av_mSeals_label_b120_lp {C : Nat → Prop} (n : Nat) : ∀ {v0 : Nat} {v1 : Nat} {v2 : Int} {v4 : Nat} {v5 : Int} {v6 : Int} {v7 : Nat} {v8 : Int} {v12 : Int} {h : Hp}, Cl C h → C v0 → C v7 → Ao (qV C h) (f_mSeals_label_b120_lp n v0 v1 v2 v4 v5 v6 v7 v8 v12 h) := by
  induction n with
  | zero => intros; exact ao_no
  | succ n ih => intro v0 v1 v2 v4 v5 v6 v7 v8 v12 h c Cv0 Cv7; exact av_mSeals_label_b120 (fun _ _ _ _ _ _ _ _ _ h => ih) c Cv0 Cv7
theorem av_mSeals_label_b83 {C : Nat → Prop} {k83 : Nat → Nat → Int → Nat → Int → Int → Nat → Int → Int → Int → Hp → Option (Hp)} (hk83 : ∀ (v0 : Nat) (v1 : Nat) (v2 : Int) (v4 : Nat) (v5 : Int) (v6 : Int) (v7 : Nat) (v8 : Int) (v9 : Int) (v12 : Int) (h : Hp), Cl C h → C v0 → C v7 → Ao (qV C h) (k83 v0 v1 v2 v4 v5 v6 v7 v8 v9 v12 h)) {v0 : Nat} {v1 : Nat} {v2 : Int} {v4 : Nat} {v5 : Int} {v6 : Int} {v7 : Nat} {v8 : Int} {v9 : Int} {v12 : Int} {h : Hp} (c : Cl C h) (Cv0 : C v0) (Cv7 : C v7) : Ao (qV C h) (f_mSeals_label_b83 k83 v0 v1 v2 v4 v5 v6 v7 v8 v9 v12 h) := by
  unfold f_mSeals_label_b83
  have F0 := Av.rf c
  refine ao_it ?_ ?_
  · refine ao_b1 F0 (av_mSeals_tell (F0.cl) Cv0) (fun h18 F1 => ?_)
    exact ao_jV F1 (av_mSeals_label_b120_lp FU (F1.cl) Cv0 Cv7)
  · refine ao_b1 F0 (av_mSeals_tell (F0.cl) Cv0) (fun h20 F2 => ?_)
    exact ao_jV F2 (hk83 _ _ _ _ _ _ _ _ _ _ _ (F2.cl) Cv0 Cv7)
theorem av_mSeals_label_b83_lp {C : Nat → Prop} (n : Nat) : ∀ {v0 : Nat} {v1 : Nat} {v2 : Int} {v4 : Nat} {v5 : Int} {v6 : Int} {v7 : Nat} {v8 : Int} {v9 : Int} {v12 : Int} {h : Hp}, Cl C h → C v0 → C v7 → Ao (qV C h) (f_mSeals_label_b83_lp n v0 v1 v2 v4 v5 v6 v7 v8 v9 v12 h) := by
  induction n with
  | zero => intros; exact ao_no
  | succ n ih => intro v0 v1 v2 v4 v5 v6 v7 v8 v9 v12 h c Cv0 Cv7; exact av_mSeals_label_b83 (fun _ _ _ _ _ _ _ _ _ _ h => ih) c Cv0 Cv7
theorem av_mSeals_label_b35 {C : Nat → Prop} {v0 : Nat} {v1 : Nat} {v2 : Int} {v4 : Nat} {v5 : Int} {v6 : Int} {v7 : Nat} {v8 : Int} {v9 : Int} {v11 : Int} {h : Hp} (c : Cl C h) (Cv0 : C v0) (Cv7 : C v7) : Ao (qV C h) (f_mSeals_label_b35 v0 v1 v2 v4 v5 v6 v7 v8 v9 v11 h) := by
  unfold f_mSeals_label_b35
  have F0 := Av.rf c
  refine ao_I F0 Cv0 (fun h4 F1 => ?_)
  refine ao_b1 F1 (av_mSeals_tell (F1.cl) Cv0) (fun h5 F2 => ?_)
  refine ao_b1 F2 (av_mSeals_tell (F2.cl) Cv0) (fun h7 F3 => ?_)
  refine ao_b1 F3 (av_mSeals_tell (F3.cl) Cv0) (fun h9 F4 => ?_)
  refine ao_b1 F4 (av_mSeals_tell (F4.cl) Cv0) (fun h11 F5 => ?_)
  refine ao_b1 F5 (av_mSeals_tell (F5.cl) Cv0) (fun h13 F6 => ?_)
  refine ao_b1 F6 (av_mSeals_tell (F6.cl) Cv0) (fun h15 F7 => ?_)
  refine ao_v (fun y17 => ?_)
  exact ao_jV F7 (av_mSeals_label_b83_lp FU (F7.cl) Cv0 Cv7)
theorem av_mSeals_label_b9 {C : Nat → Prop} {k9 : Nat → Nat → Int → Nat → Int → Int → Nat → Int → Int → Int → Hp → Option (Hp)} (hk9 : ∀ (v0 : Nat) (v1 : Nat) (v2 : Int) (v4 : Nat) (v5 : Int) (v6 : Int) (v7 : Nat) (v8 : Int) (v9 : Int) (v11 : Int) (h : Hp), Cl C h → C v0 → C v7 → Ao (qV C h) (k9 v0 v1 v2 v4 v5 v6 v7 v8 v9 v11 h)) {v0 : Nat} {v1 : Nat} {v2 : Int} {v4 : Nat} {v5 : Int} {v6 : Int} {v7 : Nat} {v8 : Int} {v9 : Int} {v11 : Int} {h : Hp} (c : Cl C h) (Cv0 : C v0) (Cv7 : C v7) : Ao (qV C h) (f_mSeals_label_b9 k9 v0 v1 v2 v4 v5 v6 v7 v8 v9 v11 h) := by
  unfold f_mSeals_label_b9
  have F0 := Av.rf c
  refine ao_it ?_ ?_
  · exact ao_jV F0 (av_mSeals_label_b35 (F0.cl) Cv0 Cv7)
  · refine ao_it ?_ ?_
    · exact ao_jV F0 (av_mSeals_label_b35 (F0.cl) Cv0 Cv7)
    · exact ao_jV F0 (hk9 _ _ _ _ _ _ _ _ _ _ _ (F0.cl) Cv0 Cv7)
theorem av_mSeals_label_b9_lp {C : Nat → Prop} (n : Nat) : ∀ {v0 : Nat} {v1 : Nat} {v2 : Int} {v4 : Nat} {v5 : Int} {v6 : Int} {v7 : Nat} {v8 : Int} {v9 : Int} {v11 : Int} {h : Hp}, Cl C h → C v0 → C v7 → Ao (qV C h) (f_mSeals_label_b9_lp n v0 v1 v2 v4 v5 v6 v7 v8 v9 v11 h) := by
  induction n with
  | zero => intros; exact ao_no
  | succ n ih => intro v0 v1 v2 v4 v5 v6 v7 v8 v9 v11 h c Cv0 Cv7; exact av_mSeals_label_b9 (fun _ _ _ _ _ _ _ _ _ _ h => ih) c Cv0 Cv7
theorem av_mSeals_label {C : Nat → Prop} {v0 : Nat} {v1 : Nat} {v2 : Int} {v3 : Int} {v4 : Nat} {v5 : Int} {v6 : Int} {v7 : Nat} {v8 : Int} {h : Hp} (c : Cl C h) (Cv0 : C v0) (Cv7 : C v7) : Ao (qV C h) (f_mSeals_label v0 v1 v2 v3 v4 v5 v6 v7 v8 h) := by
  unfold f_mSeals_label
  have F0 := Av.rf c
  refine ao_b2 F0 (av_mSeals_words (F0.cl)) (fun r3 h1 F1 => ?_)
  exact ao_jV F1 (av_mSeals_label_b9_lp FU (F1.cl) Cv0 Cv7)
theorem av_mGreet_firstSecrets_b51 {C : Nat → Prop} {k51 : Nat → Nat → Int → Hp → Option (Hp)} (hk51 : ∀ (v0 : Nat) (v4 : Nat) (v5 : Int) (h : Hp), Cl C h → C v0 → C v4 → Ao (qV C h) (k51 v0 v4 v5 h)) {v0 : Nat} {v4 : Nat} {v5 : Int} {h : Hp} (c : Cl C h) (Cv0 : C v0) (Cv4 : C v4) : Ao (qV C h) (f_mGreet_firstSecrets_b51 k51 v0 v4 v5 h) := by
  unfold f_mGreet_firstSecrets_b51
  have F0 := Av.rf c
  refine ao_it ?_ ?_
  · exact ao_so F0
  · refine ao_it ao_no ?_
    refine ao_b1 F0 (av_mSeals_label (F0.cl) (F0.cl.r Cv0) Cv4) (fun h8 F1 => ?_)
    exact ao_jV F1 (hk51 _ _ _ _ (F1.cl) Cv0 Cv4)
theorem av_mGreet_firstSecrets_b51_lp {C : Nat → Prop} (n : Nat) : ∀ {v0 : Nat} {v4 : Nat} {v5 : Int} {h : Hp}, Cl C h → C v0 → C v4 → Ao (qV C h) (f_mGreet_firstSecrets_b51_lp n v0 v4 v5 h) := by
  induction n with
  | zero => intros; exact ao_no
  | succ n ih => intro v0 v4 v5 h c Cv0 Cv4; exact av_mGreet_firstSecrets_b51 (fun _ _ _ h => ih) c Cv0 Cv4
theorem av_mGreet_firstSecrets_b3 {C : Nat → Prop} {k3 : Nat → Nat → Int → Int → Nat → Int → Hp → Option (Hp)} (hk3 : ∀ (v0 : Nat) (v1 : Nat) (v2 : Int) (v3 : Int) (v4 : Nat) (v5 : Int) (h : Hp), Cl C h → C v0 → C v4 → Ao (qV C h) (k3 v0 v1 v2 v3 v4 v5 h)) {v0 : Nat} {v1 : Nat} {v2 : Int} {v3 : Int} {v4 : Nat} {v5 : Int} {h : Hp} (c : Cl C h) (Cv0 : C v0) (Cv4 : C v4) : Ao (qV C h) (f_mGreet_firstSecrets_b3 k3 v0 v1 v2 v3 v4 v5 h) := by
  unfold f_mGreet_firstSecrets_b3
  have F0 := Av.rf c
  refine ao_it ?_ ?_
  · refine ao_it ao_no ?_
    refine ao_b1 F0 (av_mSeals_mac (F0.cl) (F0.cl.r Cv0) (F0.cl.r Cv0)) (fun h2 F1 => ?_)
    exact ao_jV F1 (av_mGreet_firstSecrets_b51_lp FU (F1.cl) Cv0 Cv4)
  · refine ao_it ao_no ?_
    refine ao_it ?_ ao_no
    refine ao_I F0 (F0.cl.r Cv0) (fun h6 F2 => ?_)
    exact ao_jV F2 (hk3 _ _ _ _ _ _ _ (F2.cl) Cv0 Cv4)
theorem av_mGreet_firstSecrets_b3_lp {C : Nat → Prop} (n : Nat) : ∀ {v0 : Nat} {v1 : Nat} {v2 : Int} {v3 : Int} {v4 : Nat} {v5 : Int} {h : Hp}, Cl C h → C v0 → C v4 → Ao (qV C h) (f_mGreet_firstSecrets_b3_lp n v0 v1 v2 v3 v4 v5 h) := by
  induction n with
  | zero => intros; exact ao_no
  | succ n ih => intro v0 v1 v2 v3 v4 v5 h c Cv0 Cv4; exact av_mGreet_firstSecrets_b3 (fun _ _ _ _ _ _ h => ih) c Cv0 Cv4
theorem av_mGreet_firstSecrets {C : Nat → Prop} {v0 : Nat} {v1 : Nat} {v2 : Int} {v3 : Int} {v4 : Nat} {h : Hp} (c : Cl C h) (Cv0 : C v0) (Cv4 : C v4) : Ao (qV C h) (f_mGreet_firstSecrets v0 v1 v2 v3 v4 h) := by
  unfold f_mGreet_firstSecrets
  have F0 := Av.rf c
  exact ao_jV F0 (av_mGreet_firstSecrets_b3_lp FU (F0.cl) Cv0 Cv4)
theorem av_mSeals_arm {C : Nat → Prop} {v0 : Nat} {v1 : Nat} {v2 : Int} {v3 : Nat} {v4 : Int} {h : Hp} (c : Cl C h) (Cv0 : C v0) (Cv3 : C v3) : Ao (qV C h) (f_mSeals_arm v0 v1 v2 v3 v4 h) := by
  unfold f_mSeals_arm
  have F0 := Av.rf c
  refine ao_b1 F0 (av_mSeals_label (F0.cl) Cv0 Cv3) (fun h1 F1 => ?_)
  refine ao_b1 F1 (av_mSeals_label (F1.cl) Cv0 Cv3) (fun h3 F2 => ?_)
  refine ao_b1 F2 (av_mSeals_label (F2.cl) Cv0 Cv3) (fun h5 F3 => ?_)
  exact ao_so F3
theorem av_mSide_arm {C : Nat → Prop} {v0 : Nat} {v1 : Int} {h : Hp} (c : Cl C h) (Cv0 : C v0) : Ao (qV C h) (f_mSide_arm v0 v1 h) := by
  unfold f_mSide_arm
  have F0 := Av.rf c
  refine ao_it ao_no ?_
  refine ao_it ao_no ?_
  refine ao_b1 F0 (av_mSeals_arm (F0.cl) (F0.cl.r Cv0) (F0.cl.r Cv0)) (fun h3 F1 => ?_)
  refine ao_it ao_no ?_
  refine ao_it ao_no ?_
  refine ao_b1 F1 (av_mSeals_arm (F1.cl) (F1.cl.r Cv0) (F1.cl.r Cv0)) (fun h7 F2 => ?_)
  refine ao_it ao_no ?_
  refine ao_it ?_ ao_no
  refine ao_I F2 (F2.cl.r Cv0) (fun h11 F3 => ?_)
  exact ao_so F3
theorem av_mSide_putOwn {C : Nat → Prop} {v0 : Nat} {v1 : Int} {h : Hp} (c : Cl C h) (Cv0 : C v0) : Ao (qV C h) (f_mSide_putOwn v0 v1 h) := by
  unfold f_mSide_putOwn
  have F0 := Av.rf c
  refine ao_it ao_no ?_
  refine ao_it ao_no ?_
  refine ao_it ?_ ao_no
  refine ao_I F0 (F0.cl.r (F0.cl.r Cv0)) (fun h4 F1 => ?_)
  refine ao_it ao_no ?_
  refine ao_I F1 (F1.cl.r Cv0) (fun h6 F2 => ?_)
  exact ao_so F2
theorem av_mSide_putName_b14 {C : Nat → Prop} {k14 : Nat → Nat → Int → Int → Hp → Option (Hp)} (hk14 : ∀ (v0 : Nat) (v2 : Nat) (v3 : Int) (v4 : Int) (h : Hp), Cl C h → C v0 → Ao (qV C h) (k14 v0 v2 v3 v4 h)) {v0 : Nat} {v2 : Nat} {v3 : Int} {v4 : Int} {h : Hp} (c : Cl C h) (Cv0 : C v0) : Ao (qV C h) (f_mSide_putName_b14 k14 v0 v2 v3 v4 h) := by
  unfold f_mSide_putName_b14
  have F0 := Av.rf c
  refine ao_it ?_ ?_
  · exact ao_so F0
  · refine ao_it ao_no ?_
    refine ao_it ?_ ao_no
    refine ao_b1 F0 (av_mSide_putOwn (F0.cl) Cv0) (fun h7 F1 => ?_)
    exact ao_jV F1 (hk14 _ _ _ _ _ (F1.cl) Cv0)
theorem av_mSide_putName_b14_lp {C : Nat → Prop} (n : Nat) : ∀ {v0 : Nat} {v2 : Nat} {v3 : Int} {v4 : Int} {h : Hp}, Cl C h → C v0 → Ao (qV C h) (f_mSide_putName_b14_lp n v0 v2 v3 v4 h) := by
  induction n with
  | zero => intros; exact ao_no
  | succ n ih => intro v0 v2 v3 v4 h c Cv0; exact av_mSide_putName_b14 (fun _ _ _ _ h => ih) c Cv0
theorem av_mSide_putName {C : Nat → Prop} {v0 : Nat} {v1 : Int} {v2 : Nat} {v3 : Int} {h : Hp} (c : Cl C h) (Cv0 : C v0) : Ao (qV C h) (f_mSide_putName v0 v1 v2 v3 h) := by
  unfold f_mSide_putName
  have F0 := Av.rf c
  refine ao_b1 F0 (av_mSide_putOwn (F0.cl) Cv0) (fun h1 F1 => ?_)
  refine ao_b1 F1 (av_mSide_putOwn (F1.cl) Cv0) (fun h3 F2 => ?_)
  exact ao_jV F2 (av_mSide_putName_b14_lp FU (F2.cl) Cv0)
theorem av_mWire_needs {C : Nat → Prop} {v0 : Int} {h : Hp} (c : Cl C h) : Ao (qI C h) (f_mWire_needs v0 h) := by
  unfold f_mWire_needs
  have F0 := Av.rf c
  refine ao_it ?_ ?_
  · refine ao_it ?_ ?_
    · refine ao_it ?_ ?_
      · exact ao_so F0
      · exact ao_so F0
    · exact ao_so F0
  · exact ao_so F0
theorem av_mSide_putNumber_b74 {C : Nat → Prop} {k74 : Nat → Int → Int → Hp → Option (Hp)} (hk74 : ∀ (v0 : Nat) (v7 : Int) (v9 : Int) (h : Hp), Cl C h → C v0 → Ao (qV C h) (k74 v0 v7 v9 h)) {v0 : Nat} {v7 : Int} {v9 : Int} {h : Hp} (c : Cl C h) (Cv0 : C v0) : Ao (qV C h) (f_mSide_putNumber_b74 k74 v0 v7 v9 h) := by
  unfold f_mSide_putNumber_b74
  have F0 := Av.rf c
  refine ao_it ?_ ?_
  · exact ao_so F0
  · refine ao_b1 F0 (av_mSide_putOwn (F0.cl) Cv0) (fun h10 F1 => ?_)
    exact ao_jV F1 (hk74 _ _ _ _ (F1.cl) Cv0)
theorem av_mSide_putNumber_b74_lp {C : Nat → Prop} (n : Nat) : ∀ {v0 : Nat} {v7 : Int} {v9 : Int} {h : Hp}, Cl C h → C v0 → Ao (qV C h) (f_mSide_putNumber_b74_lp n v0 v7 v9 h) := by
  induction n with
  | zero => intros; exact ao_no
  | succ n ih => intro v0 v7 v9 h c Cv0; exact av_mSide_putNumber_b74 (fun _ _ _ h => ih) c Cv0
theorem av_mSide_putNumber_b52 {C : Nat → Prop} {v0 : Nat} {v2 : Int} {v4 : Int} {s0 : Int} {h : Hp} (c : Cl C h) (Cv0 : C v0) : Ao (qV C h) (f_mSide_putNumber_b52 v0 v2 v4 s0 h) := by
  unfold f_mSide_putNumber_b52
  have F0 := Av.rf c
  refine ao_v (fun y8 => ?_)
  refine ao_v (fun y9 => ?_)
  exact ao_jV F0 (av_mSide_putNumber_b74_lp FU (F0.cl) Cv0)
theorem av_mSide_putNumber {C : Nat → Prop} {v0 : Nat} {v1 : Int} {v2 : Int} {h : Hp} (c : Cl C h) (Cv0 : C v0) : Ao (qV C h) (f_mSide_putNumber v0 v1 v2 h) := by
  unfold f_mSide_putNumber
  have F0 := Av.rf c
  refine ao_b2 F0 (av_mWire_needs (F0.cl)) (fun r3 h1 F1 => ?_)
  refine ao_b1 F1 (av_mSide_putOwn (F1.cl) Cv0) (fun h4 F2 => ?_)
  refine ao_b1 F2 (av_mSide_putOwn (F2.cl) Cv0) (fun h6 F3 => ?_)
  refine ao_it ?_ ?_
  · refine ao_it ?_ ?_
    · refine ao_it ?_ ?_
      · exact ao_jV F3 (av_mSide_putNumber_b52 (F3.cl) Cv0)
      · exact ao_jV F3 (av_mSide_putNumber_b52 (F3.cl) Cv0)
    · exact ao_jV F3 (av_mSide_putNumber_b52 (F3.cl) Cv0)
  · exact ao_jV F3 (av_mSide_putNumber_b52 (F3.cl) Cv0)
theorem av_mSide_makeParameters_b113 {C : Nat → Prop} {k28 : Nat → Int → Hp → Option (Hp)} (hk28 : ∀ (v0 : Nat) (v1 : Int) (h : Hp), Cl C h → C v0 → Ao (qV C h) (k28 v0 v1 h)) {v0 : Nat} {v1 : Int} {h : Hp} (c : Cl C h) (Cv0 : C v0) : Ao (qV C h) (f_mSide_makeParameters_b113 k28 v0 v1 h) := by
  unfold f_mSide_makeParameters_b113
  have F0 := Av.rf c
  exact ao_jV F0 (hk28 _ _ _ (F0.cl) Cv0)
theorem av_mSide_makeParameters_b91 {C : Nat → Prop} {k28 : Nat → Int → Hp → Option (Hp)} (hk28 : ∀ (v0 : Nat) (v1 : Int) (h : Hp), Cl C h → C v0 → Ao (qV C h) (k28 v0 v1 h)) {v0 : Nat} {v1 : Int} {h : Hp} (c : Cl C h) (Cv0 : C v0) : Ao (qV C h) (f_mSide_makeParameters_b91 k28 v0 v1 h) := by
  unfold f_mSide_makeParameters_b91
  have F0 := Av.rf c
  refine ao_it ao_no ?_
  refine ao_it ?_ ao_no
  refine ao_it ?_ ?_
  · exact ao_jV F0 (av_mSide_makeParameters_b113 hk28 (F0.cl) Cv0)
  · refine ao_it ?_ ao_no
    refine ao_b1 F0 (av_mSide_putNumber (F0.cl) Cv0) (fun h17 F1 => ?_)
    exact ao_jV F1 (av_mSide_makeParameters_b113 hk28 (F1.cl) Cv0)
theorem av_mSide_makeParameters_b75 {C : Nat → Prop} {k28 : Nat → Int → Hp → Option (Hp)} (hk28 : ∀ (v0 : Nat) (v1 : Int) (h : Hp), Cl C h → C v0 → Ao (qV C h) (k28 v0 v1 h)) {v0 : Nat} {v1 : Int} {h : Hp} (c : Cl C h) (Cv0 : C v0) : Ao (qV C h) (f_mSide_makeParameters_b75 k28 v0 v1 h) := by
  unfold f_mSide_makeParameters_b75
  have F0 := Av.rf c
  refine ao_it ?_ ?_
  · exact ao_jV F0 (av_mSide_makeParameters_b91 hk28 (F0.cl) Cv0)
  · refine ao_it ?_ ?_
    · exact ao_jV F0 (av_mSide_makeParameters_b113 hk28 (F0.cl) Cv0)
    · refine ao_it ?_ ?_
      · exact ao_jV F0 (av_mSide_makeParameters_b113 hk28 (F0.cl) Cv0)
      · exact ao_jV F0 (av_mSide_makeParameters_b91 hk28 (F0.cl) Cv0)
theorem av_mSide_makeParameters_b60 {C : Nat → Prop} {k28 : Nat → Int → Hp → Option (Hp)} (hk28 : ∀ (v0 : Nat) (v1 : Int) (h : Hp), Cl C h → C v0 → Ao (qV C h) (k28 v0 v1 h)) {v0 : Nat} {v1 : Int} {h : Hp} (c : Cl C h) (Cv0 : C v0) : Ao (qV C h) (f_mSide_makeParameters_b60 k28 v0 v1 h) := by
  unfold f_mSide_makeParameters_b60
  have F0 := Av.rf c
  refine ao_it ?_ ?_
  · exact ao_jV F0 (av_mSide_makeParameters_b75 hk28 (F0.cl) Cv0)
  · refine ao_b1 F0 (av_mSide_putNumber (F0.cl) Cv0) (fun h12 F1 => ?_)
    exact ao_jV F1 (av_mSide_makeParameters_b75 hk28 (F1.cl) Cv0)
theorem av_mSide_makeParameters_b47 {C : Nat → Prop} {k28 : Nat → Int → Hp → Option (Hp)} (hk28 : ∀ (v0 : Nat) (v1 : Int) (h : Hp), Cl C h → C v0 → Ao (qV C h) (k28 v0 v1 h)) {v0 : Nat} {v1 : Int} {h : Hp} (c : Cl C h) (Cv0 : C v0) : Ao (qV C h) (f_mSide_makeParameters_b47 k28 v0 v1 h) := by
  unfold f_mSide_makeParameters_b47
  have F0 := Av.rf c
  refine ao_it ?_ ?_
  · exact ao_jV F0 (av_mSide_makeParameters_b60 hk28 (F0.cl) Cv0)
  · refine ao_b1 F0 (av_mSide_putNumber (F0.cl) Cv0) (fun h10 F1 => ?_)
    exact ao_jV F1 (av_mSide_makeParameters_b60 hk28 (F1.cl) Cv0)
theorem av_mSide_makeParameters_b28 {C : Nat → Prop} {k28 : Nat → Int → Hp → Option (Hp)} (hk28 : ∀ (v0 : Nat) (v1 : Int) (h : Hp), Cl C h → C v0 → Ao (qV C h) (k28 v0 v1 h)) {v0 : Nat} {v1 : Int} {h : Hp} (c : Cl C h) (Cv0 : C v0) : Ao (qV C h) (f_mSide_makeParameters_b28 k28 v0 v1 h) := by
  unfold f_mSide_makeParameters_b28
  have F0 := Av.rf c
  refine ao_it ?_ ?_
  · refine ao_it ao_no ?_
    refine ao_b1 F0 (av_mSide_putName (F0.cl) Cv0) (fun h6 F1 => ?_)
    exact ao_so F1
  · refine ao_it ?_ ?_
    · exact ao_jV F0 (av_mSide_makeParameters_b47 hk28 (F0.cl) Cv0)
    · refine ao_b1 F0 (av_mSide_putNumber (F0.cl) Cv0) (fun h8 F2 => ?_)
      exact ao_jV F2 (av_mSide_makeParameters_b47 hk28 (F2.cl) Cv0)
theorem av_mSide_makeParameters_b28_lp {C : Nat → Prop} (n : Nat) : ∀ {v0 : Nat} {v1 : Int} {h : Hp}, Cl C h → C v0 → Ao (qV C h) (f_mSide_makeParameters_b28_lp n v0 v1 h) := by
  induction n with
  | zero => intros; exact ao_no
  | succ n ih => intro v0 v1 h c Cv0; exact av_mSide_makeParameters_b28 (fun _ _ h => ih) c Cv0
theorem av_mSide_makeParameters_b26 {C : Nat → Prop} {v0 : Nat} {h : Hp} (c : Cl C h) (Cv0 : C v0) : Ao (qV C h) (f_mSide_makeParameters_b26 v0 h) := by
  unfold f_mSide_makeParameters_b26
  have F0 := Av.rf c
  exact ao_jV F0 (av_mSide_makeParameters_b28_lp FU (F0.cl) Cv0)
theorem av_mSide_makeParameters {C : Nat → Prop} {v0 : Nat} {h : Hp} (c : Cl C h) (Cv0 : C v0) : Ao (qV C h) (f_mSide_makeParameters v0 h) := by
  unfold f_mSide_makeParameters
  have F0 := Av.rf c
  refine ao_it ao_no ?_
  refine ao_I F0 (F0.cl.r Cv0) (fun h2 F1 => ?_)
  refine ao_it ?_ ?_
  · exact ao_jV F1 (av_mSide_makeParameters_b26 (F1.cl) Cv0)
  · refine ao_b1 F1 (av_mSide_putName (F1.cl) Cv0) (fun h3 F2 => ?_)
    exact ao_jV F2 (av_mSide_makeParameters_b26 (F2.cl) Cv0)
theorem av_mGreet_send {C : Nat → Prop} {v0 : Nat} {v1 : Int} {v2 : Int} {h : Hp} (c : Cl C h) (Cv0 : C v0) : Ao (qV C h) (f_mGreet_send v0 v1 v2 h) := by
  unfold f_mGreet_send
  have F0 := Av.rf c
  refine ao_it ao_no ?_
  refine ao_it ?_ ao_no
  refine ao_it ao_no ?_
  refine ao_it ?_ ao_no
  refine ao_I F0 (F0.cl.r Cv0) (fun h5 F1 => ?_)
  refine ao_it ao_no ?_
  refine ao_it ?_ ao_no
  refine ao_it ?_ ao_no
  refine ao_I F1 (F1.cl.r Cv0) (fun h9 F2 => ?_)
  exact ao_so F2
theorem av_mGreet_note {C : Nat → Prop} {v0 : Nat} {v1 : Int} {h : Hp} (c : Cl C h) (Cv0 : C v0) : Ao (qV C h) (f_mGreet_note v0 v1 h) := by
  unfold f_mGreet_note
  have F0 := Av.rf c
  refine ao_it ao_no ?_
  refine ao_it ?_ ao_no
  refine ao_I F0 (F0.cl.r Cv0) (fun h3 F1 => ?_)
  refine ao_I F1 Cv0 (fun h4 F2 => ?_)
  exact ao_so F2
theorem av_mGreet_says_b142 {C : Nat → Prop} {k122 : Nat → Int → Int → Int → Int → Int → Hp → Option (Hp)} (hk122 : ∀ (v0 : Nat) (v1 : Int) (v2 : Int) (v3 : Int) (v4 : Int) (v6 : Int) (h : Hp), Cl C h → C v0 → Ao (qV C h) (k122 v0 v1 v2 v3 v4 v6 h)) {v0 : Nat} {v1 : Int} {v2 : Int} {v3 : Int} {v4 : Int} {v6 : Int} {h : Hp} (c : Cl C h) (Cv0 : C v0) : Ao (qV C h) (f_mGreet_says_b142 k122 v0 v1 v2 v3 v4 v6 h) := by
  unfold f_mGreet_says_b142
  have F0 := Av.rf c
  refine ao_it ao_no ?_
  refine ao_it ?_ ao_no
  refine ao_b1 F0 (av_mGreet_send (F0.cl) Cv0) (fun h28 F1 => ?_)
  exact ao_jV F1 (hk122 _ _ _ _ _ _ _ (F1.cl) Cv0)
theorem av_mGreet_says_b198 {C : Nat → Prop} {k198 : Nat → Int → Int → Int → Hp → Option (Hp)} (hk198 : ∀ (v0 : Nat) (v2 : Int) (v3 : Int) (v6 : Int) (h : Hp), Cl C h → C v0 → Ao (qV C h) (k198 v0 v2 v3 v6 h)) {v0 : Nat} {v2 : Int} {v3 : Int} {v6 : Int} {h : Hp} (c : Cl C h) (Cv0 : C v0) : Ao (qV C h) (f_mGreet_says_b198 k198 v0 v2 v3 v6 h) := by
  unfold f_mGreet_says_b198
  have F0 := Av.rf c
  refine ao_it ao_no ?_
  refine ao_it ?_ ao_no
  refine ao_it ?_ ?_
  · exact ao_so F0
  · refine ao_it ?_ ?_
    · exact ao_so F0
    · refine ao_it ao_no ?_
      refine ao_it ?_ ao_no
      refine ao_b1 F0 (av_mGreet_note (F0.cl) Cv0) (fun h24 F1 => ?_)
      exact ao_jV F1 (hk198 _ _ _ _ _ (F1.cl) Cv0)
theorem av_mGreet_says_b198_lp {C : Nat → Prop} (n : Nat) : ∀ {v0 : Nat} {v2 : Int} {v3 : Int} {v6 : Int} {h : Hp}, Cl C h → C v0 → Ao (qV C h) (f_mGreet_says_b198_lp n v0 v2 v3 v6 h) := by
  induction n with
  | zero => intros; exact ao_no
  | succ n ih => intro v0 v2 v3 v6 h c Cv0; exact av_mGreet_says_b198 (fun _ _ _ _ h => ih) c Cv0
theorem av_mGreet_says_b194 {C : Nat → Prop} {v0 : Nat} {v2 : Int} {v3 : Int} {v4 : Int} {h : Hp} (c : Cl C h) (Cv0 : C v0) : Ao (qV C h) (f_mGreet_says_b194 v0 v2 v3 v4 h) := by
  unfold f_mGreet_says_b194
  have F0 := Av.rf c
  exact ao_jV F0 (av_mGreet_says_b198_lp FU (F0.cl) Cv0)
theorem av_mGreet_says_b163 {C : Nat → Prop} {k163 : Nat → Int → Int → Int → Int → Int → Hp → Option (Hp)} (hk163 : ∀ (v0 : Nat) (v1 : Int) (v2 : Int) (v3 : Int) (v4 : Int) (v6 : Int) (h : Hp), Cl C h → C v0 → Ao (qV C h) (k163 v0 v1 v2 v3 v4 v6 h)) {v0 : Nat} {v1 : Int} {v2 : Int} {v3 : Int} {v4 : Int} {v6 : Int} {h : Hp} (c : Cl C h) (Cv0 : C v0) : Ao (qV C h) (f_mGreet_says_b163 k163 v0 v1 v2 v3 v4 v6 h) := by
  unfold f_mGreet_says_b163
  have F0 := Av.rf c
  refine ao_it ?_ ?_
  · exact ao_jV F0 (av_mGreet_says_b194 (F0.cl) Cv0)
  · refine ao_it ?_ ?_
    · exact ao_jV F0 (av_mGreet_says_b194 (F0.cl) Cv0)
    · refine ao_it ao_no ?_
      refine ao_it ?_ ao_no
      refine ao_b1 F0 (av_mGreet_send (F0.cl) Cv0) (fun h18 F1 => ?_)
      exact ao_jV F1 (hk163 _ _ _ _ _ _ _ (F1.cl) Cv0)
theorem av_mGreet_says_b163_lp {C : Nat → Prop} (n : Nat) : ∀ {v0 : Nat} {v1 : Int} {v2 : Int} {v3 : Int} {v4 : Int} {v6 : Int} {h : Hp}, Cl C h → C v0 → Ao (qV C h) (f_mGreet_says_b163_lp n v0 v1 v2 v3 v4 v6 h) := by
  induction n with
  | zero => intros; exact ao_no
  | succ n ih => intro v0 v1 v2 v3 v4 v6 h c Cv0; exact av_mGreet_says_b163 (fun _ _ _ _ _ _ h => ih) c Cv0
theorem av_mGreet_says_b160 {C : Nat → Prop} {v0 : Nat} {v1 : Int} {v2 : Int} {v3 : Int} {v4 : Int} {h : Hp} (c : Cl C h) (Cv0 : C v0) : Ao (qV C h) (f_mGreet_says_b160 v0 v1 v2 v3 v4 h) := by
  unfold f_mGreet_says_b160
  have F0 := Av.rf c
  exact ao_jV F0 (av_mGreet_says_b163_lp FU (F0.cl) Cv0)
theorem av_mGreet_says_b122 {C : Nat → Prop} {k122 : Nat → Int → Int → Int → Int → Int → Hp → Option (Hp)} (hk122 : ∀ (v0 : Nat) (v1 : Int) (v2 : Int) (v3 : Int) (v4 : Int) (v6 : Int) (h : Hp), Cl C h → C v0 → Ao (qV C h) (k122 v0 v1 v2 v3 v4 v6 h)) {v0 : Nat} {v1 : Int} {v2 : Int} {v3 : Int} {v4 : Int} {v6 : Int} {h : Hp} (c : Cl C h) (Cv0 : C v0) : Ao (qV C h) (f_mGreet_says_b122 k122 v0 v1 v2 v3 v4 v6 h) := by
  unfold f_mGreet_says_b122
  have F0 := Av.rf c
  refine ao_it ?_ ?_
  · exact ao_jV F0 (av_mGreet_says_b160 (F0.cl) Cv0)
  · refine ao_it ?_ ?_
    · exact ao_jV F0 (av_mGreet_says_b142 hk122 (F0.cl) Cv0)
    · refine ao_it ?_ ?_
      · exact ao_jV F0 (av_mGreet_says_b160 (F0.cl) Cv0)
      · exact ao_jV F0 (av_mGreet_says_b142 hk122 (F0.cl) Cv0)
theorem av_mGreet_says_b122_lp {C : Nat → Prop} (n : Nat) : ∀ {v0 : Nat} {v1 : Int} {v2 : Int} {v3 : Int} {v4 : Int} {v6 : Int} {h : Hp}, Cl C h → C v0 → Ao (qV C h) (f_mGreet_says_b122_lp n v0 v1 v2 v3 v4 v6 h) := by
  induction n with
  | zero => intros; exact ao_no
  | succ n ih => intro v0 v1 v2 v3 v4 v6 h c Cv0; exact av_mGreet_says_b122 (fun _ _ _ _ _ _ h => ih) c Cv0
theorem av_mGreet_says_b119 {C : Nat → Prop} {v0 : Nat} {v1 : Int} {v2 : Int} {v3 : Int} {v4 : Int} {h : Hp} (c : Cl C h) (Cv0 : C v0) : Ao (qV C h) (f_mGreet_says_b119 v0 v1 v2 v3 v4 h) := by
  unfold f_mGreet_says_b119
  have F0 := Av.rf c
  exact ao_jV F0 (av_mGreet_says_b122_lp FU (F0.cl) Cv0)
theorem av_mGreet_says_b88 {C : Nat → Prop} {k88 : Nat → Int → Int → Int → Int → Int → Hp → Option (Hp)} (hk88 : ∀ (v0 : Nat) (v1 : Int) (v2 : Int) (v3 : Int) (v4 : Int) (v6 : Int) (h : Hp), Cl C h → C v0 → Ao (qV C h) (k88 v0 v1 v2 v3 v4 v6 h)) {v0 : Nat} {v1 : Int} {v2 : Int} {v3 : Int} {v4 : Int} {v6 : Int} {h : Hp} (c : Cl C h) (Cv0 : C v0) : Ao (qV C h) (f_mGreet_says_b88 k88 v0 v1 v2 v3 v4 v6 h) := by
  unfold f_mGreet_says_b88
  have F0 := Av.rf c
  refine ao_it ?_ ?_
  · exact ao_jV F0 (av_mGreet_says_b119 (F0.cl) Cv0)
  · refine ao_it ?_ ?_
    · exact ao_jV F0 (av_mGreet_says_b119 (F0.cl) Cv0)
    · refine ao_it ao_no ?_
      refine ao_it ?_ ao_no
      refine ao_b1 F0 (av_mGreet_send (F0.cl) Cv0) (fun h14 F1 => ?_)
      exact ao_jV F1 (hk88 _ _ _ _ _ _ _ (F1.cl) Cv0)
theorem av_mGreet_says_b88_lp {C : Nat → Prop} (n : Nat) : ∀ {v0 : Nat} {v1 : Int} {v2 : Int} {v3 : Int} {v4 : Int} {v6 : Int} {h : Hp}, Cl C h → C v0 → Ao (qV C h) (f_mGreet_says_b88_lp n v0 v1 v2 v3 v4 v6 h) := by
  induction n with
  | zero => intros; exact ao_no
  | succ n ih => intro v0 v1 v2 v3 v4 v6 h c Cv0; exact av_mGreet_says_b88 (fun _ _ _ _ _ _ h => ih) c Cv0
theorem av_mGreet_says_b50 {C : Nat → Prop} {v0 : Nat} {v1 : Int} {v2 : Int} {v3 : Int} {v4 : Int} {s0 : Int} {h : Hp} (c : Cl C h) (Cv0 : C v0) : Ao (qV C h) (f_mGreet_says_b50 v0 v1 v2 v3 v4 s0 h) := by
  unfold f_mGreet_says_b50
  have F0 := Av.rf c
  refine ao_b1 F0 (av_mGreet_send (F0.cl) Cv0) (fun h4 F1 => ?_)
  refine ao_b1 F1 (av_mGreet_send (F1.cl) Cv0) (fun h6 F2 => ?_)
  refine ao_b1 F2 (av_mGreet_send (F2.cl) Cv0) (fun h8 F3 => ?_)
  refine ao_b1 F3 (av_mGreet_send (F3.cl) Cv0) (fun h10 F4 => ?_)
  exact ao_jV F4 (av_mGreet_says_b88_lp FU (F4.cl) Cv0)
theorem av_mGreet_says_b11 {C : Nat → Prop} {v0 : Nat} {v1 : Int} {v2 : Int} {s0 : Int} {h : Hp} (c : Cl C h) (Cv0 : C v0) : Ao (qV C h) (f_mGreet_says_b11 v0 v1 v2 s0 h) := by
  unfold f_mGreet_says_b11
  have F0 := Av.rf c
  refine ao_it ao_no ?_
  refine ao_it ?_ ao_no
  refine ao_v (fun y3 => ?_)
  refine ao_it ?_ ?_
  · refine ao_it ?_ ?_
    · exact ao_jV F0 (av_mGreet_says_b50 (F0.cl) Cv0)
    · exact ao_jV F0 (av_mGreet_says_b50 (F0.cl) Cv0)
  · exact ao_jV F0 (av_mGreet_says_b50 (F0.cl) Cv0)
theorem av_mGreet_says {C : Nat → Prop} {v0 : Nat} {v1 : Int} {v2 : Int} {h : Hp} (c : Cl C h) (Cv0 : C v0) : Ao (qV C h) (f_mGreet_says v0 v1 v2 h) := by
  unfold f_mGreet_says
  have F0 := Av.rf c
  refine ao_it ?_ ?_
  · exact ao_jV F0 (av_mGreet_says_b11 (F0.cl) Cv0)
  · exact ao_jV F0 (av_mGreet_says_b11 (F0.cl) Cv0)
theorem av_mGreet_begin_b13 {C : Nat → Prop} {v0 : Nat} {s0 : Nat} {s1 : Int} {h : Hp} (c : Cl C h) (Cv0 : C v0) (Cs0 : C s0) : Ao (qV C h) (f_mGreet_begin_b13 v0 s0 s1 h) := by
  unfold f_mGreet_begin_b13
  have F0 := Av.rf c
  refine ao_it ao_no ?_
  refine ao_I F0 Cs0 (fun h2 F1 => ?_)
  refine ao_it ?_ ?_
  · exact ao_so F1
  · refine ao_b1 F1 (av_mGreet_says (F1.cl) Cv0) (fun h3 F2 => ?_)
    exact ao_so F2
theorem av_mGreet_begin {C : Nat → Prop} {v0 : Nat} {h : Hp} (c : Cl C h) (Cv0 : C v0) : Ao (qV C h) (f_mGreet_begin v0 h) := by
  unfold f_mGreet_begin
  have F0 := Av.rf c
  refine ao_it ?_ ?_
  · exact ao_jV F0 (av_mGreet_begin_b13 (F0.cl) Cv0 Cv0)
  · exact ao_jV F0 (av_mGreet_begin_b13 (F0.cl) Cv0 Cv0)
theorem av_mSide_begin_b157 {C : Nat → Prop} {k157 : Nat → Int → Hp → Option (Hp)} (hk157 : ∀ (v0 : Nat) (v3 : Int) (h : Hp), Cl C h → C v0 → Ao (qV C h) (k157 v0 v3 h)) {v0 : Nat} {v3 : Int} {h : Hp} (c : Cl C h) (Cv0 : C v0) : Ao (qV C h) (f_mSide_begin_b157 k157 v0 v3 h) := by
  unfold f_mSide_begin_b157
  have F0 := Av.rf c
  refine ao_it ?_ ?_
  · exact ao_so F0
  · refine ao_it ao_no ?_
    refine ao_it ?_ ao_no
    refine ao_it ao_no ?_
    refine ao_it ?_ ao_no
    refine ao_I F0 (F0.cl.r Cv0) (fun h36 F1 => ?_)
    exact ao_jV F1 (hk157 _ _ _ (F1.cl) Cv0)
theorem av_mSide_begin_b157_lp {C : Nat → Prop} (n : Nat) : ∀ {v0 : Nat} {v3 : Int} {h : Hp}, Cl C h → C v0 → Ao (qV C h) (f_mSide_begin_b157_lp n v0 v3 h) := by
  induction n with
  | zero => intros; exact ao_no
  | succ n ih => intro v0 v3 h c Cv0; exact av_mSide_begin_b157 (fun _ _ h => ih) c Cv0
theorem av_mSide_begin_b95 {C : Nat → Prop} {v0 : Nat} {h : Hp} (c : Cl C h) (Cv0 : C v0) : Ao (qV C h) (f_mSide_begin_b95 v0 h) := by
  unfold f_mSide_begin_b95
  have F0 := Av.rf c
  refine ao_b1 F0 (av_mSide_arm (F0.cl) Cv0) (fun h18 F1 => ?_)
  refine ao_b1 F1 (av_mSide_makeParameters (F1.cl) Cv0) (fun h20 F2 => ?_)
  refine ao_it ao_no ?_
  refine ao_b1 F2 (av_mGreet_begin (F2.cl) (F2.cl.r Cv0)) (fun h23 F3 => ?_)
  refine ao_I F3 Cv0 (fun h25 F4 => ?_)
  refine ao_it ao_no ?_
  refine ao_I F4 Cv0 (fun h27 F5 => ?_)
  refine ao_I F5 Cv0 (fun h28 F6 => ?_)
  refine ao_it ?_ ?_
  · refine ao_it ao_no ?_
    refine ao_I F6 (F6.cl.r Cv0) (fun h30 F7 => ?_)
    refine ao_I F7 Cv0 (fun h31 F8 => ?_)
    exact ao_jV F8 (av_mSide_begin_b157_lp FU (F8.cl) Cv0)
  · exact ao_so F6
theorem av_mSide_begin_b50 {C : Nat → Prop} {k50 : Nat → Int → Hp → Option (Hp)} (hk50 : ∀ (v0 : Nat) (v3 : Int) (h : Hp), Cl C h → C v0 → Ao (qV C h) (k50 v0 v3 h)) {v0 : Nat} {v3 : Int} {h : Hp} (c : Cl C h) (Cv0 : C v0) : Ao (qV C h) (f_mSide_begin_b50 k50 v0 v3 h) := by
  unfold f_mSide_begin_b50
  have F0 := Av.rf c
  refine ao_it ?_ ?_
  · refine ao_it ao_no ?_
    refine ao_it ?_ ?_
    · exact ao_jV F0 (av_mSide_begin_b95 (F0.cl) Cv0)
    · refine ao_I F0 (F0.cl.r Cv0) (fun h11 F1 => ?_)
      exact ao_jV F1 (av_mSide_begin_b95 (F1.cl) Cv0)
  · refine ao_it ao_no ?_
    refine ao_it ao_no ?_
    refine ao_it ?_ ao_no
    refine ao_it ao_no ?_
    refine ao_it ?_ ao_no
    refine ao_I F0 (F0.cl.r (F0.cl.r Cv0)) (fun h17 F2 => ?_)
    exact ao_jV F2 (hk50 _ _ _ (F2.cl) Cv0)
theorem av_mSide_begin_b50_lp {C : Nat → Prop} (n : Nat) : ∀ {v0 : Nat} {v3 : Int} {h : Hp}, Cl C h → C v0 → Ao (qV C h) (f_mSide_begin_b50_lp n v0 v3 h) := by
  induction n with
  | zero => intros; exact ao_no
  | succ n ih => intro v0 v3 h c Cv0; exact av_mSide_begin_b50 (fun _ _ h => ih) c Cv0
theorem av_mSide_begin_b2 {C : Nat → Prop} {k2 : Nat → Nat → Int → Int → Hp → Option (Hp)} (hk2 : ∀ (v0 : Nat) (v1 : Nat) (v2 : Int) (v3 : Int) (h : Hp), Cl C h → C v0 → Ao (qV C h) (k2 v0 v1 v2 v3 h)) {v0 : Nat} {v1 : Nat} {v2 : Int} {v3 : Int} {h : Hp} (c : Cl C h) (Cv0 : C v0) : Ao (qV C h) (f_mSide_begin_b2 k2 v0 v1 v2 v3 h) := by
  unfold f_mSide_begin_b2
  have F0 := Av.rf c
  refine ao_it ?_ ?_
  · refine ao_I F0 Cv0 (fun h1 F1 => ?_)
    refine ao_it ao_no ?_
    refine ao_b1 F1 (av_mGreet_firstSecrets (F1.cl) (F1.cl.r Cv0) (F1.cl.r Cv0)) (fun h3 F2 => ?_)
    exact ao_jV F2 (av_mSide_begin_b50_lp FU (F2.cl) Cv0)
  · refine ao_it ao_no ?_
    refine ao_it ?_ ao_no
    refine ao_it ao_no ?_
    refine ao_it ?_ ao_no
    refine ao_I F0 (F0.cl.r Cv0) (fun h9 F3 => ?_)
    exact ao_jV F3 (hk2 _ _ _ _ _ (F3.cl) Cv0)
theorem av_mSide_begin_b2_lp {C : Nat → Prop} (n : Nat) : ∀ {v0 : Nat} {v1 : Nat} {v2 : Int} {v3 : Int} {h : Hp}, Cl C h → C v0 → Ao (qV C h) (f_mSide_begin_b2_lp n v0 v1 v2 v3 h) := by
  induction n with
  | zero => intros; exact ao_no
  | succ n ih => intro v0 v1 v2 v3 h c Cv0; exact av_mSide_begin_b2 (fun _ _ _ _ h => ih) c Cv0
theorem av_mSide_begin {C : Nat → Prop} {v0 : Nat} {v1 : Nat} {v2 : Int} {h : Hp} (c : Cl C h) (Cv0 : C v0) : Ao (qV C h) (f_mSide_begin v0 v1 v2 h) := by
  unfold f_mSide_begin
  have F0 := Av.rf c
  exact ao_jV F0 (av_mSide_begin_b2_lp FU (F0.cl) Cv0)
theorem av_mP_begin_b58 {C : Nat → Prop} {k20 : Nat → Int → Int → Hp → Option (Hp)} (hk20 : ∀ (v0 : Nat) (v1 : Int) (v2 : Int) (h : Hp), Cl C h → C v0 → Ao (qV C h) (k20 v0 v1 v2 h)) {v0 : Nat} {v2 : Int} {s0 : Int} {h : Hp} (c : Cl C h) (Cv0 : C v0) : Ao (qV C h) (f_mP_begin_b58 k20 v0 v2 s0 h) := by
  unfold f_mP_begin_b58
  have F0 := Av.rf c
  exact ao_jV F0 (hk20 _ _ _ _ (F0.cl) Cv0)
theorem av_mP_begin_b75 {C : Nat → Prop} {v0 : Nat} {s0 : Nat} {s1 : Int} {h : Hp} (c : Cl C h) (Cv0 : C v0) (Cs0 : C s0) : Ao (qV C h) (f_mP_begin_b75 v0 s0 s1 h) := by
  unfold f_mP_begin_b75
  have F0 := Av.rf c
  refine ao_it ao_no ?_
  refine ao_b2 F0 (av_mP_fails (F0.cl) Cs0) (fun r11 h9 F1 => ?_)
  refine ao_it ?_ ?_
  · refine ao_it ao_no ?_
    refine ao_it ?_ ao_no
    refine ao_it ?_ ao_no
    refine ao_it ao_no ?_
    refine ao_it ao_no ?_
    refine ao_b1 F1 (av_mSide_begin (F1.cl) (F1.cl.r (F1.cl.r Cv0))) (fun h17 F2 => ?_)
    exact ao_so F2
  · exact ao_so F1
theorem av_mP_begin_b57 {C : Nat → Prop} {k20 : Nat → Int → Int → Hp → Option (Hp)} (hk20 : ∀ (v0 : Nat) (v1 : Int) (v2 : Int) (h : Hp), Cl C h → C v0 → Ao (qV C h) (k20 v0 v1 v2 h)) {v0 : Nat} {v2 : Int} {h : Hp} (c : Cl C h) (Cv0 : C v0) : Ao (qV C h) (f_mP_begin_b57 k20 v0 v2 h) := by
  unfold f_mP_begin_b57
  have F0 := Av.rf c
  exact ao_jV F0 (av_mP_begin_b58 hk20 (F0.cl) Cv0)
theorem av_mP_begin_b20 {C : Nat → Prop} {k20 : Nat → Int → Int → Hp → Option (Hp)} (hk20 : ∀ (v0 : Nat) (v1 : Int) (v2 : Int) (h : Hp), Cl C h → C v0 → Ao (qV C h) (k20 v0 v1 v2 h)) {v0 : Nat} {v1 : Int} {v2 : Int} {h : Hp} (c : Cl C h) (Cv0 : C v0) : Ao (qV C h) (f_mP_begin_b20 k20 v0 v1 v2 h) := by
  unfold f_mP_begin_b20
  have F0 := Av.rf c
  refine ao_it ?_ ?_
  · refine ao_it ?_ ?_
    · exact ao_jV F0 (av_mP_begin_b75 (F0.cl) Cv0 Cv0)
    · exact ao_jV F0 (av_mP_begin_b75 (F0.cl) Cv0 Cv0)
  · refine ao_it ?_ ?_
    · exact ao_jV F0 (av_mP_begin_b57 hk20 (F0.cl) Cv0)
    · refine ao_it ao_no ?_
      refine ao_it ?_ ao_no
      refine ao_it ao_no ?_
      refine ao_it ?_ ?_
      · exact ao_jV F0 (av_mP_begin_b57 hk20 (F0.cl) Cv0)
      · refine ao_it ?_ ao_no
        refine ao_it ?_ ?_
        · exact ao_jV F0 (av_mP_begin_b57 hk20 (F0.cl) Cv0)
        · exact ao_jV F0 (av_mP_begin_b58 hk20 (F0.cl) Cv0)
theorem av_mP_begin_b20_lp {C : Nat → Prop} (n : Nat) : ∀ {v0 : Nat} {v1 : Int} {v2 : Int} {h : Hp}, Cl C h → C v0 → Ao (qV C h) (f_mP_begin_b20_lp n v0 v1 v2 h) := by
  induction n with
  | zero => intros; exact ao_no
  | succ n ih => intro v0 v1 v2 h c Cv0; exact av_mP_begin_b20 (fun _ _ _ h => ih) c Cv0
theorem av_mP_begin_b17 {C : Nat → Prop} {v0 : Nat} {s0 : Int} {h : Hp} (c : Cl C h) (Cv0 : C v0) : Ao (qV C h) (f_mP_begin_b17 v0 s0 h) := by
  unfold f_mP_begin_b17
  have F0 := Av.rf c
  exact ao_jV F0 (av_mP_begin_b20_lp FU (F0.cl) Cv0)
theorem av_mP_begin {C : Nat → Prop} {v0 : Nat} {h : Hp} (c : Cl C h) (Cv0 : C v0) : Ao (qV C h) (f_mP_begin v0 h) := by
  unfold f_mP_begin
  have F0 := Av.rf c
  refine ao_it ao_no ?_
  refine ao_it ?_ ao_no
  refine ao_it ao_no ?_
  refine ao_it ?_ ?_
  · exact ao_jV F0 (av_mP_begin_b17 (F0.cl) Cv0)
  · exact ao_jV F0 (av_mP_begin_b17 (F0.cl) Cv0)
theorem av_mStreams_at {C : Nat → Prop} {v0 : Int} {v1 : Int} {h : Hp} (c : Cl C h) : Ao (qI C h) (f_mStreams_at v0 v1 h) := by
  unfold f_mStreams_at
  have F0 := Av.rf c
  exact ao_so F0
theorem av_mStreams_wayOf {C : Nat → Prop} {v0 : Int} {h : Hp} (c : Cl C h) : Ao (qI C h) (f_mStreams_wayOf v0 h) := by
  unfold f_mStreams_wayOf
  have F0 := Av.rf c
  exact ao_so F0
theorem av_mStreams_opens {C : Nat → Prop} {v0 : Int} {v1 : Int} {h : Hp} (c : Cl C h) : Ao (qI C h) (f_mStreams_opens v0 v1 h) := by
  unfold f_mStreams_opens
  have F0 := Av.rf c
  refine ao_it ?_ ?_
  · exact ao_so F0
  · exact ao_so F0
theorem av_mStreams_grantOf_b37 {C : Nat → Prop} {v0 : Nat} {s0 : Nat} {s1 : Int} {s2 : Int} {h : Hp} (c : Cl C h) : Ao (qI C h) (f_mStreams_grantOf_b37 v0 s0 s1 s2 h) := by
  unfold f_mStreams_grantOf_b37
  have F0 := Av.rf c
  refine ao_it ao_no ?_
  refine ao_it ?_ ao_no
  exact ao_so F0
theorem av_mStreams_grantOf {C : Nat → Prop} {v0 : Nat} {v1 : Int} {v2 : Int} {h : Hp} (c : Cl C h) : Ao (qI C h) (f_mStreams_grantOf v0 v1 v2 h) := by
  unfold f_mStreams_grantOf
  have F0 := Av.rf c
  refine ao_b2 F0 (av_mStreams_wayOf (F0.cl)) (fun r3 h1 F1 => ?_)
  refine ao_it ?_ ?_
  · refine ao_b2 F1 (av_mStreams_opens (F1.cl)) (fun r6 h4 F2 => ?_)
    refine ao_it ?_ ?_
    · exact ao_jI F2 (av_mStreams_grantOf_b37 (F2.cl))
    · exact ao_jI F2 (av_mStreams_grantOf_b37 (F2.cl))
  · exact ao_jI F1 (av_mStreams_grantOf_b37 (F1.cl))
theorem av_mStreams_begin_b67 {C : Nat → Prop} {v0 : Nat} {s0 : Nat} {s1 : Int} {s2 : Nat} {s3 : Int} {s4 : Int} {h : Hp} (c : Cl C h) (Cs0 : C s0) : Ao (qV C h) (f_mStreams_begin_b67 v0 s0 s1 s2 s3 s4 h) := by
  unfold f_mStreams_begin_b67
  have F0 := Av.rf c
  refine ao_it ao_no ?_
  refine ao_it ?_ ao_no
  refine ao_it ao_no ?_
  refine ao_it ?_ ao_no
  refine ao_J F0 Cs0 (fun h23 F1 => ?_)
  exact ao_so F1
theorem av_mStreams_begin {C : Nat → Prop} {v0 : Nat} {v1 : Int} {v2 : Int} {h : Hp} (c : Cl C h) (Cv0 : C v0) : Ao (qV C h) (f_mStreams_begin v0 v1 v2 h) := by
  unfold f_mStreams_begin
  have F0 := Av.rf c
  refine ao_b2 F0 (av_mStreams_at (F0.cl)) (fun r3 h1 F1 => ?_)
  refine ao_it ao_no ?_
  refine ao_it ?_ ao_no
  refine ao_I F1 (F1.cl.r Cv0) (fun h6 F2 => ?_)
  refine ao_b2 F2 (av_mStreams_grantOf (F2.cl)) (fun r9 h7 F3 => ?_)
  refine ao_it ao_no ?_
  refine ao_it ?_ ao_no
  refine ao_J F3 (F2.cl.r Cv0) (fun h12 F4 => ?_)
  refine ao_b2 F4 (av_mStreams_wayOf (F4.cl)) (fun r15 h13 F5 => ?_)
  refine ao_it ?_ ?_
  · refine ao_b2 F5 (av_mStreams_opens (F5.cl)) (fun r18 h16 F6 => ?_)
    refine ao_it ?_ ?_
    · exact ao_jV F6 (av_mStreams_begin_b67 (F6.cl) (F4.cl.r Cv0))
    · exact ao_jV F6 (av_mStreams_begin_b67 (F6.cl) (F4.cl.r Cv0))
  · exact ao_jV F5 (av_mStreams_begin_b67 (F5.cl) (F4.cl.r Cv0))
theorem av_mStreams_open_b53 {C : Nat → Prop} {v0 : Nat} {v4 : Int} {h : Hp} (c : Cl C h) (Cv0 : C v0) : Ao (qI C h) (f_mStreams_open_b53 v0 v4 h) := by
  unfold f_mStreams_open_b53
  have F0 := Av.rf c
  refine ao_it ao_no ?_
  refine ao_it ?_ ao_no
  refine ao_I F0 (F0.cl.r Cv0) (fun h20 F1 => ?_)
  exact ao_so F1
theorem av_mStreams_open_b9 {C : Nat → Prop} {v0 : Nat} {v1 : Int} {s0 : Int} {h : Hp} (c : Cl C h) (Cv0 : C v0) : Ao (qI C h) (f_mStreams_open_b9 v0 v1 s0 h) := by
  unfold f_mStreams_open_b9
  have F0 := Av.rf c
  refine ao_v (fun y1 => ?_)
  refine ao_it ao_no ?_
  refine ao_it ?_ ao_no
  refine ao_it ao_no ?_
  refine ao_it ?_ ao_no
  refine ao_it ?_ ?_
  · exact ao_jI F0 (av_mStreams_open_b53 (F0.cl) Cv0)
  · refine ao_it ?_ ao_no
    refine ao_it ?_ ?_
    · refine ao_it ao_no ?_
      refine ao_it ?_ ao_no
      refine ao_I F0 (F0.cl.r Cv0) (fun h9 F2 => ?_)
      refine ao_it ao_no ?_
      refine ao_it ?_ ao_no
      refine ao_v (fun y12 => ?_)
      refine ao_it ?_ ao_no
      refine ao_it ?_ ao_no
      refine ao_I F2 (F2.cl.r Cv0) (fun h15 F4 => ?_)
      refine ao_b1 F4 (av_mStreams_begin (F4.cl) Cv0) (fun h16 F5 => ?_)
      exact ao_so F5
    · exact ao_jI F0 (av_mStreams_open_b53 (F0.cl) Cv0)
theorem av_mStreams_open {C : Nat → Prop} {v0 : Nat} {v1 : Int} {v2 : Int} {h : Hp} (c : Cl C h) (Cv0 : C v0) : Ao (qI C h) (f_mStreams_open v0 v1 v2 h) := by
  unfold f_mStreams_open
  have F0 := Av.rf c
  refine ao_it ?_ ?_
  · exact ao_jI F0 (av_mStreams_open_b9 (F0.cl) Cv0)
  · exact ao_jI F0 (av_mStreams_open_b9 (F0.cl) Cv0)
theorem av_mP_open {C : Nat → Prop} {v0 : Nat} {v1 : Int} {v2 : Int} {h : Hp} (c : Cl C h) (Cv0 : C v0) : Ao (qI C h) (f_mP_open v0 v1 v2 h) := by
  unfold f_mP_open
  have F0 := Av.rf c
  refine ao_b2 F0 (av_mP_no (F0.cl)) (fun r3 h1 F1 => ?_)
  refine ao_b2 F1 (av_mP_fails (F1.cl) Cv0) (fun r6 h4 F2 => ?_)
  refine ao_it ?_ ?_
  · refine ao_it ao_no ?_
    refine ao_b2 F2 (av_mStreams_open (F2.cl) (F2.cl.r Cv0)) (fun r10 h8 F3 => ?_)
    exact ao_so F3
  · exact ao_so F2
theorem av_mStreams_isThere {C : Nat → Prop} {v0 : Nat} {v1 : Int} {v2 : Int} {h : Hp} (c : Cl C h) : Ao (qI C h) (f_mStreams_isThere v0 v1 v2 h) := by
  unfold f_mStreams_isThere
  have F0 := Av.rf c
  refine ao_it ?_ ?_
  · exact ao_so F0
  · refine ao_it ?_ ?_
    · exact ao_so F0
    · refine ao_b2 F0 (av_mStreams_at (F0.cl)) (fun r3 h1 F1 => ?_)
      refine ao_it ao_no ?_
      refine ao_it ?_ ao_no
      refine ao_it ?_ ?_
      · exact ao_so F1
      · exact ao_so F1
theorem av_mStreams_sends_b15 {C : Nat → Prop} {h : Hp} (c : Cl C h) : Ao (qI C h) (f_mStreams_sends_b15  h) := by
  unfold f_mStreams_sends_b15
  have F0 := Av.rf c
  exact ao_so F0
theorem av_mStreams_sends {C : Nat → Prop} {v0 : Int} {v1 : Int} {h : Hp} (c : Cl C h) : Ao (qI C h) (f_mStreams_sends v0 v1 h) := by
  unfold f_mStreams_sends
  have F0 := Av.rf c
  refine ao_b2 F0 (av_mStreams_wayOf (F0.cl)) (fun r3 h1 F1 => ?_)
  refine ao_it ?_ ?_
  · exact ao_jI F1 (av_mStreams_sends_b15 (F1.cl))
  · refine ao_b2 F1 (av_mStreams_opens (F1.cl)) (fun r6 h4 F2 => ?_)
    refine ao_it ?_ ?_
    · exact ao_so F2
    · exact ao_jI F2 (av_mStreams_sends_b15 (F2.cl))
theorem av_mStreams_hasSending {C : Nat → Prop} {v0 : Nat} {v1 : Int} {v2 : Int} {h : Hp} (c : Cl C h) : Ao (qI C h) (f_mStreams_hasSending v0 v1 v2 h) := by
  unfold f_mStreams_hasSending
  have F0 := Av.rf c
  refine ao_b2 F0 (av_mStreams_isThere (F0.cl)) (fun r3 h1 F1 => ?_)
  refine ao_it ?_ ?_
  · exact ao_so F1
  · refine ao_b2 F1 (av_mStreams_sends (F1.cl)) (fun r6 h4 F2 => ?_)
    refine ao_it ?_ ?_
    · exact ao_so F2
    · exact ao_so F2
theorem av_mStreams_sending {C : Nat → Prop} {v0 : Nat} {v1 : Int} {h : Hp} (c : Cl C h) : Ao (qI C h) (f_mStreams_sending v0 v1 h) := by
  unfold f_mStreams_sending
  have F0 := Av.rf c
  refine ao_it ao_no ?_
  refine ao_it ?_ ao_no
  refine ao_it ?_ ?_
  · refine ao_it ao_no ?_
    refine ao_it ?_ ao_no
    refine ao_it ?_ ?_
    · refine ao_it ao_no ?_
      refine ao_it ?_ ao_no
      refine ao_it ?_ ?_
      · exact ao_so F0
      · refine ao_it ao_no ?_
        refine ao_it ?_ ao_no
        refine ao_it ao_no ?_
        refine ao_it ?_ ao_no
        refine ao_it ?_ ?_
        · exact ao_so F0
        · exact ao_so F0
    · exact ao_so F0
  · refine ao_it ?_ ao_no
    exact ao_so F0
theorem av_mStreams_write_b157 {C : Nat → Prop} {k33 : Nat → Int → Nat → Int → Int → Int → Hp → Option (Int × Hp)} (hk33 : ∀ (v0 : Nat) (v1 : Int) (v3 : Nat) (v4 : Int) (v5 : Int) (v6 : Int) (h : Hp), Cl C h → C v0 → Ao (qI C h) (k33 v0 v1 v3 v4 v5 v6 h)) {v0 : Nat} {v1 : Int} {v3 : Nat} {v4 : Int} {v5 : Int} {v6 : Int} {h : Hp} (c : Cl C h) (Cv0 : C v0) : Ao (qI C h) (f_mStreams_write_b157 k33 v0 v1 v3 v4 v5 v6 h) := by
  unfold f_mStreams_write_b157
  have F0 := Av.rf c
  refine ao_it ao_no ?_
  refine ao_it ?_ ao_no
  refine ao_it ?_ ao_no
  refine ao_I F0 (F0.cl.r Cv0) (fun h47 F1 => ?_)
  refine ao_it ao_no ?_
  refine ao_it ?_ ao_no
  refine ao_it ?_ ao_no
  refine ao_I F1 (F1.cl.r Cv0) (fun h51 F2 => ?_)
  exact ao_jI F2 (hk33 _ _ _ _ _ _ _ (F2.cl) Cv0)
theorem av_mStreams_write_b128 {C : Nat → Prop} {k33 : Nat → Int → Nat → Int → Int → Int → Hp → Option (Int × Hp)} (hk33 : ∀ (v0 : Nat) (v1 : Int) (v3 : Nat) (v4 : Int) (v5 : Int) (v6 : Int) (h : Hp), Cl C h → C v0 → Ao (qI C h) (k33 v0 v1 v3 v4 v5 v6 h)) {v0 : Nat} {v1 : Int} {v3 : Nat} {v4 : Int} {v5 : Int} {v6 : Int} {v7 : Int} {h : Hp} (c : Cl C h) (Cv0 : C v0) : Ao (qI C h) (f_mStreams_write_b128 k33 v0 v1 v3 v4 v5 v6 v7 h) := by
  unfold f_mStreams_write_b128
  have F0 := Av.rf c
  refine ao_it ao_no ?_
  refine ao_it ?_ ao_no
  refine ao_I F0 (F0.cl.r Cv0) (fun h39 F1 => ?_)
  refine ao_it ao_no ?_
  refine ao_it ?_ ao_no
  refine ao_it ?_ ?_
  · exact ao_jI F1 (av_mStreams_write_b157 hk33 (F1.cl) Cv0)
  · refine ao_it ?_ ao_no
    refine ao_I F1 (F1.cl.r Cv0) (fun h43 F2 => ?_)
    exact ao_jI F2 (av_mStreams_write_b157 hk33 (F2.cl) Cv0)
theorem av_mStreams_write_b33 {C : Nat → Prop} {k33 : Nat → Int → Nat → Int → Int → Int → Hp → Option (Int × Hp)} (hk33 : ∀ (v0 : Nat) (v1 : Int) (v3 : Nat) (v4 : Int) (v5 : Int) (v6 : Int) (h : Hp), Cl C h → C v0 → Ao (qI C h) (k33 v0 v1 v3 v4 v5 v6 h)) {v0 : Nat} {v1 : Int} {v3 : Nat} {v4 : Int} {v5 : Int} {v6 : Int} {h : Hp} (c : Cl C h) (Cv0 : C v0) : Ao (qI C h) (f_mStreams_write_b33 k33 v0 v1 v3 v4 v5 v6 h) := by
  unfold f_mStreams_write_b33
  have F0 := Av.rf c
  refine ao_it ?_ ?_
  · exact ao_so F0
  · refine ao_it ao_no ?_
    refine ao_it ?_ ao_no
    refine ao_it ?_ ?_
    · exact ao_so F0
    · refine ao_it ?_ ao_no
      refine ao_v (fun y16 => ?_)
      refine ao_it ao_no ?_
      refine ao_it ?_ ao_no
      refine ao_it ao_no ?_
      refine ao_it ?_ ao_no
      refine ao_I F0 (F0.cl.r Cv0) (fun h21 F2 => ?_)
      refine ao_it ao_no ?_
      refine ao_it ?_ ao_no
      refine ao_I F2 (F2.cl.r Cv0) (fun h24 F3 => ?_)
      refine ao_it ao_no ?_
      refine ao_it ?_ ao_no
      refine ao_I F3 (F3.cl.r Cv0) (fun h27 F4 => ?_)
      refine ao_it ao_no ?_
      refine ao_it ?_ ao_no
      refine ao_it ?_ ?_
      · refine ao_it ?_ ao_no
        refine ao_it ao_no ?_
        refine ao_it ?_ ao_no
        refine ao_I F4 (F4.cl.r Cv0) (fun h33 F5 => ?_)
        exact ao_jI F5 (av_mStreams_write_b128 hk33 (F5.cl) Cv0)
      · refine ao_it ao_no ?_
        refine ao_it ?_ ao_no
        refine ao_I F4 (F4.cl.r Cv0) (fun h36 F6 => ?_)
        exact ao_jI F6 (av_mStreams_write_b128 hk33 (F6.cl) Cv0)
theorem av_mStreams_write_b33_lp {C : Nat → Prop} (n : Nat) : ∀ {v0 : Nat} {v1 : Int} {v3 : Nat} {v4 : Int} {v5 : Int} {v6 : Int} {h : Hp}, Cl C h → C v0 → Ao (qI C h) (f_mStreams_write_b33_lp n v0 v1 v3 v4 v5 v6 h) := by
  induction n with
  | zero => intros; exact ao_no
  | succ n ih => intro v0 v1 v3 v4 v5 v6 h c Cv0; exact av_mStreams_write_b33 (fun _ _ _ _ _ _ h => ih) c Cv0
theorem av_mStreams_write {C : Nat → Prop} {v0 : Nat} {v1 : Int} {v2 : Int} {v3 : Nat} {v4 : Int} {h : Hp} (c : Cl C h) (Cv0 : C v0) : Ao (qI C h) (f_mStreams_write v0 v1 v2 v3 v4 h) := by
  unfold f_mStreams_write
  have F0 := Av.rf c
  refine ao_b2 F0 (av_mStreams_hasSending (F0.cl)) (fun r3 h1 F1 => ?_)
  refine ao_it ?_ ?_
  · exact ao_so F1
  · refine ao_b2 F1 (av_mStreams_at (F1.cl)) (fun r6 h4 F2 => ?_)
    refine ao_b2 F2 (av_mStreams_sending (F2.cl)) (fun r9 h7 F3 => ?_)
    refine ao_it ?_ ?_
    · refine ao_b2 F3 (av_mStreams_at (F3.cl)) (fun r12 h10 F4 => ?_)
      exact ao_jI F4 (av_mStreams_write_b33_lp FU (F4.cl) Cv0)
    · exact ao_so F3
theorem av_mP_write {C : Nat → Prop} {v0 : Nat} {v1 : Int} {v2 : Int} {h : Hp} (c : Cl C h) (Cv0 : C v0) : Ao (qI C h) (f_mP_write v0 v1 v2 h) := by
  unfold f_mP_write
  have F0 := Av.rf c
  refine ao_b2 F0 (av_mP_no (F0.cl)) (fun r3 h1 F1 => ?_)
  refine ao_b2 F1 (av_mP_fails (F1.cl) Cv0) (fun r6 h4 F2 => ?_)
  refine ao_it ?_ ?_
  · refine ao_it ao_no ?_
    refine ao_b2 F2 (av_mStreams_write (F2.cl) (F2.cl.r Cv0)) (fun r10 h8 F3 => ?_)
    refine ao_I F3 Cv0 (fun h11 F4 => ?_)
    exact ao_so F4
  · exact ao_so F2
theorem av_mStreams_finish {C : Nat → Prop} {v0 : Nat} {v1 : Int} {v2 : Int} {h : Hp} (c : Cl C h) (Cv0 : C v0) : Ao (qI C h) (f_mStreams_finish v0 v1 v2 h) := by
  unfold f_mStreams_finish
  have F0 := Av.rf c
  refine ao_b2 F0 (av_mStreams_hasSending (F0.cl)) (fun r3 h1 F1 => ?_)
  refine ao_it ?_ ?_
  · exact ao_so F1
  · refine ao_b2 F1 (av_mStreams_at (F1.cl)) (fun r6 h4 F2 => ?_)
    refine ao_b2 F2 (av_mStreams_sending (F2.cl)) (fun r9 h7 F3 => ?_)
    refine ao_it ?_ ?_
    · refine ao_b2 F3 (av_mStreams_at (F3.cl)) (fun r12 h10 F4 => ?_)
      refine ao_it ao_no ?_
      refine ao_it ?_ ao_no
      refine ao_I F4 (F3.cl.r Cv0) (fun h15 F5 => ?_)
      refine ao_b2 F5 (av_mStreams_at (F5.cl)) (fun r18 h16 F6 => ?_)
      refine ao_it ao_no ?_
      refine ao_it ?_ ao_no
      refine ao_I F6 (F5.cl.r Cv0) (fun h21 F7 => ?_)
      exact ao_so F7
    · exact ao_so F3
theorem av_mP_finish {C : Nat → Prop} {v0 : Nat} {v1 : Int} {v2 : Int} {h : Hp} (c : Cl C h) (Cv0 : C v0) : Ao (qI C h) (f_mP_finish v0 v1 v2 h) := by
  unfold f_mP_finish
  have F0 := Av.rf c
  refine ao_b2 F0 (av_mP_no (F0.cl)) (fun r3 h1 F1 => ?_)
  refine ao_b2 F1 (av_mP_fails (F1.cl) Cv0) (fun r6 h4 F2 => ?_)
  refine ao_it ?_ ?_
  · exact ao_so F2
  · refine ao_it ao_no ?_
    refine ao_b2 F2 (av_mStreams_finish (F2.cl) (F2.cl.r Cv0)) (fun r10 h8 F3 => ?_)
    refine ao_it ?_ ?_
    · exact ao_so F3
    · exact ao_so F3
theorem av_mStreams_isOpenSending {C : Nat → Prop} {v0 : Nat} {v1 : Int} {v2 : Int} {h : Hp} (c : Cl C h) : Ao (qI C h) (f_mStreams_isOpenSending v0 v1 v2 h) := by
  unfold f_mStreams_isOpenSending
  have F0 := Av.rf c
  refine ao_b2 F0 (av_mStreams_hasSending (F0.cl)) (fun r3 h1 F1 => ?_)
  refine ao_it ?_ ?_
  · exact ao_so F1
  · refine ao_b2 F1 (av_mStreams_at (F1.cl)) (fun r6 h4 F2 => ?_)
    refine ao_b2 F2 (av_mStreams_sending (F2.cl)) (fun r9 h7 F3 => ?_)
    refine ao_it ?_ ?_
    · exact ao_so F3
    · exact ao_so F3
theorem av_mStreams_doReset {C : Nat → Prop} {v0 : Nat} {v1 : Int} {v2 : Int} {v3 : Int} {h : Hp} (c : Cl C h) (Cv0 : C v0) : Ao (qV C h) (f_mStreams_doReset v0 v1 v2 v3 h) := by
  unfold f_mStreams_doReset
  have F0 := Av.rf c
  refine ao_b2 F0 (av_mStreams_at (F0.cl)) (fun r3 h1 F1 => ?_)
  refine ao_it ao_no ?_
  refine ao_it ?_ ao_no
  refine ao_I F1 (F1.cl.r Cv0) (fun h6 F2 => ?_)
  refine ao_it ao_no ?_
  refine ao_it ?_ ao_no
  refine ao_J F2 (F2.cl.r Cv0) (fun h9 F3 => ?_)
  refine ao_it ao_no ?_
  refine ao_it ?_ ao_no
  refine ao_I F3 (F3.cl.r Cv0) (fun h12 F4 => ?_)
  exact ao_so F4
theorem av_mStreams_reset {C : Nat → Prop} {v0 : Nat} {v1 : Int} {v2 : Int} {v3 : Int} {h : Hp} (c : Cl C h) (Cv0 : C v0) : Ao (qI C h) (f_mStreams_reset v0 v1 v2 v3 h) := by
  unfold f_mStreams_reset
  have F0 := Av.rf c
  refine ao_b2 F0 (av_mStreams_isOpenSending (F0.cl)) (fun r3 h1 F1 => ?_)
  refine ao_it ?_ ?_
  · refine ao_b1 F1 (av_mStreams_doReset (F1.cl) Cv0) (fun h4 F2 => ?_)
    exact ao_so F2
  · exact ao_so F1
theorem av_mP_reset_b17 {C : Nat → Prop} {v0 : Nat} {v1 : Int} {v2 : Int} {v3 : Int} {s0 : Nat} {s1 : Int} {h : Hp} (c : Cl C h) (Cv0 : C v0) (Cs0 : C s0) : Ao (qI C h) (f_mP_reset_b17 v0 v1 v2 v3 s0 s1 h) := by
  unfold f_mP_reset_b17
  have F0 := Av.rf c
  refine ao_it ao_no ?_
  refine ao_b2 F0 (av_mP_fails (F0.cl) Cs0) (fun r7 h5 F1 => ?_)
  refine ao_it ?_ ?_
  · exact ao_so F1
  · refine ao_it ao_no ?_
    refine ao_b2 F1 (av_mStreams_reset (F1.cl) (F1.cl.r Cv0)) (fun r11 h9 F2 => ?_)
    refine ao_it ?_ ?_
    · exact ao_so F2
    · exact ao_so F2
theorem av_mP_reset_b12 {C : Nat → Prop} {v0 : Nat} {v1 : Int} {v2 : Int} {v3 : Int} {s0 : Nat} {h : Hp} (c : Cl C h) (Cv0 : C v0) (Cs0 : C s0) : Ao (qI C h) (f_mP_reset_b12 v0 v1 v2 v3 s0 h) := by
  unfold f_mP_reset_b12
  have F0 := Av.rf c
  exact ao_jI F0 (av_mP_reset_b17 (F0.cl) Cv0 Cs0)
theorem av_mP_reset {C : Nat → Prop} {v0 : Nat} {v1 : Int} {v2 : Int} {v3 : Int} {h : Hp} (c : Cl C h) (Cv0 : C v0) : Ao (qI C h) (f_mP_reset v0 v1 v2 v3 h) := by
  unfold f_mP_reset
  have F0 := Av.rf c
  refine ao_b2 F0 (av_mP_no (F0.cl)) (fun r3 h1 F1 => ?_)
  refine ao_it ?_ ?_
  · exact ao_jI F1 (av_mP_reset_b12 (F1.cl) Cv0 Cv0)
  · refine ao_it ?_ ?_
    · exact ao_jI F1 (av_mP_reset_b17 (F1.cl) Cv0 Cv0)
    · exact ao_jI F1 (av_mP_reset_b12 (F1.cl) Cv0 Cv0)
theorem av_mStreams_receives_b15 {C : Nat → Prop} {h : Hp} (c : Cl C h) : Ao (qI C h) (f_mStreams_receives_b15  h) := by
  unfold f_mStreams_receives_b15
  have F0 := Av.rf c
  exact ao_so F0
theorem av_mStreams_receives {C : Nat → Prop} {v0 : Int} {v1 : Int} {h : Hp} (c : Cl C h) : Ao (qI C h) (f_mStreams_receives v0 v1 h) := by
  unfold f_mStreams_receives
  have F0 := Av.rf c
  refine ao_b2 F0 (av_mStreams_wayOf (F0.cl)) (fun r3 h1 F1 => ?_)
  refine ao_it ?_ ?_
  · exact ao_jI F1 (av_mStreams_receives_b15 (F1.cl))
  · refine ao_b2 F1 (av_mStreams_opens (F1.cl)) (fun r6 h4 F2 => ?_)
    refine ao_it ?_ ?_
    · exact ao_so F2
    · exact ao_jI F2 (av_mStreams_receives_b15 (F2.cl))
theorem av_mStreams_hasReceiving {C : Nat → Prop} {v0 : Nat} {v1 : Int} {v2 : Int} {h : Hp} (c : Cl C h) : Ao (qI C h) (f_mStreams_hasReceiving v0 v1 v2 h) := by
  unfold f_mStreams_hasReceiving
  have F0 := Av.rf c
  refine ao_b2 F0 (av_mStreams_isThere (F0.cl)) (fun r3 h1 F1 => ?_)
  refine ao_it ?_ ?_
  · exact ao_so F1
  · refine ao_b2 F1 (av_mStreams_receives (F1.cl)) (fun r6 h4 F2 => ?_)
    refine ao_it ?_ ?_
    · exact ao_so F2
    · exact ao_so F2
theorem av_mStreams_receiving {C : Nat → Prop} {v0 : Nat} {v1 : Int} {h : Hp} (c : Cl C h) : Ao (qI C h) (f_mStreams_receiving v0 v1 h) := by
  unfold f_mStreams_receiving
  have F0 := Av.rf c
  refine ao_it ao_no ?_
  refine ao_it ?_ ao_no
  refine ao_it ?_ ?_
  · refine ao_it ao_no ?_
    refine ao_it ?_ ao_no
    refine ao_it ?_ ?_
    · refine ao_it ao_no ?_
      refine ao_it ?_ ao_no
      refine ao_it ?_ ao_no
      refine ao_it ?_ ?_
      · refine ao_it ao_no ?_
        refine ao_it ?_ ao_no
        refine ao_it ?_ ao_no
        refine ao_it ?_ ?_
        · exact ao_so F0
        · exact ao_so F0
      · exact ao_so F0
    · exact ao_so F0
  · exact ao_so F0
theorem av_mStreams_stop {C : Nat → Prop} {v0 : Nat} {v1 : Int} {v2 : Int} {v3 : Int} {h : Hp} (c : Cl C h) (Cv0 : C v0) : Ao (qI C h) (f_mStreams_stop v0 v1 v2 v3 h) := by
  unfold f_mStreams_stop
  have F0 := Av.rf c
  refine ao_b2 F0 (av_mStreams_at (F0.cl)) (fun r3 h1 F1 => ?_)
  refine ao_b2 F1 (av_mStreams_hasReceiving (F1.cl)) (fun r6 h4 F2 => ?_)
  refine ao_it ?_ ?_
  · exact ao_so F2
  · refine ao_b2 F2 (av_mStreams_receiving (F2.cl)) (fun r9 h7 F3 => ?_)
    refine ao_it ?_ ?_
    · exact ao_so F3
    · refine ao_it ao_no ?_
      refine ao_it ?_ ao_no
      refine ao_it ?_ ?_
      · refine ao_it ?_ ao_no
        refine ao_I F3 (F3.cl.r Cv0) (fun h13 F4 => ?_)
        refine ao_it ao_no ?_
        refine ao_it ?_ ao_no
        refine ao_I F4 (F4.cl.r Cv0) (fun h16 F5 => ?_)
        refine ao_it ao_no ?_
        refine ao_it ?_ ao_no
        refine ao_J F5 (F5.cl.r Cv0) (fun h19 F6 => ?_)
        exact ao_so F6
      · exact ao_so F3
theorem av_mP_stop_b17 {C : Nat → Prop} {v0 : Nat} {v1 : Int} {v2 : Int} {v3 : Int} {s0 : Nat} {s1 : Int} {h : Hp} (c : Cl C h) (Cv0 : C v0) (Cs0 : C s0) : Ao (qI C h) (f_mP_stop_b17 v0 v1 v2 v3 s0 s1 h) := by
  unfold f_mP_stop_b17
  have F0 := Av.rf c
  refine ao_it ao_no ?_
  refine ao_b2 F0 (av_mP_fails (F0.cl) Cs0) (fun r7 h5 F1 => ?_)
  refine ao_it ?_ ?_
  · exact ao_so F1
  · refine ao_it ao_no ?_
    refine ao_b2 F1 (av_mStreams_stop (F1.cl) (F1.cl.r Cv0)) (fun r11 h9 F2 => ?_)
    refine ao_it ?_ ?_
    · exact ao_so F2
    · exact ao_so F2
theorem av_mP_stop_b12 {C : Nat → Prop} {v0 : Nat} {v1 : Int} {v2 : Int} {v3 : Int} {s0 : Nat} {h : Hp} (c : Cl C h) (Cv0 : C v0) (Cs0 : C s0) : Ao (qI C h) (f_mP_stop_b12 v0 v1 v2 v3 s0 h) := by
  unfold f_mP_stop_b12
  have F0 := Av.rf c
  exact ao_jI F0 (av_mP_stop_b17 (F0.cl) Cv0 Cs0)
theorem av_mP_stop {C : Nat → Prop} {v0 : Nat} {v1 : Int} {v2 : Int} {v3 : Int} {h : Hp} (c : Cl C h) (Cv0 : C v0) : Ao (qI C h) (f_mP_stop v0 v1 v2 v3 h) := by
  unfold f_mP_stop
  have F0 := Av.rf c
  refine ao_b2 F0 (av_mP_no (F0.cl)) (fun r3 h1 F1 => ?_)
  refine ao_it ?_ ?_
  · exact ao_jI F1 (av_mP_stop_b12 (F1.cl) Cv0 Cv0)
  · refine ao_it ?_ ?_
    · exact ao_jI F1 (av_mP_stop_b17 (F1.cl) Cv0 Cv0)
    · exact ao_jI F1 (av_mP_stop_b12 (F1.cl) Cv0 Cv0)
theorem av_mStreams_pieceAt_b7 {C : Nat → Prop} {k7 : Nat → Int → Int → Hp → Option (Int × Hp)} (hk7 : ∀ (v0 : Nat) (v2 : Int) (v3 : Int) (h : Hp), Cl C h → Ao (qI C h) (k7 v0 v2 v3 h)) {v0 : Nat} {v2 : Int} {v3 : Int} {h : Hp} (c : Cl C h) : Ao (qI C h) (f_mStreams_pieceAt_b7 k7 v0 v2 v3 h) := by
  unfold f_mStreams_pieceAt_b7
  have F0 := Av.rf c
  refine ao_it ?_ ?_
  · exact ao_so F0
  · refine ao_it ao_no ?_
    refine ao_it ?_ ao_no
    refine ao_it ?_ ?_
    · exact ao_so F0
    · refine ao_it ao_no ?_
      refine ao_it ?_ ao_no
      refine ao_v (fun y8 => ?_)
      exact ao_jI F0 (hk7 _ _ _ _ (F0.cl))
theorem av_mStreams_pieceAt_b7_lp {C : Nat → Prop} (n : Nat) : ∀ {v0 : Nat} {v2 : Int} {v3 : Int} {h : Hp}, Cl C h → Ao (qI C h) (f_mStreams_pieceAt_b7_lp n v0 v2 v3 h) := by
  induction n with
  | zero => intros; exact ao_no
  | succ n ih => intro v0 v2 v3 h c; exact av_mStreams_pieceAt_b7 (fun _ _ _ h => ih) c
theorem av_mStreams_pieceAt {C : Nat → Prop} {v0 : Nat} {v1 : Int} {v2 : Int} {h : Hp} (c : Cl C h) : Ao (qI C h) (f_mStreams_pieceAt v0 v1 v2 h) := by
  unfold f_mStreams_pieceAt
  have F0 := Av.rf c
  refine ao_it ao_no ?_
  refine ao_it ?_ ao_no
  refine ao_v (fun y3 => ?_)
  exact ao_jI F0 (av_mStreams_pieceAt_b7_lp FU (F0.cl))
theorem av_mStreams_consumed_b54 {C : Nat → Prop} {k5 : Nat → Int → Int → Int → Hp → Option (Int × Hp)} (hk5 : ∀ (v0 : Nat) (v1 : Int) (v2 : Int) (v4 : Int) (h : Hp), Cl C h → Ao (qI C h) (k5 v0 v1 v2 v4 h)) {v0 : Nat} {v1 : Int} {v4 : Int} {s0 : Int} {s1 : Int} {h : Hp} (c : Cl C h) : Ao (qI C h) (f_mStreams_consumed_b54 k5 v0 v1 v4 s0 s1 h) := by
  unfold f_mStreams_consumed_b54
  have F0 := Av.rf c
  refine ao_v (fun y16 => ?_)
  exact ao_jI F0 (hk5 _ _ _ _ _ (F0.cl))
theorem av_mStreams_consumed_b5 {C : Nat → Prop} {k5 : Nat → Int → Int → Int → Hp → Option (Int × Hp)} (hk5 : ∀ (v0 : Nat) (v1 : Int) (v2 : Int) (v4 : Int) (h : Hp), Cl C h → Ao (qI C h) (k5 v0 v1 v2 v4 h)) {v0 : Nat} {v1 : Int} {v2 : Int} {v4 : Int} {h : Hp} (c : Cl C h) : Ao (qI C h) (f_mStreams_consumed_b5 k5 v0 v1 v2 v4 h) := by
  unfold f_mStreams_consumed_b5
  have F0 := Av.rf c
  refine ao_it ?_ ?_
  · exact ao_so F0
  · refine ao_b2 F0 (av_mStreams_at (F0.cl)) (fun r3 h1 F1 => ?_)
    refine ao_it ao_no ?_
    refine ao_it ?_ ao_no
    refine ao_it ?_ ?_
    · refine ao_b2 F1 (av_mStreams_at (F1.cl)) (fun r8 h6 F2 => ?_)
      refine ao_it ao_no ?_
      refine ao_it ?_ ao_no
      exact ao_jI F2 (av_mStreams_consumed_b54 hk5 (F2.cl))
    · refine ao_b2 F1 (av_mStreams_at (F1.cl)) (fun r13 h11 F3 => ?_)
      refine ao_it ao_no ?_
      refine ao_it ?_ ao_no
      exact ao_jI F3 (av_mStreams_consumed_b54 hk5 (F3.cl))
theorem av_mStreams_consumed_b5_lp {C : Nat → Prop} (n : Nat) : ∀ {v0 : Nat} {v1 : Int} {v2 : Int} {v4 : Int} {h : Hp}, Cl C h → Ao (qI C h) (f_mStreams_consumed_b5_lp n v0 v1 v2 v4 h) := by
  induction n with
  | zero => intros; exact ao_no
  | succ n ih => intro v0 v1 v2 v4 h c; exact av_mStreams_consumed_b5 (fun _ _ _ _ h => ih) c
theorem av_mStreams_consumed {C : Nat → Prop} {v0 : Nat} {v1 : Int} {h : Hp} (c : Cl C h) : Ao (qI C h) (f_mStreams_consumed v0 v1 h) := by
  unfold f_mStreams_consumed
  have F0 := Av.rf c
  exact ao_jI F0 (av_mStreams_consumed_b5_lp FU (F0.cl))
theorem av_mStreams_growData_b38 {C : Nat → Prop} {v0 : Nat} {v1 : Int} {v2 : Int} {v4 : Int} {s0 : Int} {h : Hp} (c : Cl C h) (Cv0 : C v0) : Ao (qV C h) (f_mStreams_growData_b38 v0 v1 v2 v4 s0 h) := by
  unfold f_mStreams_growData_b38
  have F0 := Av.rf c
  refine ao_it ao_no ?_
  refine ao_it ?_ ao_no
  refine ao_it ?_ ?_
  · exact ao_so F0
  · refine ao_it ?_ ao_no
    refine ao_it ?_ ?_
    · refine ao_it ?_ ao_no
      refine ao_J F0 (F0.cl.r Cv0) (fun h12 F1 => ?_)
      refine ao_it ao_no ?_
      refine ao_it ?_ ao_no
      refine ao_I F1 (F1.cl.r Cv0) (fun h15 F2 => ?_)
      exact ao_so F2
    · exact ao_so F0
theorem av_mStreams_growData {C : Nat → Prop} {v0 : Nat} {v1 : Int} {h : Hp} (c : Cl C h) (Cv0 : C v0) : Ao (qV C h) (f_mStreams_growData v0 v1 h) := by
  unfold f_mStreams_growData
  have F0 := Av.rf c
  refine ao_it ao_no ?_
  refine ao_it ?_ ao_no
  refine ao_v (fun y3 => ?_)
  refine ao_b2 F0 (av_mStreams_consumed (F0.cl)) (fun r6 h4 F2 => ?_)
  refine ao_v (fun y7 => ?_)
  refine ao_it ?_ ?_
  · exact ao_jV F2 (av_mStreams_growData_b38 (F2.cl) Cv0)
  · exact ao_jV F2 (av_mStreams_growData_b38 (F2.cl) Cv0)
theorem av_mStreams_growStream_b43 {C : Nat → Prop} {v0 : Nat} {v3 : Int} {v4 : Int} {v6 : Int} {s0 : Int} {h : Hp} (c : Cl C h) (Cv0 : C v0) : Ao (qV C h) (f_mStreams_growStream_b43 v0 v3 v4 v6 s0 h) := by
  unfold f_mStreams_growStream_b43
  have F0 := Av.rf c
  refine ao_it ao_no ?_
  refine ao_it ?_ ao_no
  refine ao_it ?_ ?_
  · exact ao_so F0
  · refine ao_it ?_ ao_no
    refine ao_it ?_ ?_
    · refine ao_it ?_ ao_no
      refine ao_J F0 (F0.cl.r Cv0) (fun h14 F1 => ?_)
      refine ao_it ao_no ?_
      refine ao_it ?_ ao_no
      refine ao_I F1 (F1.cl.r Cv0) (fun h17 F2 => ?_)
      exact ao_so F2
    · exact ao_so F0
theorem av_mStreams_growStream {C : Nat → Prop} {v0 : Nat} {v1 : Int} {v2 : Int} {h : Hp} (c : Cl C h) (Cv0 : C v0) : Ao (qV C h) (f_mStreams_growStream v0 v1 v2 h) := by
  unfold f_mStreams_growStream
  have F0 := Av.rf c
  refine ao_b2 F0 (av_mStreams_at (F0.cl)) (fun r3 h1 F1 => ?_)
  refine ao_b2 F1 (av_mStreams_grantOf (F1.cl)) (fun r6 h4 F2 => ?_)
  refine ao_it ao_no ?_
  refine ao_it ?_ ao_no
  refine ao_v (fun y9 => ?_)
  refine ao_it ?_ ?_
  · exact ao_jV F2 (av_mStreams_growStream_b43 (F2.cl) Cv0)
  · exact ao_jV F2 (av_mStreams_growStream_b43 (F2.cl) Cv0)
theorem av_mStreams_looksOver_b91 {C : Nat → Prop} {v0 : Nat} {v1 : Int} {v2 : Int} {v3 : Int} {v4 : Int} {s0 : Int} {h : Hp} (c : Cl C h) (Cv0 : C v0) : Ao (qV C h) (f_mStreams_looksOver_b91 v0 v1 v2 v3 v4 s0 h) := by
  unfold f_mStreams_looksOver_b91
  have F0 := Av.rf c
  refine ao_it ?_ ?_
  · exact ao_so F0
  · refine ao_it ?_ ?_
    · refine ao_it ao_no ?_
      refine ao_it ?_ ao_no
      refine ao_I F0 (F0.cl.r Cv0) (fun h28 F1 => ?_)
      refine ao_b2 F1 (av_mStreams_wayOf (F1.cl)) (fun r31 h29 F2 => ?_)
      refine ao_v (fun y32 => ?_)
      refine ao_it ao_no ?_
      refine ao_it ?_ ao_no
      refine ao_it ?_ ?_
      · refine ao_it ?_ ao_no
        refine ao_it ?_ ao_no
        refine ao_I F2 (F2.cl.r Cv0) (fun h37 F4 => ?_)
        refine ao_it ao_no ?_
        refine ao_it ?_ ao_no
        refine ao_I F4 (F4.cl.r Cv0) (fun h40 F5 => ?_)
        exact ao_so F5
      · exact ao_so F2
    · exact ao_so F0
theorem av_mStreams_looksOver_b86 {C : Nat → Prop} {v0 : Nat} {v1 : Int} {v2 : Int} {v3 : Int} {v4 : Int} {h : Hp} (c : Cl C h) (Cv0 : C v0) : Ao (qV C h) (f_mStreams_looksOver_b86 v0 v1 v2 v3 v4 h) := by
  unfold f_mStreams_looksOver_b86
  have F0 := Av.rf c
  exact ao_jV F0 (av_mStreams_looksOver_b91 (F0.cl) Cv0)
theorem av_mStreams_looksOver_b57 {C : Nat → Prop} {v0 : Nat} {v1 : Int} {v2 : Int} {v3 : Int} {s0 : Int} {h : Hp} (c : Cl C h) (Cv0 : C v0) : Ao (qV C h) (f_mStreams_looksOver_b57 v0 v1 v2 v3 s0 h) := by
  unfold f_mStreams_looksOver_b57
  have F0 := Av.rf c
  refine ao_b2 F0 (av_mStreams_sends (F0.cl)) (fun r19 h17 F1 => ?_)
  refine ao_it ?_ ?_
  · exact ao_jV F1 (av_mStreams_looksOver_b86 (F1.cl) Cv0)
  · refine ao_b2 F1 (av_mStreams_sending (F1.cl)) (fun r22 h20 F2 => ?_)
    refine ao_it ?_ ?_
    · exact ao_jV F2 (av_mStreams_looksOver_b86 (F2.cl) Cv0)
    · refine ao_b2 F2 (av_mStreams_sending (F2.cl)) (fun r25 h23 F3 => ?_)
      refine ao_it ?_ ?_
      · exact ao_jV F3 (av_mStreams_looksOver_b91 (F3.cl) Cv0)
      · exact ao_jV F3 (av_mStreams_looksOver_b86 (F3.cl) Cv0)
theorem av_mStreams_looksOver_b52 {C : Nat → Prop} {v0 : Nat} {v1 : Int} {v2 : Int} {v3 : Int} {h : Hp} (c : Cl C h) (Cv0 : C v0) : Ao (qV C h) (f_mStreams_looksOver_b52 v0 v1 v2 v3 h) := by
  unfold f_mStreams_looksOver_b52
  have F0 := Av.rf c
  exact ao_jV F0 (av_mStreams_looksOver_b57 (F0.cl) Cv0)
theorem av_mStreams_looksOver {C : Nat → Prop} {v0 : Nat} {v1 : Int} {v2 : Int} {h : Hp} (c : Cl C h) (Cv0 : C v0) : Ao (qV C h) (f_mStreams_looksOver v0 v1 v2 h) := by
  unfold f_mStreams_looksOver
  have F0 := Av.rf c
  refine ao_b2 F0 (av_mStreams_at (F0.cl)) (fun r3 h1 F1 => ?_)
  refine ao_b2 F1 (av_mStreams_opens (F1.cl)) (fun r6 h4 F2 => ?_)
  refine ao_it ?_ ?_
  · exact ao_so F2
  · refine ao_it ao_no ?_
    refine ao_it ?_ ao_no
    refine ao_it ?_ ?_
    · exact ao_so F2
    · refine ao_it ao_no ?_
      refine ao_it ?_ ao_no
      refine ao_it ?_ ?_
      · refine ao_b2 F2 (av_mStreams_receives (F2.cl)) (fun r13 h11 F3 => ?_)
        refine ao_it ?_ ?_
        · exact ao_jV F3 (av_mStreams_looksOver_b52 (F3.cl) Cv0)
        · refine ao_b2 F3 (av_mStreams_receiving (F3.cl)) (fun r16 h14 F4 => ?_)
          refine ao_it ?_ ?_
          · exact ao_jV F4 (av_mStreams_looksOver_b57 (F4.cl) Cv0)
          · exact ao_jV F4 (av_mStreams_looksOver_b52 (F4.cl) Cv0)
      · exact ao_so F2
theorem av_mStreams_read_b106 {C : Nat → Prop} {k52 : Nat → Int → Int → Int → Nat → Int → Int → Int → Hp → Option (Int × Hp)} (hk52 : ∀ (v0 : Nat) (v1 : Int) (v2 : Int) (v3 : Int) (v4 : Nat) (v5 : Int) (v6 : Int) (v7 : Int) (h : Hp), Cl C h → C v0 → C v4 → Ao (qI C h) (k52 v0 v1 v2 v3 v4 v5 v6 v7 h)) {v0 : Nat} {v1 : Int} {v2 : Int} {v3 : Int} {v4 : Nat} {v5 : Int} {v6 : Int} {v7 : Int} {h : Hp} (c : Cl C h) (Cv0 : C v0) (Cv4 : C v4) : Ao (qI C h) (f_mStreams_read_b106 k52 v0 v1 v2 v3 v4 v5 v6 v7 h) := by
  unfold f_mStreams_read_b106
  have F0 := Av.rf c
  refine ao_it ao_no ?_
  refine ao_it ?_ ao_no
  refine ao_it ao_no ?_
  refine ao_it ?_ ao_no
  refine ao_it ao_no ?_
  refine ao_it ?_ ao_no
  refine ao_I F0 Cv4 (fun h38 F1 => ?_)
  refine ao_it ao_no ?_
  refine ao_it ?_ ao_no
  refine ao_it ?_ ao_no
  refine ao_I F1 (F1.cl.r Cv0) (fun h42 F2 => ?_)
  exact ao_jI F2 (hk52 _ _ _ _ _ _ _ _ _ (F2.cl) Cv0 Cv4)
theorem av_mStreams_read_b178 {C : Nat → Prop} {v0 : Nat} {v1 : Int} {v2 : Int} {v6 : Int} {h : Hp} (c : Cl C h) (Cv0 : C v0) : Ao (qI C h) (f_mStreams_read_b178 v0 v1 v2 v6 h) := by
  unfold f_mStreams_read_b178
  have F0 := Av.rf c
  refine ao_b1 F0 (av_mStreams_looksOver (F0.cl) Cv0) (fun h30 F1 => ?_)
  exact ao_so F1
theorem av_mStreams_read_b153 {C : Nat → Prop} {v0 : Nat} {v1 : Int} {v2 : Int} {v5 : Int} {v6 : Int} {h : Hp} (c : Cl C h) (Cv0 : C v0) : Ao (qI C h) (f_mStreams_read_b153 v0 v1 v2 v5 v6 h) := by
  unfold f_mStreams_read_b153
  have F0 := Av.rf c
  refine ao_it ?_ ?_
  · exact ao_jI F0 (av_mStreams_read_b178 (F0.cl) Cv0)
  · refine ao_b1 F0 (av_mStreams_growData (F0.cl) Cv0) (fun h23 F1 => ?_)
    refine ao_b2 F1 (av_mStreams_receiving (F1.cl)) (fun r27 h25 F2 => ?_)
    refine ao_it ?_ ?_
    · exact ao_jI F2 (av_mStreams_read_b178 (F2.cl) Cv0)
    · refine ao_b1 F2 (av_mStreams_growStream (F2.cl) Cv0) (fun h28 F3 => ?_)
      exact ao_jI F3 (av_mStreams_read_b178 (F3.cl) Cv0)
theorem av_mStreams_read_b52 {C : Nat → Prop} {k52 : Nat → Int → Int → Int → Nat → Int → Int → Int → Hp → Option (Int × Hp)} (hk52 : ∀ (v0 : Nat) (v1 : Int) (v2 : Int) (v3 : Int) (v4 : Nat) (v5 : Int) (v6 : Int) (v7 : Int) (h : Hp), Cl C h → C v0 → C v4 → Ao (qI C h) (k52 v0 v1 v2 v3 v4 v5 v6 v7 h)) {v0 : Nat} {v1 : Int} {v2 : Int} {v3 : Int} {v4 : Nat} {v5 : Int} {v6 : Int} {v7 : Int} {h : Hp} (c : Cl C h) (Cv0 : C v0) (Cv4 : C v4) : Ao (qI C h) (f_mStreams_read_b52 k52 v0 v1 v2 v3 v4 v5 v6 v7 h) := by
  unfold f_mStreams_read_b52
  have F0 := Av.rf c
  refine ao_it ?_ ?_
  · exact ao_jI F0 (av_mStreams_read_b153 (F0.cl) Cv0)
  · refine ao_it ao_no ?_
    refine ao_it ?_ ao_no
    refine ao_it ao_no ?_
    refine ao_it ?_ ao_no
    refine ao_it ?_ ?_
    · exact ao_jI F0 (av_mStreams_read_b153 (F0.cl) Cv0)
    · refine ao_it ?_ ao_no
      refine ao_it ?_ ?_
      · exact ao_jI F0 (av_mStreams_read_b106 hk52 (F0.cl) Cv0 Cv4)
      · refine ao_it ?_ ao_no
        refine ao_b2 F0 (av_mStreams_pieceAt (F0.cl)) (fun r22 h20 F1 => ?_)
        exact ao_jI F1 (av_mStreams_read_b106 hk52 (F1.cl) Cv0 Cv4)
theorem av_mStreams_read_b52_lp {C : Nat → Prop} (n : Nat) : ∀ {v0 : Nat} {v1 : Int} {v2 : Int} {v3 : Int} {v4 : Nat} {v5 : Int} {v6 : Int} {v7 : Int} {h : Hp}, Cl C h → C v0 → C v4 → Ao (qI C h) (f_mStreams_read_b52_lp n v0 v1 v2 v3 v4 v5 v6 v7 h) := by
  induction n with
  | zero => intros; exact ao_no
  | succ n ih => intro v0 v1 v2 v3 v4 v5 v6 v7 h c Cv0 Cv4; exact av_mStreams_read_b52 (fun _ _ _ _ _ _ _ _ h => ih) c Cv0 Cv4
theorem av_mStreams_read {C : Nat → Prop} {v0 : Nat} {v1 : Int} {v2 : Int} {v3 : Int} {v4 : Nat} {h : Hp} (c : Cl C h) (Cv0 : C v0) (Cv4 : C v4) : Ao (qI C h) (f_mStreams_read v0 v1 v2 v3 v4 h) := by
  unfold f_mStreams_read
  have F0 := Av.rf c
  refine ao_b2 F0 (av_mStreams_hasReceiving (F0.cl)) (fun r3 h1 F1 => ?_)
  refine ao_it ?_ ?_
  · refine ao_b2 F1 (av_mStreams_at (F1.cl)) (fun r6 h4 F2 => ?_)
    refine ao_it ao_no ?_
    refine ao_it ?_ ao_no
    refine ao_it ?_ ?_
    · refine ao_it ao_no ?_
      refine ao_it ?_ ao_no
      refine ao_b2 F2 (av_mStreams_pieceAt (F2.cl)) (fun r13 h11 F3 => ?_)
      exact ao_jI F3 (av_mStreams_read_b52_lp FU (F3.cl) Cv0 Cv4)
    · exact ao_so F2
  · exact ao_so F1
theorem av_mP_read_b61 {C : Nat → Prop} {v0 : Nat} {v4 : Int} {s0 : Nat} {s1 : Int} {h : Hp} (c : Cl C h) (Cs0 : C s0) : Ao (qI C h) (f_mP_read_b61 v0 v4 s0 s1 h) := by
  unfold f_mP_read_b61
  have F0 := Av.rf c
  refine ao_it ao_no ?_
  refine ao_I F0 Cs0 (fun h13 F1 => ?_)
  exact ao_so F1
theorem av_mP_read_b24 {C : Nat → Prop} {v0 : Nat} {v1 : Int} {v2 : Int} {v3 : Int} {s0 : Nat} {s1 : Int} {h : Hp} (c : Cl C h) (Cv0 : C v0) (Cs0 : C s0) : Ao (qI C h) (f_mP_read_b24 v0 v1 v2 v3 s0 s1 h) := by
  unfold f_mP_read_b24
  have F0 := Av.rf c
  refine ao_it ao_no ?_
  refine ao_b2 F0 (av_mP_fails (F0.cl) Cs0) (fun r7 h5 F1 => ?_)
  refine ao_it ?_ ?_
  · refine ao_it ao_no ?_
    refine ao_b2 F1 (av_mStreams_read (F1.cl) (F1.cl.r Cv0) (F1.cl.r Cv0)) (fun r11 h9 F2 => ?_)
    refine ao_it ?_ ?_
    · exact ao_jI F2 (av_mP_read_b61 (F2.cl) Cv0)
    · exact ao_jI F2 (av_mP_read_b61 (F2.cl) Cv0)
  · exact ao_so F1
theorem av_mP_read_b19 {C : Nat → Prop} {v0 : Nat} {v1 : Int} {v2 : Int} {v3 : Int} {s0 : Nat} {h : Hp} (c : Cl C h) (Cv0 : C v0) (Cs0 : C s0) : Ao (qI C h) (f_mP_read_b19 v0 v1 v2 v3 s0 h) := by
  unfold f_mP_read_b19
  have F0 := Av.rf c
  exact ao_jI F0 (av_mP_read_b24 (F0.cl) Cv0 Cs0)
theorem av_mP_read {C : Nat → Prop} {v0 : Nat} {v1 : Int} {v2 : Int} {v3 : Int} {h : Hp} (c : Cl C h) (Cv0 : C v0) : Ao (qI C h) (f_mP_read v0 v1 v2 v3 h) := by
  unfold f_mP_read
  have F0 := Av.rf c
  refine ao_b2 F0 (av_mP_no (F0.cl)) (fun r3 h1 F1 => ?_)
  refine ao_it ?_ ?_
  · exact ao_jI F1 (av_mP_read_b19 (F1.cl) Cv0 Cv0)
  · refine ao_it ?_ ?_
    · exact ao_jI F1 (av_mP_read_b19 (F1.cl) Cv0 Cv0)
    · refine ao_it ?_ ?_
      · exact ao_jI F1 (av_mP_read_b24 (F1.cl) Cv0 Cv0)
      · exact ao_jI F1 (av_mP_read_b19 (F1.cl) Cv0 Cv0)
theorem av_mP_outs_b32 {C : Nat → Prop} {k32 : Nat → Int → Int → Int → Hp → Option (Int × Hp)} (hk32 : ∀ (v0 : Nat) (v1 : Int) (v2 : Int) (v4 : Int) (h : Hp), Cl C h → Ao (qI C h) (k32 v0 v1 v2 v4 h)) {v0 : Nat} {v1 : Int} {v2 : Int} {v4 : Int} {h : Hp} (c : Cl C h) : Ao (qI C h) (f_mP_outs_b32 k32 v0 v1 v2 v4 h) := by
  unfold f_mP_outs_b32
  have F0 := Av.rf c
  refine ao_it ?_ ?_
  · exact ao_so F0
  · refine ao_it ?_ ?_
    · exact ao_so F0
    · refine ao_it ao_no ?_
      refine ao_it ?_ ao_no
      refine ao_v (fun y7 => ?_)
      exact ao_jI F0 (hk32 _ _ _ _ _ (F0.cl))
theorem av_mP_outs_b32_lp {C : Nat → Prop} (n : Nat) : ∀ {v0 : Nat} {v1 : Int} {v2 : Int} {v4 : Int} {h : Hp}, Cl C h → Ao (qI C h) (f_mP_outs_b32_lp n v0 v1 v2 v4 h) := by
  induction n with
  | zero => intros; exact ao_no
  | succ n ih => intro v0 v1 v2 v4 h c; exact av_mP_outs_b32 (fun _ _ _ _ h => ih) c
theorem av_mP_outs_b18 {C : Nat → Prop} {v0 : Nat} {v1 : Int} {s0 : Nat} {s1 : Int} {h : Hp} (c : Cl C h) (Cs0 : C s0) : Ao (qI C h) (f_mP_outs_b18 v0 v1 s0 s1 h) := by
  unfold f_mP_outs_b18
  have F0 := Av.rf c
  refine ao_it ao_no ?_
  refine ao_b2 F0 (av_mP_fails (F0.cl) Cs0) (fun r4 h2 F1 => ?_)
  refine ao_it ?_ ?_
  · exact ao_jI F1 (av_mP_outs_b32_lp FU (F1.cl))
  · exact ao_so F1
theorem av_mP_outs_b13 {C : Nat → Prop} {v0 : Nat} {v1 : Int} {s0 : Nat} {h : Hp} (c : Cl C h) (Cs0 : C s0) : Ao (qI C h) (f_mP_outs_b13 v0 v1 s0 h) := by
  unfold f_mP_outs_b13
  have F0 := Av.rf c
  exact ao_jI F0 (av_mP_outs_b18 (F0.cl) Cs0)
theorem av_mP_outs {C : Nat → Prop} {v0 : Nat} {v1 : Int} {h : Hp} (c : Cl C h) (Cv0 : C v0) : Ao (qI C h) (f_mP_outs v0 v1 h) := by
  unfold f_mP_outs
  have F0 := Av.rf c
  refine ao_it ?_ ?_
  · exact ao_jI F0 (av_mP_outs_b13 (F0.cl) Cv0)
  · refine ao_it ?_ ?_
    · exact ao_jI F0 (av_mP_outs_b18 (F0.cl) Cv0)
    · exact ao_jI F0 (av_mP_outs_b13 (F0.cl) Cv0)
theorem av_mSide_isAlive_b16 {C : Nat → Prop} {v0 : Nat} {h : Hp} (c : Cl C h) : Ao (qI C h) (f_mSide_isAlive_b16 v0 h) := by
  unfold f_mSide_isAlive_b16
  have F0 := Av.rf c
  exact ao_so F0
theorem av_mSide_isAlive {C : Nat → Prop} {v0 : Nat} {h : Hp} (c : Cl C h) : Ao (qI C h) (f_mSide_isAlive v0 h) := by
  unfold f_mSide_isAlive
  have F0 := Av.rf c
  refine ao_it ?_ ?_
  · exact ao_jI F0 (av_mSide_isAlive_b16 (F0.cl))
  · refine ao_it ?_ ?_
    · exact ao_so F0
    · exact ao_jI F0 (av_mSide_isAlive_b16 (F0.cl))
theorem av_mBook_greater {C : Nat → Prop} {v0 : Int} {v1 : Int} {h : Hp} (c : Cl C h) : Ao (qI C h) (f_mBook_greater v0 v1 h) := by
  unfold f_mBook_greater
  have F0 := Av.rf c
  refine ao_it ?_ ?_
  · exact ao_so F0
  · exact ao_so F0
theorem av_mBook_patience {C : Nat → Prop} {v0 : Nat} {v1 : Int} {h : Hp} (c : Cl C h) : Ao (qI C h) (f_mBook_patience v0 v1 h) := by
  unfold f_mBook_patience
  have F0 := Av.rf c
  refine ao_b2 F0 (av_mBook_greater (F0.cl)) (fun r3 h1 F1 => ?_)
  refine ao_it ?_ ?_
  · exact ao_so F1
  · exact ao_so F1
theorem av_mSide_end {C : Nat → Prop} {v0 : Nat} {v1 : Int} {h : Hp} (c : Cl C h) (Cv0 : C v0) : Ao (qV C h) (f_mSide_end v0 v1 h) := by
  unfold f_mSide_end
  have F0 := Av.rf c
  refine ao_I F0 Cv0 (fun h1 F1 => ?_)
  refine ao_it ao_no ?_
  refine ao_b2 F1 (av_mBook_patience (F1.cl)) (fun r5 h3 F2 => ?_)
  refine ao_I F2 Cv0 (fun h6 F3 => ?_)
  exact ao_so F3
theorem av_mSide_closes_b29 {C : Nat → Prop} {v0 : Nat} {v1 : Int} {v2 : Int} {s0 : Nat} {s1 : Int} {h : Hp} (c : Cl C h) (Cv0 : C v0) (Cs0 : C s0) : Ao (qV C h) (f_mSide_closes_b29 v0 v1 v2 s0 s1 h) := by
  unfold f_mSide_closes_b29
  have F0 := Av.rf c
  refine ao_it ao_no ?_
  refine ao_I F0 Cs0 (fun h7 F1 => ?_)
  refine ao_I F1 Cv0 (fun h8 F2 => ?_)
  refine ao_I F2 Cv0 (fun h9 F3 => ?_)
  refine ao_I F3 Cv0 (fun h10 F4 => ?_)
  refine ao_I F4 Cv0 (fun h11 F5 => ?_)
  exact ao_so F5
theorem av_mSide_closes {C : Nat → Prop} {v0 : Nat} {v1 : Int} {v2 : Int} {h : Hp} (c : Cl C h) (Cv0 : C v0) : Ao (qV C h) (f_mSide_closes v0 v1 v2 h) := by
  unfold f_mSide_closes
  have F0 := Av.rf c
  refine ao_b2 F0 (av_mSide_isAlive (F0.cl)) (fun r3 h1 F1 => ?_)
  refine ao_it ?_ ?_
  · refine ao_b1 F1 (av_mSide_end (F1.cl) Cv0) (fun h4 F2 => ?_)
    refine ao_it ?_ ?_
    · exact ao_jV F2 (av_mSide_closes_b29 (F2.cl) Cv0 Cv0)
    · exact ao_jV F2 (av_mSide_closes_b29 (F2.cl) Cv0 Cv0)
  · exact ao_so F1
theorem av_mP_close_b24 {C : Nat → Prop} {v0 : Nat} {v1 : Int} {v2 : Int} {s0 : Nat} {s1 : Int} {h : Hp} (c : Cl C h) (Cv0 : C v0) (Cs0 : C s0) : Ao (qI C h) (f_mP_close_b24 v0 v1 v2 s0 s1 h) := by
  unfold f_mP_close_b24
  have F0 := Av.rf c
  refine ao_it ao_no ?_
  refine ao_b2 F0 (av_mP_fails (F0.cl) Cs0) (fun r7 h5 F1 => ?_)
  refine ao_it ?_ ?_
  · exact ao_so F1
  · refine ao_it ao_no ?_
    refine ao_it ?_ ao_no
    refine ao_it ao_no ?_
    refine ao_b2 F1 (av_mSide_isAlive (F1.cl)) (fun r13 h11 F2 => ?_)
    refine ao_it ?_ ?_
    · refine ao_it ao_no ?_
      refine ao_it ?_ ao_no
      refine ao_it ao_no ?_
      refine ao_b1 F2 (av_mSide_closes (F2.cl) (F2.cl.r (F2.cl.r Cv0))) (fun h17 F3 => ?_)
      exact ao_so F3
    · exact ao_so F2
theorem av_mP_close_b19 {C : Nat → Prop} {v0 : Nat} {v1 : Int} {v2 : Int} {s0 : Nat} {h : Hp} (c : Cl C h) (Cv0 : C v0) (Cs0 : C s0) : Ao (qI C h) (f_mP_close_b19 v0 v1 v2 s0 h) := by
  unfold f_mP_close_b19
  have F0 := Av.rf c
  exact ao_jI F0 (av_mP_close_b24 (F0.cl) Cv0 Cs0)
theorem av_mP_close {C : Nat → Prop} {v0 : Nat} {v1 : Int} {v2 : Int} {h : Hp} (c : Cl C h) (Cv0 : C v0) : Ao (qI C h) (f_mP_close v0 v1 v2 h) := by
  unfold f_mP_close
  have F0 := Av.rf c
  refine ao_b2 F0 (av_mP_no (F0.cl)) (fun r3 h1 F1 => ?_)
  refine ao_it ?_ ?_
  · exact ao_jI F1 (av_mP_close_b19 (F1.cl) Cv0 Cv0)
  · refine ao_it ?_ ?_
    · exact ao_jI F1 (av_mP_close_b19 (F1.cl) Cv0 Cv0)
    · refine ao_it ?_ ?_
      · exact ao_jI F1 (av_mP_close_b24 (F1.cl) Cv0 Cv0)
      · exact ao_jI F1 (av_mP_close_b19 (F1.cl) Cv0 Cv0)
theorem av_mP_raw_b74 {C : Nat → Prop} {k74 : Nat → Nat → Int → Hp → Option (Hp)} (hk74 : ∀ (v0 : Nat) (v2 : Nat) (v3 : Int) (h : Hp), Cl C h → C v0 → C v2 → Ao (qV C h) (k74 v0 v2 v3 h)) {v0 : Nat} {v2 : Nat} {v3 : Int} {h : Hp} (c : Cl C h) (Cv0 : C v0) (Cv2 : C v2) : Ao (qV C h) (f_mP_raw_b74 k74 v0 v2 v3 h) := by
  unfold f_mP_raw_b74
  have F0 := Av.rf c
  refine ao_it ?_ ?_
  · refine ao_it ao_no ?_
    refine ao_I F0 Cv2 (fun h19 F1 => ?_)
    refine ao_I F1 Cv0 (fun h20 F2 => ?_)
    exact ao_so F2
  · refine ao_it ao_no ?_
    refine ao_it ao_no ?_
    refine ao_it ?_ ao_no
    refine ao_it ao_no ?_
    refine ao_it ?_ ao_no
    refine ao_I F0 (F0.cl.r Cv2) (fun h26 F3 => ?_)
    exact ao_jV F3 (hk74 _ _ _ _ (F3.cl) Cv0 Cv2)
theorem av_mP_raw_b74_lp {C : Nat → Prop} (n : Nat) : ∀ {v0 : Nat} {v2 : Nat} {v3 : Int} {h : Hp}, Cl C h → C v0 → C v2 → Ao (qV C h) (f_mP_raw_b74_lp n v0 v2 v3 h) := by
  induction n with
  | zero => intros; exact ao_no
  | succ n ih => intro v0 v2 v3 h c Cv0 Cv2; exact av_mP_raw_b74 (fun _ _ _ h => ih) c Cv0 Cv2
theorem av_mP_raw_b57 {C : Nat → Prop} {v0 : Nat} {v1 : Int} {s0 : Nat} {s1 : Int} {h : Hp} (c : Cl C h) (Cv0 : C v0) (Cs0 : C s0) : Ao (qV C h) (f_mP_raw_b57 v0 v1 s0 s1 h) := by
  unfold f_mP_raw_b57
  have F0 := Av.rf c
  refine ao_it ao_no ?_
  refine ao_b2 F0 (av_mP_fails (F0.cl) Cs0) (fun r14 h12 F1 => ?_)
  refine ao_it ?_ ?_
  · refine ao_it ao_no ?_
    refine ao_it ?_ ao_no
    refine ao_m (F1.cl.r (F1.cl.r Cv0)) (fun y17 Cy17 => ?_)
    exact ao_jV F1 (av_mP_raw_b74_lp FU (F1.cl) Cv0 Cy17)
  · exact ao_so F1
theorem av_mP_raw_b31 {C : Nat → Prop} {v0 : Nat} {v1 : Int} {s0 : Nat} {s1 : Int} {h : Hp} (c : Cl C h) (Cv0 : C v0) (Cs0 : C s0) : Ao (qV C h) (f_mP_raw_b31 v0 v1 s0 s1 h) := by
  unfold f_mP_raw_b31
  have F0 := Av.rf c
  refine ao_it ao_no ?_
  refine ao_b2 F0 (av_mP_fails (F0.cl) Cs0) (fun r7 h5 F1 => ?_)
  refine ao_it ?_ ?_
  · exact ao_so F1
  · refine ao_it ao_no ?_
    refine ao_it ?_ ao_no
    refine ao_it ao_no ?_
    refine ao_it ?_ ?_
    · exact ao_jV F1 (av_mP_raw_b57 (F1.cl) Cv0 Cv0)
    · exact ao_jV F1 (av_mP_raw_b57 (F1.cl) Cv0 Cv0)
theorem av_mP_raw_b26 {C : Nat → Prop} {v0 : Nat} {v1 : Int} {s0 : Nat} {h : Hp} (c : Cl C h) (Cv0 : C v0) (Cs0 : C s0) : Ao (qV C h) (f_mP_raw_b26 v0 v1 s0 h) := by
  unfold f_mP_raw_b26
  have F0 := Av.rf c
  exact ao_jV F0 (av_mP_raw_b31 (F0.cl) Cv0 Cs0)
theorem av_mP_raw {C : Nat → Prop} {v0 : Nat} {v1 : Int} {h : Hp} (c : Cl C h) (Cv0 : C v0) : Ao (qV C h) (f_mP_raw v0 v1 h) := by
  unfold f_mP_raw
  have F0 := Av.rf c
  refine ao_b2 F0 (av_mP_no (F0.cl)) (fun r3 h1 F1 => ?_)
  refine ao_it ?_ ?_
  · exact ao_jV F1 (av_mP_raw_b26 (F1.cl) Cv0 Cv0)
  · refine ao_it ?_ ?_
    · exact ao_jV F1 (av_mP_raw_b26 (F1.cl) Cv0 Cv0)
    · refine ao_it ?_ ?_
      · exact ao_jV F1 (av_mP_raw_b31 (F1.cl) Cv0 Cv0)
      · exact ao_jV F1 (av_mP_raw_b26 (F1.cl) Cv0 Cv0)
theorem av_mP_place {C : Nat → Prop} {v0 : Nat} {v1 : Int} {v2 : Int} {h : Hp} (c : Cl C h) : Ao (qI C h) (f_mP_place v0 v1 v2 h) := by
  unfold f_mP_place
  have F0 := Av.rf c
  refine ao_it ao_no ?_
  refine ao_it ?_ ao_no
  exact ao_so F0
theorem av_mP_lies_b82 {C : Nat → Prop} {k82 : Nat → Int → Nat → Int → Int → Int → Hp → Option (Hp)} (hk82 : ∀ (v0 : Nat) (v1 : Int) (v2 : Nat) (v3 : Int) (v5 : Int) (v6 : Int) (h : Hp), Cl C h → C v0 → Ao (qV C h) (k82 v0 v1 v2 v3 v5 v6 h)) {v0 : Nat} {v1 : Int} {v2 : Nat} {v3 : Int} {v5 : Int} {v6 : Int} {h : Hp} (c : Cl C h) (Cv0 : C v0) : Ao (qV C h) (f_mP_lies_b82 k82 v0 v1 v2 v3 v5 v6 h) := by
  unfold f_mP_lies_b82
  have F0 := Av.rf c
  refine ao_it ?_ ?_
  · refine ao_it ao_no ?_
    refine ao_it ?_ ao_no
    refine ao_it ao_no ?_
    refine ao_it ?_ ao_no
    refine ao_I F0 (F0.cl.r Cv0) (fun h26 F1 => ?_)
    refine ao_it ao_no ?_
    refine ao_it ?_ ao_no
    refine ao_it ?_ ao_no
    refine ao_I F1 (F1.cl.r Cv0) (fun h30 F2 => ?_)
    exact ao_so F2
  · refine ao_it ao_no ?_
    refine ao_it ?_ ao_no
    refine ao_it ao_no ?_
    refine ao_it ?_ ao_no
    refine ao_I F0 (F0.cl.r Cv0) (fun h35 F3 => ?_)
    exact ao_jV F3 (hk82 _ _ _ _ _ _ _ (F3.cl) Cv0)
theorem av_mP_lies_b82_lp {C : Nat → Prop} (n : Nat) : ∀ {v0 : Nat} {v1 : Int} {v2 : Nat} {v3 : Int} {v5 : Int} {v6 : Int} {h : Hp}, Cl C h → C v0 → Ao (qV C h) (f_mP_lies_b82_lp n v0 v1 v2 v3 v5 v6 h) := by
  induction n with
  | zero => intros; exact ao_no
  | succ n ih => intro v0 v1 v2 v3 v5 v6 h c Cv0; exact av_mP_lies_b82 (fun _ _ _ _ _ _ h => ih) c Cv0
theorem av_mP_lies_b38 {C : Nat → Prop} {k38 : Nat → Int → Nat → Int → Int → Int → Hp → Option (Hp)} (hk38 : ∀ (v0 : Nat) (v1 : Int) (v2 : Nat) (v3 : Int) (v4 : Int) (v5 : Int) (h : Hp), Cl C h → C v0 → Ao (qV C h) (k38 v0 v1 v2 v3 v4 v5 h)) {v0 : Nat} {v1 : Int} {v2 : Nat} {v3 : Int} {v4 : Int} {v5 : Int} {h : Hp} (c : Cl C h) (Cv0 : C v0) : Ao (qV C h) (f_mP_lies_b38 k38 v0 v1 v2 v3 v4 v5 h) := by
  unfold f_mP_lies_b38
  have F0 := Av.rf c
  refine ao_it ao_no ?_
  refine ao_it ?_ ao_no
  refine ao_it ?_ ?_
  · refine ao_it ?_ ao_no
    refine ao_I F0 (F0.cl.r Cv0) (fun h15 F1 => ?_)
    refine ao_it ao_no ?_
    refine ao_it ?_ ao_no
    refine ao_I F1 (F1.cl.r Cv0) (fun h18 F2 => ?_)
    refine ao_it ao_no ?_
    refine ao_it ?_ ao_no
    refine ao_I F2 (F2.cl.r Cv0) (fun h21 F3 => ?_)
    exact ao_jV F3 (av_mP_lies_b82_lp FU (F3.cl) Cv0)
  · exact ao_jV F0 (hk38 _ _ _ _ _ _ _ (F0.cl) Cv0)
theorem av_mP_lies_b38_lp {C : Nat → Prop} (n : Nat) : ∀ {v0 : Nat} {v1 : Int} {v2 : Nat} {v3 : Int} {v4 : Int} {v5 : Int} {h : Hp}, Cl C h → C v0 → Ao (qV C h) (f_mP_lies_b38_lp n v0 v1 v2 v3 v4 v5 h) := by
  induction n with
  | zero => intros; exact ao_no
  | succ n ih => intro v0 v1 v2 v3 v4 v5 h c Cv0; exact av_mP_lies_b38 (fun _ _ _ _ _ _ h => ih) c Cv0
theorem av_mP_lies {C : Nat → Prop} {v0 : Nat} {v1 : Int} {v2 : Nat} {v3 : Int} {v4 : Int} {h : Hp} (c : Cl C h) (Cv0 : C v0) : Ao (qV C h) (f_mP_lies v0 v1 v2 v3 v4 h) := by
  unfold f_mP_lies
  have F0 := Av.rf c
  refine ao_it ao_no ?_
  refine ao_it ?_ ao_no
  refine ao_it ?_ ao_no
  refine ao_I F0 (F0.cl.r Cv0) (fun h4 F1 => ?_)
  refine ao_it ao_no ?_
  refine ao_it ?_ ao_no
  refine ao_it ?_ ?_
  · refine ao_v (fun y7 => ?_)
    exact ao_jV F1 (av_mP_lies_b38_lp FU (F1.cl) Cv0)
  · refine ao_it ao_no ?_
    refine ao_it ?_ ao_no
    refine ao_it ?_ ao_no
    refine ao_I F1 (F1.cl.r Cv0) (fun h11 F3 => ?_)
    exact ao_so F3
theorem av_mP_lift_b10 {C : Nat → Prop} {k10 : Nat → Int → Int → Hp → Option (Hp)} (hk10 : ∀ (v0 : Nat) (v3 : Int) (v4 : Int) (h : Hp), Cl C h → C v0 → Ao (qV C h) (k10 v0 v3 v4 h)) {v0 : Nat} {v3 : Int} {v4 : Int} {h : Hp} (c : Cl C h) (Cv0 : C v0) : Ao (qV C h) (f_mP_lift_b10 k10 v0 v3 v4 h) := by
  unfold f_mP_lift_b10
  have F0 := Av.rf c
  refine ao_it ao_no ?_
  refine ao_it ?_ ao_no
  refine ao_it ?_ ?_
  · exact ao_so F0
  · refine ao_it ao_no ?_
    refine ao_it ?_ ao_no
    refine ao_it ao_no ?_
    refine ao_it ?_ ao_no
    refine ao_I F0 (F0.cl.r Cv0) (fun h10 F1 => ?_)
    exact ao_jV F1 (hk10 _ _ _ _ (F1.cl) Cv0)
theorem av_mP_lift_b10_lp {C : Nat → Prop} (n : Nat) : ∀ {v0 : Nat} {v3 : Int} {v4 : Int} {h : Hp}, Cl C h → C v0 → Ao (qV C h) (f_mP_lift_b10_lp n v0 v3 v4 h) := by
  induction n with
  | zero => intros; exact ao_no
  | succ n ih => intro v0 v3 v4 h c Cv0; exact av_mP_lift_b10 (fun _ _ _ h => ih) c Cv0
theorem av_mP_lift {C : Nat → Prop} {v0 : Nat} {v1 : Int} {v2 : Int} {h : Hp} (c : Cl C h) (Cv0 : C v0) : Ao (qV C h) (f_mP_lift v0 v1 v2 h) := by
  unfold f_mP_lift
  have F0 := Av.rf c
  refine ao_b2 F0 (av_mP_place (F0.cl)) (fun r3 h1 F1 => ?_)
  exact ao_jV F1 (av_mP_lift_b10_lp FU (F1.cl) Cv0)
theorem av_mP_remove_b27 {C : Nat → Prop} {k27 : Nat → Int → Int → Int → Hp → Option (Int × Hp)} (hk27 : ∀ (v0 : Nat) (v1 : Int) (v3 : Int) (v4 : Int) (h : Hp), Cl C h → C v0 → Ao (qI C h) (k27 v0 v1 v3 v4 h)) {v0 : Nat} {v1 : Int} {v3 : Int} {v4 : Int} {h : Hp} (c : Cl C h) (Cv0 : C v0) : Ao (qI C h) (f_mP_remove_b27 k27 v0 v1 v3 v4 h) := by
  unfold f_mP_remove_b27
  have F0 := Av.rf c
  refine ao_it ao_no ?_
  refine ao_it ?_ ao_no
  refine ao_it ?_ ?_
  · refine ao_it ao_no ?_
    refine ao_it ?_ ao_no
    exact ao_so F0
  · refine ao_it ao_no ?_
    refine ao_it ?_ ao_no
    refine ao_it ?_ ao_no
    refine ao_I F0 (F0.cl.r Cv0) (fun h18 F1 => ?_)
    exact ao_jI F1 (hk27 _ _ _ _ _ (F1.cl) Cv0)
theorem av_mP_remove_b27_lp {C : Nat → Prop} (n : Nat) : ∀ {v0 : Nat} {v1 : Int} {v3 : Int} {v4 : Int} {h : Hp}, Cl C h → C v0 → Ao (qI C h) (f_mP_remove_b27_lp n v0 v1 v3 v4 h) := by
  induction n with
  | zero => intros; exact ao_no
  | succ n ih => intro v0 v1 v3 v4 h c Cv0; exact av_mP_remove_b27 (fun _ _ _ _ h => ih) c Cv0
theorem av_mP_remove {C : Nat → Prop} {v0 : Nat} {v1 : Int} {v2 : Int} {h : Hp} (c : Cl C h) (Cv0 : C v0) : Ao (qI C h) (f_mP_remove v0 v1 v2 h) := by
  unfold f_mP_remove
  have F0 := Av.rf c
  refine ao_b2 F0 (av_mP_place (F0.cl)) (fun r3 h1 F1 => ?_)
  refine ao_it ao_no ?_
  refine ao_it ?_ ao_no
  refine ao_I F1 (F1.cl.r Cv0) (fun h6 F2 => ?_)
  refine ao_it ao_no ?_
  refine ao_it ?_ ao_no
  refine ao_it ?_ ao_no
  refine ao_I F2 (F2.cl.r Cv0) (fun h10 F3 => ?_)
  exact ao_jI F3 (av_mP_remove_b27_lp FU (F3.cl) Cv0)
theorem av_mP_isNone_b14 {C : Nat → Prop} {v0 : Nat} {h : Hp} (c : Cl C h) : Ao (qI C h) (f_mP_isNone_b14 v0 h) := by
  unfold f_mP_isNone_b14
  have F0 := Av.rf c
  exact ao_so F0
theorem av_mP_isNone {C : Nat → Prop} {v0 : Nat} {v1 : Int} {v2 : Int} {h : Hp} (c : Cl C h) : Ao (qI C h) (f_mP_isNone v0 v1 v2 h) := by
  unfold f_mP_isNone
  have F0 := Av.rf c
  refine ao_it ?_ ?_
  · exact ao_jI F0 (av_mP_isNone_b14 (F0.cl))
  · refine ao_it ao_no ?_
    refine ao_it ?_ ao_no
    refine ao_it ?_ ?_
    · exact ao_so F0
    · exact ao_jI F0 (av_mP_isNone_b14 (F0.cl))
theorem av_mWire_look {C : Nat → Prop} {v0 : Nat} {v1 : Nat} {v2 : Int} {v3 : Int} {h : Hp} (c : Cl C h) (Cv0 : C v0) (Cv1 : C v1) : Ao (qV C h) (f_mWire_look v0 v1 v2 v3 h) := by
  unfold f_mWire_look
  have F0 := Av.rf c
  refine ao_R F0 Cv0 Cv1 (fun h1 F1 => ?_)
  refine ao_I F1 Cv0 (fun h2 F2 => ?_)
  refine ao_I F2 Cv0 (fun h3 F3 => ?_)
  refine ao_I F3 Cv0 (fun h4 F4 => ?_)
  exact ao_so F4
theorem av_mWire_take_b20 {C : Nat → Prop} {v0 : Nat} {h : Hp} (c : Cl C h) (Cv0 : C v0) : Ao (qI C h) (f_mWire_take_b20 v0 h) := by
  unfold f_mWire_take_b20
  have F0 := Av.rf c
  refine ao_I F0 Cv0 (fun h5 F1 => ?_)
  exact ao_so F1
theorem av_mWire_take_b32 {C : Nat → Prop} {k32 : Nat → Int → Int → Int → Hp → Option (Int × Hp)} (hk32 : ∀ (v0 : Nat) (v1 : Int) (v2 : Int) (v4 : Int) (h : Hp), Cl C h → C v0 → Ao (qI C h) (k32 v0 v1 v2 v4 h)) {v0 : Nat} {v1 : Int} {v2 : Int} {v4 : Int} {h : Hp} (c : Cl C h) (Cv0 : C v0) : Ao (qI C h) (f_mWire_take_b32 k32 v0 v1 v2 v4 h) := by
  unfold f_mWire_take_b32
  have F0 := Av.rf c
  refine ao_it ?_ ?_
  · exact ao_so F0
  · refine ao_it ao_no ?_
    refine ao_it ?_ ao_no
    refine ao_v (fun y3 => ?_)
    refine ao_I F0 Cv0 (fun h4 F2 => ?_)
    exact ao_jI F2 (hk32 _ _ _ _ _ (F2.cl) Cv0)
theorem av_mWire_take_b32_lp {C : Nat → Prop} (n : Nat) : ∀ {v0 : Nat} {v1 : Int} {v2 : Int} {v4 : Int} {h : Hp}, Cl C h → C v0 → Ao (qI C h) (f_mWire_take_b32_lp n v0 v1 v2 v4 h) := by
  induction n with
  | zero => intros; exact ao_no
  | succ n ih => intro v0 v1 v2 v4 h c Cv0; exact av_mWire_take_b32 (fun _ _ _ _ h => ih) c Cv0
theorem av_mWire_take {C : Nat → Prop} {v0 : Nat} {v1 : Int} {h : Hp} (c : Cl C h) (Cv0 : C v0) : Ao (qI C h) (f_mWire_take v0 v1 h) := by
  unfold f_mWire_take
  have F0 := Av.rf c
  refine ao_it ?_ ?_
  · exact ao_jI F0 (av_mWire_take_b20 (F0.cl) Cv0)
  · refine ao_it ?_ ?_
    · exact ao_jI F0 (av_mWire_take_b32_lp FU (F0.cl) Cv0)
    · exact ao_jI F0 (av_mWire_take_b20 (F0.cl) Cv0)
theorem av_mWire_pass_b27 {C : Nat → Prop} {v0 : Nat} {v3 : Int} {h : Hp} (c : Cl C h) (Cv0 : C v0) : Ao (qI C h) (f_mWire_pass_b27 v0 v3 h) := by
  unfold f_mWire_pass_b27
  have F0 := Av.rf c
  refine ao_I F0 Cv0 (fun h3 F1 => ?_)
  exact ao_so F1
theorem av_mWire_pass {C : Nat → Prop} {v0 : Nat} {v1 : Int} {h : Hp} (c : Cl C h) (Cv0 : C v0) : Ao (qI C h) (f_mWire_pass v0 v1 h) := by
  unfold f_mWire_pass
  have F0 := Av.rf c
  refine ao_v (fun y1 => ?_)
  refine ao_it ?_ ?_
  · exact ao_jI F0 (av_mWire_pass_b27 (F0.cl) Cv0)
  · refine ao_it ?_ ?_
    · refine ao_I F0 Cv0 (fun h2 F2 => ?_)
      exact ao_so F2
    · exact ao_jI F0 (av_mWire_pass_b27 (F0.cl) Cv0)
theorem av_mP_readsName {C : Nat → Prop} {v0 : Nat} {v1 : Int} {h : Hp} (c : Cl C h) (Cv0 : C v0) : Ao (qI C h) (f_mP_readsName v0 v1 h) := by
  unfold f_mP_readsName
  have F0 := Av.rf c
  refine ao_it ao_no ?_
  refine ao_b2 F0 (av_mWire_take (F0.cl) (F0.cl.r Cv0)) (fun r4 h2 F1 => ?_)
  refine ao_v (fun y5 => ?_)
  refine ao_it ao_no ?_
  refine ao_it ?_ ?_
  · exact ao_so F1
  · refine ao_it ?_ ?_
    · refine ao_b2 F1 (av_mWire_pass (F1.cl) (F1.cl.r Cv0)) (fun r9 h7 F3 => ?_)
      refine ao_it ao_no ?_
      refine ao_it ?_ ao_no
      refine ao_I F3 (F1.cl.r Cv0) (fun h12 F4 => ?_)
      refine ao_it ao_no ?_
      refine ao_it ?_ ao_no
      refine ao_I F4 (F4.cl.r Cv0) (fun h15 F5 => ?_)
      refine ao_it ao_no ?_
      refine ao_it ?_ ?_
      · exact ao_so F5
      · exact ao_so F5
    · exact ao_so F1
theorem av_mWire_takeNumber_b18 {C : Nat → Prop} {v0 : Nat} {h : Hp} (c : Cl C h) (Cv0 : C v0) : Ao (qI C h) (f_mWire_takeNumber_b18 v0 h) := by
  unfold f_mWire_takeNumber_b18
  have F0 := Av.rf c
  refine ao_I F0 Cv0 (fun h7 F1 => ?_)
  exact ao_so F1
theorem av_mWire_takeNumber_b69 {C : Nat → Prop} {v0 : Nat} {s0 : Int} {s1 : Int} {h : Hp} (c : Cl C h) : Ao (qI C h) (f_mWire_takeNumber_b69 v0 s0 s1 h) := by
  unfold f_mWire_takeNumber_b69
  have F0 := Av.rf c
  exact ao_so F0
theorem av_mWire_takeNumber {C : Nat → Prop} {v0 : Nat} {h : Hp} (c : Cl C h) (Cv0 : C v0) : Ao (qI C h) (f_mWire_takeNumber v0 h) := by
  unfold f_mWire_takeNumber
  have F0 := Av.rf c
  refine ao_it ?_ ?_
  · exact ao_jI F0 (av_mWire_takeNumber_b18 (F0.cl) Cv0)
  · refine ao_it ?_ ?_
    · refine ao_it ao_no ?_
      refine ao_it ?_ ao_no
      refine ao_v (fun y3 => ?_)
      refine ao_b2 F0 (av_mWire_take (F0.cl) Cv0) (fun r6 h4 F2 => ?_)
      refine ao_it ?_ ?_
      · exact ao_jI F2 (av_mWire_takeNumber_b69 (F2.cl))
      · exact ao_jI F2 (av_mWire_takeNumber_b69 (F2.cl))
    · exact ao_jI F0 (av_mWire_takeNumber_b18 (F0.cl) Cv0)
theorem av_mP_reads_b257 {C : Nat → Prop} {v0 : Nat} {v2 : Int} {h : Hp} (c : Cl C h) (Cv0 : C v0) : Ao (qI C h) (f_mP_reads_b257 v0 v2 h) := by
  unfold f_mP_reads_b257
  have F0 := Av.rf c
  refine ao_it ao_no ?_
  refine ao_b2 F0 (av_mWire_takeNumber (F0.cl) (F0.cl.r Cv0)) (fun r69 h67 F1 => ?_)
  refine ao_it ao_no ?_
  refine ao_it ?_ ?_
  · exact ao_so F1
  · refine ao_it ?_ ?_
    · exact ao_so F1
    · refine ao_it ?_ ?_
      · refine ao_it ao_no ?_
        refine ao_it ?_ ao_no
        refine ao_I F1 (F1.cl.r Cv0) (fun h73 F2 => ?_)
        refine ao_it ao_no ?_
        refine ao_it ao_no ?_
        refine ao_it ?_ ao_no
        refine ao_I F2 (F2.cl.r Cv0) (fun h77 F3 => ?_)
        refine ao_it ao_no ?_
        refine ao_it ?_ ao_no
        exact ao_so F3
      · exact ao_so F1
theorem av_mP_reads_b15 {C : Nat → Prop} {k15 : Nat → Int → Int → Int → Hp → Option (Int × Hp)} (hk15 : ∀ (v0 : Nat) (v1 : Int) (v2 : Int) (v3 : Int) (h : Hp), Cl C h → C v0 → Ao (qI C h) (k15 v0 v1 v2 v3 h)) {v0 : Nat} {v1 : Int} {v2 : Int} {v3 : Int} {h : Hp} (c : Cl C h) (Cv0 : C v0) : Ao (qI C h) (f_mP_reads_b15 k15 v0 v1 v2 v3 h) := by
  unfold f_mP_reads_b15
  have F0 := Av.rf c
  refine ao_it ?_ ?_
  · refine ao_it ao_no ?_
    refine ao_b2 F0 (av_mWire_take (F0.cl) (F0.cl.r Cv0)) (fun r7 h5 F1 => ?_)
    refine ao_v (fun y8 => ?_)
    refine ao_it ao_no ?_
    refine ao_it ?_ ?_
    · exact ao_so F1
    · refine ao_it ?_ ?_
      · refine ao_it ao_no ?_
        refine ao_it ?_ ao_no
        refine ao_I F1 (F1.cl.r Cv0) (fun h12 F3 => ?_)
        refine ao_it ?_ ?_
        · refine ao_it ao_no ?_
          refine ao_it ?_ ao_no
          refine ao_I F3 (F3.cl.r Cv0) (fun h15 F4 => ?_)
          refine ao_it ao_no ?_
          refine ao_b2 F4 (av_mWire_take (F4.cl) (F4.cl.r Cv0)) (fun r19 h17 F5 => ?_)
          refine ao_it ?_ ?_
          · exact ao_so F5
          · refine ao_it ao_no ?_
            refine ao_it ?_ ?_
            · exact ao_so F5
            · refine ao_b2 F5 (av_mP_readsName (F5.cl) Cv0) (fun r23 h21 F6 => ?_)
              refine ao_it ?_ ?_
              · exact ao_so F6
              · refine ao_b2 F6 (av_mP_readsName (F6.cl) Cv0) (fun r26 h24 F7 => ?_)
                refine ao_it ?_ ?_
                · refine ao_it ao_no ?_
                  refine ao_it ?_ ao_no
                  refine ao_it ?_ ?_
                  · exact ao_so F7
                  · refine ao_it ?_ ao_no
                    refine ao_it ?_ ?_
                    · refine ao_it ?_ ao_no
                      refine ao_it ?_ ?_
                      · exact ao_jI F7 (av_mP_reads_b257 (F7.cl) Cv0)
                      · refine ao_it ao_no ?_
                        refine ao_b2 F7 (av_mWire_takeNumber (F7.cl) (F7.cl.r Cv0)) (fun r34 h32 F8 => ?_)
                        refine ao_b2 F8 (av_mWire_pass (F8.cl) (F7.cl.r Cv0)) (fun r37 h35 F9 => ?_)
                        exact ao_jI F9 (av_mP_reads_b257 (F9.cl) Cv0)
                    · exact ao_so F7
                · exact ao_so F7
        · refine ao_it ao_no ?_
          refine ao_it ?_ ao_no
          refine ao_I F3 (F3.cl.r Cv0) (fun h40 F10 => ?_)
          refine ao_it ao_no ?_
          refine ao_b2 F10 (av_mWire_pass (F10.cl) (F10.cl.r Cv0)) (fun r44 h42 F11 => ?_)
          refine ao_it ao_no ?_
          refine ao_it ?_ ao_no
          refine ao_I F11 (F10.cl.r Cv0) (fun h47 F12 => ?_)
          refine ao_it ao_no ?_
          refine ao_it ?_ ao_no
          refine ao_I F12 (F12.cl.r Cv0) (fun h50 F13 => ?_)
          refine ao_it ao_no ?_
          refine ao_it ao_no ?_
          refine ao_it ?_ ao_no
          refine ao_I F13 (F13.cl.r Cv0) (fun h54 F14 => ?_)
          refine ao_it ao_no ?_
          refine ao_b2 F14 (av_mWire_pass (F14.cl) (F14.cl.r Cv0)) (fun r58 h56 F15 => ?_)
          refine ao_it ao_no ?_
          refine ao_it ?_ ao_no
          refine ao_I F15 (F15.cl.r Cv0) (fun h61 F16 => ?_)
          refine ao_it ao_no ?_
          refine ao_it ?_ ?_
          · exact ao_so F16
          · exact ao_so F16
      · exact ao_so F1
  · refine ao_it ao_no ?_
    refine ao_it ?_ ao_no
    refine ao_I F0 (F0.cl.r Cv0) (fun h65 F17 => ?_)
    exact ao_jI F17 (hk15 _ _ _ _ _ (F17.cl) Cv0)
theorem av_mP_reads_b15_lp {C : Nat → Prop} (n : Nat) : ∀ {v0 : Nat} {v1 : Int} {v2 : Int} {v3 : Int} {h : Hp}, Cl C h → C v0 → Ao (qI C h) (f_mP_reads_b15_lp n v0 v1 v2 v3 h) := by
  induction n with
  | zero => intros; exact ao_no
  | succ n ih => intro v0 v1 v2 v3 h c Cv0; exact av_mP_reads_b15 (fun _ _ _ _ h => ih) c Cv0
theorem av_mP_reads {C : Nat → Prop} {v0 : Nat} {v1 : Int} {v2 : Int} {h : Hp} (c : Cl C h) (Cv0 : C v0) : Ao (qI C h) (f_mP_reads v0 v1 v2 h) := by
  unfold f_mP_reads
  have F0 := Av.rf c
  refine ao_it ao_no ?_
  refine ao_b1 F0 (av_mWire_look (F0.cl) (F0.cl.r Cv0) (F0.cl.r Cv0)) (fun h2 F1 => ?_)
  exact ao_jI F1 (av_mP_reads_b15_lp FU (F1.cl) Cv0)
theorem av_mP_isSame_b62 {C : Nat → Prop} {k22 : Nat → Int → Int → Hp → Option (Int × Hp)} (hk22 : ∀ (v0 : Nat) (v1 : Int) (v2 : Int) (h : Hp), Cl C h → Ao (qI C h) (k22 v0 v1 v2 h)) {v0 : Nat} {v2 : Int} {s0 : Int} {h : Hp} (c : Cl C h) : Ao (qI C h) (f_mP_isSame_b62 k22 v0 v2 s0 h) := by
  unfold f_mP_isSame_b62
  have F0 := Av.rf c
  exact ao_jI F0 (hk22 _ _ _ _ (F0.cl))
theorem av_mP_isSame_b22 {C : Nat → Prop} {k22 : Nat → Int → Int → Hp → Option (Int × Hp)} (hk22 : ∀ (v0 : Nat) (v1 : Int) (v2 : Int) (h : Hp), Cl C h → Ao (qI C h) (k22 v0 v1 v2 h)) {v0 : Nat} {v1 : Int} {v2 : Int} {h : Hp} (c : Cl C h) : Ao (qI C h) (f_mP_isSame_b22 k22 v0 v1 v2 h) := by
  unfold f_mP_isSame_b22
  have F0 := Av.rf c
  refine ao_it ?_ ?_
  · refine ao_it ?_ ao_no
    exact ao_so F0
  · refine ao_it ?_ ?_
    · refine ao_it ?_ ao_no
      exact ao_so F0
    · refine ao_it ao_no ?_
      refine ao_it ?_ ao_no
      refine ao_it ao_no ?_
      refine ao_it ?_ ao_no
      refine ao_it ao_no ?_
      refine ao_it ?_ ao_no
      refine ao_it ?_ ?_
      · exact ao_jI F0 (av_mP_isSame_b62 hk22 (F0.cl))
      · exact ao_jI F0 (av_mP_isSame_b62 hk22 (F0.cl))
theorem av_mP_isSame_b22_lp {C : Nat → Prop} (n : Nat) : ∀ {v0 : Nat} {v1 : Int} {v2 : Int} {h : Hp}, Cl C h → Ao (qI C h) (f_mP_isSame_b22_lp n v0 v1 v2 h) := by
  induction n with
  | zero => intros; exact ao_no
  | succ n ih => intro v0 v1 v2 h c; exact av_mP_isSame_b22 (fun _ _ _ h => ih) c
theorem av_mP_isSame_b19 {C : Nat → Prop} {v0 : Nat} {s0 : Int} {h : Hp} (c : Cl C h) : Ao (qI C h) (f_mP_isSame_b19 v0 s0 h) := by
  unfold f_mP_isSame_b19
  have F0 := Av.rf c
  exact ao_jI F0 (av_mP_isSame_b22_lp FU (F0.cl))
theorem av_mP_isSame {C : Nat → Prop} {v0 : Nat} {h : Hp} (c : Cl C h) : Ao (qI C h) (f_mP_isSame v0 h) := by
  unfold f_mP_isSame
  have F0 := Av.rf c
  refine ao_it ao_no ?_
  refine ao_it ?_ ao_no
  refine ao_it ?_ ?_
  · exact ao_jI F0 (av_mP_isSame_b19 (F0.cl))
  · exact ao_jI F0 (av_mP_isSame_b19 (F0.cl))
theorem av_mSeals_wordOf {C : Nat → Prop} {v0 : Nat} {v1 : Int} {h : Hp} (c : Cl C h) : Ao (qI C h) (f_mSeals_wordOf v0 v1 h) := by
  unfold f_mSeals_wordOf
  have F0 := Av.rf c
  refine ao_it ao_no ?_
  refine ao_it ?_ ao_no
  refine ao_it ?_ ao_no
  refine ao_it ?_ ao_no
  refine ao_it ?_ ao_no
  exact ao_so F0
theorem av_mSeals_left {C : Nat → Prop} {v0 : Int} {v2 : Int} {h : Hp} (c : Cl C h) : Ao (qI C h) (f_mSeals_left v0 v2 h) := by
  unfold f_mSeals_left
  have F0 := Av.rf c
  exact ao_so F0
theorem av_mSeals_half {C : Nat → Prop} {v0 : Nat} {v1 : Int} {v2 : Int} {v3 : Int} {v4 : Int} {h : Hp} (c : Cl C h) (Cv0 : C v0) : Ao (qV C h) (f_mSeals_half v0 v1 v2 v3 v4 h) := by
  unfold f_mSeals_half
  have F0 := Av.rf c
  refine ao_it ao_no ?_
  refine ao_it ?_ ao_no
  refine ao_it ?_ ao_no
  refine ao_it ?_ ao_no
  refine ao_J F0 (F0.cl.r Cv0) (fun h5 F1 => ?_)
  refine ao_it ao_no ?_
  refine ao_it ?_ ao_no
  refine ao_it ?_ ao_no
  refine ao_b2 F1 (av_mSeals_left (F1.cl)) (fun r11 h9 F2 => ?_)
  refine ao_it ?_ ao_no
  refine ao_J F2 (F1.cl.r Cv0) (fun h13 F3 => ?_)
  exact ao_so F3
theorem av_mSeals_mix {C : Nat → Prop} {v0 : Nat} {v1 : Int} {v2 : Int} {v3 : Int} {v4 : Int} {h : Hp} (c : Cl C h) (Cv0 : C v0) : Ao (qV C h) (f_mSeals_mix v0 v1 v2 v3 v4 h) := by
  unfold f_mSeals_mix
  have F0 := Av.rf c
  refine ao_b1 F0 (av_mSeals_half (F0.cl) Cv0) (fun h1 F1 => ?_)
  refine ao_b1 F1 (av_mSeals_half (F1.cl) Cv0) (fun h3 F2 => ?_)
  refine ao_b1 F2 (av_mSeals_half (F2.cl) Cv0) (fun h5 F3 => ?_)
  refine ao_b1 F3 (av_mSeals_half (F3.cl) Cv0) (fun h7 F4 => ?_)
  exact ao_so F4
theorem av_mSeals_blockOf_b213 {C : Nat → Prop} {k213 : Nat → Int → Hp → Option (Hp)} (hk213 : ∀ (v0 : Nat) (v3 : Int) (h : Hp), Cl C h → C v0 → Ao (qV C h) (k213 v0 v3 h)) {v0 : Nat} {v3 : Int} {h : Hp} (c : Cl C h) (Cv0 : C v0) : Ao (qV C h) (f_mSeals_blockOf_b213 k213 v0 v3 h) := by
  unfold f_mSeals_blockOf_b213
  have F0 := Av.rf c
  refine ao_it ?_ ?_
  · exact ao_so F0
  · refine ao_it ao_no ?_
    refine ao_it ?_ ao_no
    refine ao_it ao_no ?_
    refine ao_it ?_ ao_no
    refine ao_it ao_no ?_
    refine ao_it ?_ ao_no
    refine ao_I F0 (F0.cl.r Cv0) (fun h42 F1 => ?_)
    exact ao_jV F1 (hk213 _ _ _ (F1.cl) Cv0)
theorem av_mSeals_blockOf_b213_lp {C : Nat → Prop} (n : Nat) : ∀ {v0 : Nat} {v3 : Int} {h : Hp}, Cl C h → C v0 → Ao (qV C h) (f_mSeals_blockOf_b213_lp n v0 v3 h) := by
  induction n with
  | zero => intros; exact ao_no
  | succ n ih => intro v0 v3 h c Cv0; exact av_mSeals_blockOf_b213 (fun _ _ h => ih) c Cv0
theorem av_mSeals_blockOf_b154 {C : Nat → Prop} {k140 : Nat → Int → Hp → Option (Hp)} (hk140 : ∀ (v0 : Nat) (v3 : Int) (h : Hp), Cl C h → C v0 → Ao (qV C h) (k140 v0 v3 h)) {k154 : Nat → Int → Int → Int → Hp → Option (Hp)} (hk154 : ∀ (v0 : Nat) (v3 : Int) (v4 : Int) (v5 : Int) (h : Hp), Cl C h → C v0 → Ao (qV C h) (k154 v0 v3 v4 v5 h)) {v0 : Nat} {v3 : Int} {v4 : Int} {v5 : Int} {h : Hp} (c : Cl C h) (Cv0 : C v0) : Ao (qV C h) (f_mSeals_blockOf_b154 k140 k154 v0 v3 v4 v5 h) := by
  unfold f_mSeals_blockOf_b154
  have F0 := Av.rf c
  refine ao_it ?_ ?_
  · exact ao_jV F0 (hk140 _ _ _ (F0.cl) Cv0)
  · refine ao_b1 F0 (av_mSeals_mix (F0.cl) Cv0) (fun h34 F1 => ?_)
    exact ao_jV F1 (hk154 _ _ _ _ _ (F1.cl) Cv0)
theorem av_mSeals_blockOf_b154_lp {C : Nat → Prop} {k140 : Nat → Int → Hp → Option (Hp)} (hk140 : ∀ (v0 : Nat) (v3 : Int) (h : Hp), Cl C h → C v0 → Ao (qV C h) (k140 v0 v3 h)) (n : Nat) : ∀ {v0 : Nat} {v3 : Int} {v4 : Int} {v5 : Int} {h : Hp}, Cl C h → C v0 → Ao (qV C h) (f_mSeals_blockOf_b154_lp k140 n v0 v3 v4 v5 h) := by
  induction n with
  | zero => intros; exact ao_no
  | succ n ih => intro v0 v3 v4 v5 h c Cv0; exact av_mSeals_blockOf_b154 hk140 (fun _ _ _ _ h => ih) c Cv0
theorem av_mSeals_blockOf_b140 {C : Nat → Prop} {k140 : Nat → Int → Hp → Option (Hp)} (hk140 : ∀ (v0 : Nat) (v3 : Int) (h : Hp), Cl C h → C v0 → Ao (qV C h) (k140 v0 v3 h)) {v0 : Nat} {v3 : Int} {h : Hp} (c : Cl C h) (Cv0 : C v0) : Ao (qV C h) (f_mSeals_blockOf_b140 k140 v0 v3 h) := by
  unfold f_mSeals_blockOf_b140
  have F0 := Av.rf c
  refine ao_it ?_ ?_
  · exact ao_jV F0 (av_mSeals_blockOf_b213_lp FU (F0.cl) Cv0)
  · refine ao_v (fun y33 => ?_)
    exact ao_jV F0 (av_mSeals_blockOf_b154_lp hk140 FU (F0.cl) Cv0)
theorem av_mSeals_blockOf_b140_lp {C : Nat → Prop} (n : Nat) : ∀ {v0 : Nat} {v3 : Int} {h : Hp}, Cl C h → C v0 → Ao (qV C h) (f_mSeals_blockOf_b140_lp n v0 v3 h) := by
  induction n with
  | zero => intros; exact ao_no
  | succ n ih => intro v0 v3 h c Cv0; exact av_mSeals_blockOf_b140 (fun _ _ h => ih) c Cv0
theorem av_mSeals_blockOf_b114 {C : Nat → Prop} {k114 : Nat → Int → Hp → Option (Hp)} (hk114 : ∀ (v0 : Nat) (v3 : Int) (h : Hp), Cl C h → C v0 → Ao (qV C h) (k114 v0 v3 h)) {v0 : Nat} {v3 : Int} {h : Hp} (c : Cl C h) (Cv0 : C v0) : Ao (qV C h) (f_mSeals_blockOf_b114 k114 v0 v3 h) := by
  unfold f_mSeals_blockOf_b114
  have F0 := Av.rf c
  refine ao_it ?_ ?_
  · exact ao_jV F0 (av_mSeals_blockOf_b140_lp FU (F0.cl) Cv0)
  · refine ao_it ao_no ?_
    refine ao_it ?_ ao_no
    refine ao_it ao_no ?_
    refine ao_it ?_ ao_no
    refine ao_J F0 (F0.cl.r Cv0) (fun h32 F1 => ?_)
    exact ao_jV F1 (hk114 _ _ _ (F1.cl) Cv0)
theorem av_mSeals_blockOf_b114_lp {C : Nat → Prop} (n : Nat) : ∀ {v0 : Nat} {v3 : Int} {h : Hp}, Cl C h → C v0 → Ao (qV C h) (f_mSeals_blockOf_b114_lp n v0 v3 h) := by
  induction n with
  | zero => intros; exact ao_no
  | succ n ih => intro v0 v3 h c Cv0; exact av_mSeals_blockOf_b114 (fun _ _ h => ih) c Cv0
theorem av_mSeals_blockOf_b82 {C : Nat → Prop} {k82 : Nat → Int → Hp → Option (Hp)} (hk82 : ∀ (v0 : Nat) (v3 : Int) (h : Hp), Cl C h → C v0 → Ao (qV C h) (k82 v0 v3 h)) {v0 : Nat} {v3 : Int} {h : Hp} (c : Cl C h) (Cv0 : C v0) : Ao (qV C h) (f_mSeals_blockOf_b82 k82 v0 v3 h) := by
  unfold f_mSeals_blockOf_b82
  have F0 := Av.rf c
  refine ao_it ?_ ?_
  · exact ao_jV F0 (av_mSeals_blockOf_b114_lp FU (F0.cl) Cv0)
  · refine ao_b2 F0 (av_mSeals_wordOf (F0.cl)) (fun r24 h22 F1 => ?_)
    refine ao_it ao_no ?_
    refine ao_it ?_ ao_no
    refine ao_J F1 (F0.cl.r Cv0) (fun h27 F2 => ?_)
    exact ao_jV F2 (hk82 _ _ _ (F2.cl) Cv0)
theorem av_mSeals_blockOf_b82_lp {C : Nat → Prop} (n : Nat) : ∀ {v0 : Nat} {v3 : Int} {h : Hp}, Cl C h → C v0 → Ao (qV C h) (f_mSeals_blockOf_b82_lp n v0 v3 h) := by
  induction n with
  | zero => intros; exact ao_no
  | succ n ih => intro v0 v3 h c Cv0; exact av_mSeals_blockOf_b82 (fun _ _ h => ih) c Cv0
theorem av_mSeals_blockOf_b38 {C : Nat → Prop} {k38 : Nat → Int → Int → Hp → Option (Hp)} (hk38 : ∀ (v0 : Nat) (v1 : Int) (v3 : Int) (h : Hp), Cl C h → C v0 → Ao (qV C h) (k38 v0 v1 v3 h)) {v0 : Nat} {v1 : Int} {v3 : Int} {h : Hp} (c : Cl C h) (Cv0 : C v0) : Ao (qV C h) (f_mSeals_blockOf_b38 k38 v0 v1 v3 h) := by
  unfold f_mSeals_blockOf_b38
  have F0 := Av.rf c
  refine ao_it ?_ ?_
  · refine ao_it ao_no ?_
    refine ao_it ?_ ao_no
    refine ao_J F0 (F0.cl.r Cv0) (fun h15 F1 => ?_)
    exact ao_jV F1 (av_mSeals_blockOf_b82_lp FU (F1.cl) Cv0)
  · refine ao_b2 F0 (av_mSeals_wordOf (F0.cl)) (fun r18 h16 F2 => ?_)
    refine ao_it ao_no ?_
    refine ao_it ?_ ao_no
    refine ao_J F2 (F0.cl.r Cv0) (fun h21 F3 => ?_)
    exact ao_jV F3 (hk38 _ _ _ _ (F3.cl) Cv0)
theorem av_mSeals_blockOf_b38_lp {C : Nat → Prop} (n : Nat) : ∀ {v0 : Nat} {v1 : Int} {v3 : Int} {h : Hp}, Cl C h → C v0 → Ao (qV C h) (f_mSeals_blockOf_b38_lp n v0 v1 v3 h) := by
  induction n with
  | zero => intros; exact ao_no
  | succ n ih => intro v0 v1 v3 h c Cv0; exact av_mSeals_blockOf_b38 (fun _ _ _ h => ih) c Cv0
theorem av_mSeals_blockOf {C : Nat → Prop} {v0 : Nat} {v1 : Int} {h : Hp} (c : Cl C h) (Cv0 : C v0) : Ao (qV C h) (f_mSeals_blockOf v0 v1 h) := by
  unfold f_mSeals_blockOf
  have F0 := Av.rf c
  refine ao_it ao_no ?_
  refine ao_it ?_ ao_no
  refine ao_J F0 (F0.cl.r Cv0) (fun h3 F1 => ?_)
  refine ao_it ao_no ?_
  refine ao_it ?_ ao_no
  refine ao_J F1 (F1.cl.r Cv0) (fun h6 F2 => ?_)
  refine ao_it ao_no ?_
  refine ao_it ?_ ao_no
  refine ao_J F2 (F2.cl.r Cv0) (fun h9 F3 => ?_)
  refine ao_it ao_no ?_
  refine ao_it ?_ ao_no
  refine ao_J F3 (F3.cl.r Cv0) (fun h12 F4 => ?_)
  exact ao_jV F4 (av_mSeals_blockOf_b38_lp FU (F4.cl) Cv0)
theorem av_mSeals_shield_b130 {C : Nat → Prop} {k130 : Nat → Nat → Int → Int → Int → Int → Int → Hp → Option (Int × Hp)} (hk130 : ∀ (v0 : Nat) (v3 : Nat) (v4 : Int) (v5 : Int) (v7 : Int) (v8 : Int) (v9 : Int) (h : Hp), Cl C h → C v3 → Ao (qI C h) (k130 v0 v3 v4 v5 v7 v8 v9 h)) {v0 : Nat} {v3 : Nat} {v4 : Int} {v5 : Int} {v7 : Int} {v8 : Int} {v9 : Int} {h : Hp} (c : Cl C h) (Cv3 : C v3) : Ao (qI C h) (f_mSeals_shield_b130 k130 v0 v3 v4 v5 v7 v8 v9 h) := by
  unfold f_mSeals_shield_b130
  have F0 := Av.rf c
  refine ao_it ?_ ?_
  · refine ao_it ao_no ?_
    refine ao_it ?_ ao_no
    refine ao_I F0 Cv3 (fun h27 F1 => ?_)
    exact ao_so F1
  · refine ao_it ao_no ?_
    refine ao_it ?_ ao_no
    refine ao_it ao_no ?_
    refine ao_it ?_ ao_no
    refine ao_it ?_ ao_no
    refine ao_I F0 Cv3 (fun h33 F2 => ?_)
    exact ao_jI F2 (hk130 _ _ _ _ _ _ _ _ (F2.cl) Cv3)
theorem av_mSeals_shield_b130_lp {C : Nat → Prop} (n : Nat) : ∀ {v0 : Nat} {v3 : Nat} {v4 : Int} {v5 : Int} {v7 : Int} {v8 : Int} {v9 : Int} {h : Hp}, Cl C h → C v3 → Ao (qI C h) (f_mSeals_shield_b130_lp n v0 v3 v4 v5 v7 v8 v9 h) := by
  induction n with
  | zero => intros; exact ao_no
  | succ n ih => intro v0 v3 v4 v5 v7 v8 v9 h c Cv3; exact av_mSeals_shield_b130 (fun _ _ _ _ _ _ _ h => ih) c Cv3
theorem av_mSeals_shield_b121 {C : Nat → Prop} {v0 : Nat} {v3 : Nat} {v4 : Int} {v5 : Int} {v7 : Int} {s0 : Int} {h : Hp} (c : Cl C h) (Cv3 : C v3) : Ao (qI C h) (f_mSeals_shield_b121 v0 v3 v4 v5 v7 s0 h) := by
  unfold f_mSeals_shield_b121
  have F0 := Av.rf c
  refine ao_v (fun y24 => ?_)
  exact ao_jI F0 (av_mSeals_shield_b130_lp FU (F0.cl) Cv3)
theorem av_mSeals_shield_b103 {C : Nat → Prop} {v0 : Nat} {v3 : Nat} {v4 : Int} {v5 : Int} {v6 : Int} {s0 : Int} {s1 : Int} {s2 : Int} {h : Hp} (c : Cl C h) (Cv3 : C v3) : Ao (qI C h) (f_mSeals_shield_b103 v0 v3 v4 v5 v6 s0 s1 s2 h) := by
  unfold f_mSeals_shield_b103
  have F0 := Av.rf c
  refine ao_v (fun y21 => ?_)
  refine ao_it ?_ ?_
  · exact ao_jI F0 (av_mSeals_shield_b121 (F0.cl) Cv3)
  · refine ao_it ao_no ?_
    refine ao_it ?_ ao_no
    exact ao_jI F0 (av_mSeals_shield_b121 (F0.cl) Cv3)
theorem av_mSeals_shield_b35 {C : Nat → Prop} {k35 : Nat → Nat → Int → Int → Int → Int → Hp → Option (Int × Hp)} (hk35 : ∀ (v0 : Nat) (v3 : Nat) (v4 : Int) (v5 : Int) (v6 : Int) (v7 : Int) (h : Hp), Cl C h → C v0 → C v3 → Ao (qI C h) (k35 v0 v3 v4 v5 v6 v7 h)) {v0 : Nat} {v3 : Nat} {v4 : Int} {v5 : Int} {v6 : Int} {v7 : Int} {h : Hp} (c : Cl C h) (Cv0 : C v0) (Cv3 : C v3) : Ao (qI C h) (f_mSeals_shield_b35 k35 v0 v3 v4 v5 v6 v7 h) := by
  unfold f_mSeals_shield_b35
  have F0 := Av.rf c
  refine ao_it ?_ ?_
  · refine ao_b2 F0 (av_mSeals_wordOf (F0.cl)) (fun r8 h6 F1 => ?_)
    refine ao_b1 F1 (av_mSeals_blockOf (F1.cl) Cv0) (fun h9 F2 => ?_)
    refine ao_it ao_no ?_
    refine ao_it ?_ ao_no
    refine ao_it ao_no ?_
    refine ao_it ?_ ao_no
    refine ao_it ?_ ao_no
    refine ao_it ?_ ?_
    · exact ao_jI F2 (av_mSeals_shield_b103 (F2.cl) Cv3)
    · exact ao_jI F2 (av_mSeals_shield_b103 (F2.cl) Cv3)
  · refine ao_it ao_no ?_
    refine ao_it ?_ ao_no
    refine ao_it ao_no ?_
    refine ao_it ?_ ao_no
    refine ao_I F0 (F0.cl.r Cv0) (fun h20 F3 => ?_)
    exact ao_jI F3 (hk35 _ _ _ _ _ _ _ (F3.cl) Cv0 Cv3)
theorem av_mSeals_shield_b35_lp {C : Nat → Prop} (n : Nat) : ∀ {v0 : Nat} {v3 : Nat} {v4 : Int} {v5 : Int} {v6 : Int} {v7 : Int} {h : Hp}, Cl C h → C v0 → C v3 → Ao (qI C h) (f_mSeals_shield_b35_lp n v0 v3 v4 v5 v6 v7 h) := by
  induction n with
  | zero => intros; exact ao_no
  | succ n ih => intro v0 v3 v4 v5 v6 v7 h c Cv0 Cv3; exact av_mSeals_shield_b35 (fun _ _ _ _ _ _ h => ih) c Cv0 Cv3
theorem av_mSeals_shield_b3 {C : Nat → Prop} {k3 : Nat → Nat → Int → Nat → Int → Int → Int → Int → Hp → Option (Int × Hp)} (hk3 : ∀ (v0 : Nat) (v1 : Nat) (v2 : Int) (v3 : Nat) (v4 : Int) (v5 : Int) (v6 : Int) (v7 : Int) (h : Hp), Cl C h → C v0 → C v3 → Ao (qI C h) (k3 v0 v1 v2 v3 v4 v5 v6 v7 h)) {v0 : Nat} {v1 : Nat} {v2 : Int} {v3 : Nat} {v4 : Int} {v5 : Int} {v6 : Int} {v7 : Int} {h : Hp} (c : Cl C h) (Cv0 : C v0) (Cv3 : C v3) : Ao (qI C h) (f_mSeals_shield_b3 k3 v0 v1 v2 v3 v4 v5 v6 v7 h) := by
  unfold f_mSeals_shield_b3
  have F0 := Av.rf c
  refine ao_it ?_ ?_
  · exact ao_jI F0 (av_mSeals_shield_b35_lp FU (F0.cl) Cv0 Cv3)
  · refine ao_it ao_no ?_
    refine ao_it ?_ ao_no
    refine ao_it ao_no ?_
    refine ao_it ?_ ao_no
    refine ao_I F0 (F0.cl.r Cv0) (fun h5 F1 => ?_)
    exact ao_jI F1 (hk3 _ _ _ _ _ _ _ _ _ (F1.cl) Cv0 Cv3)
theorem av_mSeals_shield_b3_lp {C : Nat → Prop} (n : Nat) : ∀ {v0 : Nat} {v1 : Nat} {v2 : Int} {v3 : Nat} {v4 : Int} {v5 : Int} {v6 : Int} {v7 : Int} {h : Hp}, Cl C h → C v0 → C v3 → Ao (qI C h) (f_mSeals_shield_b3_lp n v0 v1 v2 v3 v4 v5 v6 v7 h) := by
  induction n with
  | zero => intros; exact ao_no
  | succ n ih => intro v0 v1 v2 v3 v4 v5 v6 v7 h c Cv0 Cv3; exact av_mSeals_shield_b3 (fun _ _ _ _ _ _ _ _ h => ih) c Cv0 Cv3
theorem av_mSeals_shield {C : Nat → Prop} {v0 : Nat} {v1 : Nat} {v2 : Int} {v3 : Nat} {v4 : Int} {v5 : Int} {v6 : Int} {h : Hp} (c : Cl C h) (Cv0 : C v0) (Cv3 : C v3) : Ao (qI C h) (f_mSeals_shield v0 v1 v2 v3 v4 v5 v6 h) := by
  unfold f_mSeals_shield
  have F0 := Av.rf c
  exact ao_jI F0 (av_mSeals_shield_b3_lp FU (F0.cl) Cv0 Cv3)
theorem av_mSide_grown_b112 {C : Nat → Prop} {k25 : Int → Int → Int → Int → Int → Int → Hp → Option (Int × Hp)} (hk25 : ∀ (v2 : Int) (v5 : Int) (v7 : Int) (v9 : Int) (v11 : Int) (v13 : Int) (h : Hp), Cl C h → Ao (qI C h) (k25 v2 v5 v7 v9 v11 v13 h)) {v2 : Int} {v5 : Int} {v7 : Int} {v9 : Int} {v11 : Int} {v13 : Int} {h : Hp} (c : Cl C h) : Ao (qI C h) (f_mSide_grown_b112 k25 v2 v5 v7 v9 v11 v13 h) := by
  unfold f_mSide_grown_b112
  have F0 := Av.rf c
  exact ao_jI F0 (hk25 _ _ _ _ _ _ _ (F0.cl))
theorem av_mSide_grown_b104 {C : Nat → Prop} {k25 : Int → Int → Int → Int → Int → Int → Hp → Option (Int × Hp)} (hk25 : ∀ (v2 : Int) (v5 : Int) (v7 : Int) (v9 : Int) (v11 : Int) (v13 : Int) (h : Hp), Cl C h → Ao (qI C h) (k25 v2 v5 v7 v9 v11 v13 h)) {v2 : Int} {v5 : Int} {v7 : Int} {v13 : Int} {v14 : Int} {v16 : Int} {h : Hp} (c : Cl C h) : Ao (qI C h) (f_mSide_grown_b104 k25 v2 v5 v7 v13 v14 v16 h) := by
  unfold f_mSide_grown_b104
  have F0 := Av.rf c
  exact ao_jI F0 (av_mSide_grown_b112 hk25 (F0.cl))
theorem av_mSide_grown_b87 {C : Nat → Prop} {k25 : Int → Int → Int → Int → Int → Int → Hp → Option (Int × Hp)} (hk25 : ∀ (v2 : Int) (v5 : Int) (v7 : Int) (v9 : Int) (v11 : Int) (v13 : Int) (h : Hp), Cl C h → Ao (qI C h) (k25 v2 v5 v7 v9 v11 v13 h)) {v2 : Int} {v5 : Int} {v7 : Int} {v9 : Int} {v11 : Int} {v13 : Int} {v14 : Int} {s0 : Int} {h : Hp} (c : Cl C h) : Ao (qI C h) (f_mSide_grown_b87 k25 v2 v5 v7 v9 v11 v13 v14 s0 h) := by
  unfold f_mSide_grown_b87
  have F0 := Av.rf c
  refine ao_it ?_ ?_
  · exact ao_jI F0 (av_mSide_grown_b104 hk25 (F0.cl))
  · refine ao_it ?_ ?_
    · exact ao_jI F0 (av_mSide_grown_b112 hk25 (F0.cl))
    · exact ao_jI F0 (av_mSide_grown_b104 hk25 (F0.cl))
theorem av_mSide_grown_b25 {C : Nat → Prop} {k25 : Int → Int → Int → Int → Int → Int → Hp → Option (Int × Hp)} (hk25 : ∀ (v2 : Int) (v5 : Int) (v7 : Int) (v9 : Int) (v11 : Int) (v13 : Int) (h : Hp), Cl C h → Ao (qI C h) (k25 v2 v5 v7 v9 v11 v13 h)) {v2 : Int} {v5 : Int} {v7 : Int} {v9 : Int} {v11 : Int} {v13 : Int} {h : Hp} (c : Cl C h) : Ao (qI C h) (f_mSide_grown_b25 k25 v2 v5 v7 v9 v11 v13 h) := by
  unfold f_mSide_grown_b25
  have F0 := Av.rf c
  refine ao_it ?_ ?_
  · exact ao_so F0
  · refine ao_it ao_no ?_
    refine ao_v (fun y4 => ?_)
    refine ao_it ?_ ?_
    · exact ao_jI F0 (av_mSide_grown_b112 hk25 (F0.cl))
    · refine ao_it ?_ ?_
      · refine ao_it ?_ ?_
        · exact ao_jI F0 (av_mSide_grown_b87 hk25 (F0.cl))
        · exact ao_jI F0 (av_mSide_grown_b87 hk25 (F0.cl))
      · exact ao_jI F0 (av_mSide_grown_b112 hk25 (F0.cl))
theorem av_mSide_grown_b25_lp {C : Nat → Prop} (n : Nat) : ∀ {v2 : Int} {v5 : Int} {v7 : Int} {v9 : Int} {v11 : Int} {v13 : Int} {h : Hp}, Cl C h → Ao (qI C h) (f_mSide_grown_b25_lp n v2 v5 v7 v9 v11 v13 h) := by
  induction n with
  | zero => intros; exact ao_no
  | succ n ih => intro v2 v5 v7 v9 v11 v13 h c; exact av_mSide_grown_b25 (fun _ _ _ _ _ _ h => ih) c
theorem av_mSide_grown {C : Nat → Prop} {v0 : Int} {v2 : Int} {v4 : Int} {h : Hp} (c : Cl C h) : Ao (qI C h) (f_mSide_grown v0 v2 v4 h) := by
  unfold f_mSide_grown
  have F0 := Av.rf c
  refine ao_v (fun y1 => ?_)
  refine ao_v (fun y2 => ?_)
  exact ao_jI F0 (av_mSide_grown_b25_lp FU (F0.cl))
theorem av_mSeals_nonceOf_b79 {C : Nat → Prop} {k32 : Nat → Nat → Int → Int → Int → Hp → Option (Hp)} (hk32 : ∀ (v0 : Nat) (v1 : Nat) (v2 : Int) (v3 : Int) (v5 : Int) (h : Hp), Cl C h → C v0 → Ao (qV C h) (k32 v0 v1 v2 v3 v5 h)) {v0 : Nat} {v1 : Nat} {v2 : Int} {v3 : Int} {v5 : Int} {s0 : Nat} {s1 : Int} {s2 : Int} {s3 : Int} {h : Hp} (c : Cl C h) (Cv0 : C v0) (Cs0 : C s0) : Ao (qV C h) (f_mSeals_nonceOf_b79 k32 v0 v1 v2 v3 v5 s0 s1 s2 s3 h) := by
  unfold f_mSeals_nonceOf_b79
  have F0 := Av.rf c
  refine ao_it ao_no ?_
  refine ao_it ?_ ao_no
  refine ao_I F0 Cs0 (fun h10 F1 => ?_)
  exact ao_jV F1 (hk32 _ _ _ _ _ _ (F1.cl) Cv0)
theorem av_mSeals_nonceOf_b32 {C : Nat → Prop} {k32 : Nat → Nat → Int → Int → Int → Hp → Option (Hp)} (hk32 : ∀ (v0 : Nat) (v1 : Nat) (v2 : Int) (v3 : Int) (v5 : Int) (h : Hp), Cl C h → C v0 → Ao (qV C h) (k32 v0 v1 v2 v3 v5 h)) {v0 : Nat} {v1 : Nat} {v2 : Int} {v3 : Int} {v5 : Int} {h : Hp} (c : Cl C h) (Cv0 : C v0) : Ao (qV C h) (f_mSeals_nonceOf_b32 k32 v0 v1 v2 v3 v5 h) := by
  unfold f_mSeals_nonceOf_b32
  have F0 := Av.rf c
  refine ao_it ?_ ?_
  · exact ao_so F0
  · refine ao_it ao_no ?_
    refine ao_it ?_ ao_no
    refine ao_it ?_ ?_
    · exact ao_jV F0 (av_mSeals_nonceOf_b79 hk32 (F0.cl) Cv0 (F0.cl.r Cv0))
    · exact ao_jV F0 (av_mSeals_nonceOf_b79 hk32 (F0.cl) Cv0 (F0.cl.r Cv0))
theorem av_mSeals_nonceOf_b32_lp {C : Nat → Prop} (n : Nat) : ∀ {v0 : Nat} {v1 : Nat} {v2 : Int} {v3 : Int} {v5 : Int} {h : Hp}, Cl C h → C v0 → Ao (qV C h) (f_mSeals_nonceOf_b32_lp n v0 v1 v2 v3 v5 h) := by
  induction n with
  | zero => intros; exact ao_no
  | succ n ih => intro v0 v1 v2 v3 v5 h c Cv0; exact av_mSeals_nonceOf_b32 (fun _ _ _ _ _ h => ih) c Cv0
theorem av_mSeals_nonceOf_b3 {C : Nat → Prop} {k3 : Nat → Nat → Int → Int → Int → Hp → Option (Hp)} (hk3 : ∀ (v0 : Nat) (v1 : Nat) (v2 : Int) (v3 : Int) (v5 : Int) (h : Hp), Cl C h → C v0 → Ao (qV C h) (k3 v0 v1 v2 v3 v5 h)) {v0 : Nat} {v1 : Nat} {v2 : Int} {v3 : Int} {v5 : Int} {h : Hp} (c : Cl C h) (Cv0 : C v0) : Ao (qV C h) (f_mSeals_nonceOf_b3 k3 v0 v1 v2 v3 v5 h) := by
  unfold f_mSeals_nonceOf_b3
  have F0 := Av.rf c
  refine ao_it ?_ ?_
  · exact ao_jV F0 (av_mSeals_nonceOf_b32_lp FU (F0.cl) Cv0)
  · refine ao_it ao_no ?_
    refine ao_it ?_ ao_no
    refine ao_it ao_no ?_
    refine ao_it ?_ ao_no
    refine ao_I F0 (F0.cl.r Cv0) (fun h5 F1 => ?_)
    exact ao_jV F1 (hk3 _ _ _ _ _ _ (F1.cl) Cv0)
theorem av_mSeals_nonceOf_b3_lp {C : Nat → Prop} (n : Nat) : ∀ {v0 : Nat} {v1 : Nat} {v2 : Int} {v3 : Int} {v5 : Int} {h : Hp}, Cl C h → C v0 → Ao (qV C h) (f_mSeals_nonceOf_b3_lp n v0 v1 v2 v3 v5 h) := by
  induction n with
  | zero => intros; exact ao_no
  | succ n ih => intro v0 v1 v2 v3 v5 h c Cv0; exact av_mSeals_nonceOf_b3 (fun _ _ _ _ _ h => ih) c Cv0
theorem av_mSeals_nonceOf {C : Nat → Prop} {v0 : Nat} {v1 : Nat} {v2 : Int} {v3 : Int} {h : Hp} (c : Cl C h) (Cv0 : C v0) : Ao (qV C h) (f_mSeals_nonceOf v0 v1 v2 v3 h) := by
  unfold f_mSeals_nonceOf
  have F0 := Av.rf c
  exact ao_jV F0 (av_mSeals_nonceOf_b3_lp FU (F0.cl) Cv0)
theorem av_mSeals_fill_b2 {C : Nat → Prop} {k2 : Nat → Int → Hp → Option (Int × Hp)} (hk2 : ∀ (v0 : Nat) (v2 : Int) (h : Hp), Cl C h → C v0 → Ao (qI C h) (k2 v0 v2 h)) {v0 : Nat} {v2 : Int} {h : Hp} (c : Cl C h) (Cv0 : C v0) : Ao (qI C h) (f_mSeals_fill_b2 k2 v0 v2 h) := by
  unfold f_mSeals_fill_b2
  have F0 := Av.rf c
  refine ao_it ?_ ?_
  · exact ao_so F0
  · refine ao_it ao_no ?_
    refine ao_it ?_ ao_no
    refine ao_I F0 (F0.cl.r Cv0) (fun h3 F1 => ?_)
    exact ao_jI F1 (hk2 _ _ _ (F1.cl) Cv0)
theorem av_mSeals_fill_b2_lp {C : Nat → Prop} (n : Nat) : ∀ {v0 : Nat} {v2 : Int} {h : Hp}, Cl C h → C v0 → Ao (qI C h) (f_mSeals_fill_b2_lp n v0 v2 h) := by
  induction n with
  | zero => intros; exact ao_no
  | succ n ih => intro v0 v2 h c Cv0; exact av_mSeals_fill_b2 (fun _ _ h => ih) c Cv0
theorem av_mSeals_fill {C : Nat → Prop} {v0 : Nat} {v1 : Int} {h : Hp} (c : Cl C h) (Cv0 : C v0) : Ao (qI C h) (f_mSeals_fill v0 v1 h) := by
  unfold f_mSeals_fill
  have F0 := Av.rf c
  exact ao_jI F0 (av_mSeals_fill_b2_lp FU (F0.cl) Cv0)
theorem av_mSeals_multiply_b51 {C : Nat → Prop} {k4 : Nat → Int → Int → Hp → Option (Hp)} (hk4 : ∀ (v0 : Nat) (v1 : Int) (v2 : Int) (h : Hp), Cl C h → C v0 → Ao (qV C h) (k4 v0 v1 v2 h)) {k12 : Nat → Int → Int → Int → Hp → Option (Hp)} (hk12 : ∀ (v0 : Nat) (v1 : Int) (v2 : Int) (v3 : Int) (h : Hp), Cl C h → C v0 → Ao (qV C h) (k12 v0 v1 v2 v3 h)) {v0 : Nat} {v2 : Int} {v3 : Int} {s0 : Int} {s1 : Int} {h : Hp} (c : Cl C h) (Cv0 : C v0) : Ao (qV C h) (f_mSeals_multiply_b51 k4 k12 v0 v2 v3 s0 s1 h) := by
  unfold f_mSeals_multiply_b51
  have F0 := Av.rf c
  refine ao_v (fun y26 => ?_)
  exact ao_jV F0 (hk12 _ _ _ _ _ (F0.cl) Cv0)
theorem av_mSeals_multiply_b59 {C : Nat → Prop} {k4 : Nat → Int → Int → Hp → Option (Hp)} (hk4 : ∀ (v0 : Nat) (v1 : Int) (v2 : Int) (h : Hp), Cl C h → C v0 → Ao (qV C h) (k4 v0 v1 v2 h)) {v0 : Nat} {v1 : Int} {v2 : Int} {h : Hp} (c : Cl C h) (Cv0 : C v0) : Ao (qV C h) (f_mSeals_multiply_b59 k4 v0 v1 v2 h) := by
  unfold f_mSeals_multiply_b59
  have F0 := Av.rf c
  refine ao_it ao_no ?_
  refine ao_it ?_ ao_no
  refine ao_I F0 (F0.cl.r Cv0) (fun h24 F1 => ?_)
  refine ao_v (fun y25 => ?_)
  exact ao_jV F1 (hk4 _ _ _ _ (F1.cl) Cv0)
theorem av_mSeals_multiply_b12 {C : Nat → Prop} {k4 : Nat → Int → Int → Hp → Option (Hp)} (hk4 : ∀ (v0 : Nat) (v1 : Int) (v2 : Int) (h : Hp), Cl C h → C v0 → Ao (qV C h) (k4 v0 v1 v2 h)) {k12 : Nat → Int → Int → Int → Hp → Option (Hp)} (hk12 : ∀ (v0 : Nat) (v1 : Int) (v2 : Int) (v3 : Int) (h : Hp), Cl C h → C v0 → Ao (qV C h) (k12 v0 v1 v2 v3 h)) {v0 : Nat} {v1 : Int} {v2 : Int} {v3 : Int} {h : Hp} (c : Cl C h) (Cv0 : C v0) : Ao (qV C h) (f_mSeals_multiply_b12 k4 k12 v0 v1 v2 v3 h) := by
  unfold f_mSeals_multiply_b12
  have F0 := Av.rf c
  refine ao_it ?_ ?_
  · exact ao_jV F0 (av_mSeals_multiply_b59 hk4 (F0.cl) Cv0)
  · refine ao_it ?_ ?_
    · exact ao_jV F0 (av_mSeals_multiply_b59 hk4 (F0.cl) Cv0)
    · refine ao_it ?_ ?_
      · exact ao_jV F0 (av_mSeals_multiply_b51 hk4 hk12 (F0.cl) Cv0)
      · refine ao_it ao_no ?_
        refine ao_it ?_ ao_no
        refine ao_it ao_no ?_
        refine ao_it ?_ ao_no
        exact ao_jV F0 (av_mSeals_multiply_b51 hk4 hk12 (F0.cl) Cv0)
theorem av_mSeals_multiply_b12_lp {C : Nat → Prop} {k4 : Nat → Int → Int → Hp → Option (Hp)} (hk4 : ∀ (v0 : Nat) (v1 : Int) (v2 : Int) (h : Hp), Cl C h → C v0 → Ao (qV C h) (k4 v0 v1 v2 h)) (n : Nat) : ∀ {v0 : Nat} {v1 : Int} {v2 : Int} {v3 : Int} {h : Hp}, Cl C h → C v0 → Ao (qV C h) (f_mSeals_multiply_b12_lp k4 n v0 v1 v2 v3 h) := by
  induction n with
  | zero => intros; exact ao_no
  | succ n ih => intro v0 v1 v2 v3 h c Cv0; exact av_mSeals_multiply_b12 hk4 (fun _ _ _ _ h => ih) c Cv0
theorem av_mSeals_multiply_b182 {C : Nat → Prop} {k83 : Nat → Int → Hp → Option (Hp)} (hk83 : ∀ (v0 : Nat) (v2 : Int) (h : Hp), Cl C h → C v0 → Ao (qV C h) (k83 v0 v2 h)) {k92 : Nat → Int → Int → Int → Hp → Option (Hp)} (hk92 : ∀ (v0 : Nat) (v1 : Int) (v2 : Int) (v3 : Int) (h : Hp), Cl C h → C v0 → Ao (qV C h) (k92 v0 v1 v2 v3 h)) {v0 : Nat} {v1 : Int} {v2 : Int} {v3 : Int} {v4 : Int} {s0 : Int} {h : Hp} (c : Cl C h) (Cv0 : C v0) : Ao (qV C h) (f_mSeals_multiply_b182 k83 k92 v0 v1 v2 v3 v4 s0 h) := by
  unfold f_mSeals_multiply_b182
  have F0 := Av.rf c
  refine ao_v (fun y8 => ?_)
  refine ao_it ao_no ?_
  refine ao_it ?_ ao_no
  refine ao_I F0 (F0.cl.r Cv0) (fun h11 F2 => ?_)
  refine ao_v (fun y12 => ?_)
  exact ao_jV F2 (hk92 _ _ _ _ _ (F2.cl) Cv0)
theorem av_mSeals_multiply_b147 {C : Nat → Prop} {k83 : Nat → Int → Hp → Option (Hp)} (hk83 : ∀ (v0 : Nat) (v2 : Int) (h : Hp), Cl C h → C v0 → Ao (qV C h) (k83 v0 v2 h)) {k92 : Nat → Int → Int → Int → Hp → Option (Hp)} (hk92 : ∀ (v0 : Nat) (v1 : Int) (v2 : Int) (v3 : Int) (h : Hp), Cl C h → C v0 → Ao (qV C h) (k92 v0 v1 v2 v3 h)) {v0 : Nat} {v1 : Int} {v2 : Int} {v3 : Int} {s0 : Int} {h : Hp} (c : Cl C h) (Cv0 : C v0) : Ao (qV C h) (f_mSeals_multiply_b147 k83 k92 v0 v1 v2 v3 s0 h) := by
  unfold f_mSeals_multiply_b147
  have F0 := Av.rf c
  refine ao_it ?_ ?_
  · refine ao_it ?_ ?_
    · exact ao_jV F0 (av_mSeals_multiply_b182 hk83 hk92 (F0.cl) Cv0)
    · refine ao_it ao_no ?_
      refine ao_it ?_ ao_no
      exact ao_jV F0 (av_mSeals_multiply_b182 hk83 hk92 (F0.cl) Cv0)
  · refine ao_it ao_no ?_
    refine ao_it ?_ ao_no
    exact ao_jV F0 (av_mSeals_multiply_b182 hk83 hk92 (F0.cl) Cv0)
theorem av_mSeals_multiply_b139 {C : Nat → Prop} {k83 : Nat → Int → Hp → Option (Hp)} (hk83 : ∀ (v0 : Nat) (v2 : Int) (h : Hp), Cl C h → C v0 → Ao (qV C h) (k83 v0 v2 h)) {k92 : Nat → Int → Int → Int → Hp → Option (Hp)} (hk92 : ∀ (v0 : Nat) (v1 : Int) (v2 : Int) (v3 : Int) (h : Hp), Cl C h → C v0 → Ao (qV C h) (k92 v0 v1 v2 v3 h)) {v0 : Nat} {v1 : Int} {v2 : Int} {v3 : Int} {s0 : Int} {s1 : Int} {h : Hp} (c : Cl C h) (Cv0 : C v0) : Ao (qV C h) (f_mSeals_multiply_b139 k83 k92 v0 v1 v2 v3 s0 s1 h) := by
  unfold f_mSeals_multiply_b139
  have F0 := Av.rf c
  exact ao_jV F0 (av_mSeals_multiply_b147 hk83 hk92 (F0.cl) Cv0)
theorem av_mSeals_multiply_b218 {C : Nat → Prop} {k83 : Nat → Int → Hp → Option (Hp)} (hk83 : ∀ (v0 : Nat) (v2 : Int) (h : Hp), Cl C h → C v0 → Ao (qV C h) (k83 v0 v2 h)) {k218 : Nat → Int → Int → Hp → Option (Hp)} (hk218 : ∀ (v0 : Nat) (v2 : Int) (v3 : Int) (h : Hp), Cl C h → C v0 → Ao (qV C h) (k218 v0 v2 v3 h)) {v0 : Nat} {v2 : Int} {v3 : Int} {h : Hp} (c : Cl C h) (Cv0 : C v0) : Ao (qV C h) (f_mSeals_multiply_b218 k83 k218 v0 v2 v3 h) := by
  unfold f_mSeals_multiply_b218
  have F0 := Av.rf c
  refine ao_it ?_ ?_
  · exact ao_jV F0 (hk83 _ _ _ (F0.cl) Cv0)
  · refine ao_it ao_no ?_
    refine ao_it ?_ ao_no
    refine ao_it ao_no ?_
    refine ao_it ?_ ao_no
    refine ao_I F0 (F0.cl.r Cv0) (fun h17 F1 => ?_)
    exact ao_jV F1 (hk218 _ _ _ _ (F1.cl) Cv0)
theorem av_mSeals_multiply_b218_lp {C : Nat → Prop} {k83 : Nat → Int → Hp → Option (Hp)} (hk83 : ∀ (v0 : Nat) (v2 : Int) (h : Hp), Cl C h → C v0 → Ao (qV C h) (k83 v0 v2 h)) (n : Nat) : ∀ {v0 : Nat} {v2 : Int} {v3 : Int} {h : Hp}, Cl C h → C v0 → Ao (qV C h) (f_mSeals_multiply_b218_lp k83 n v0 v2 v3 h) := by
  induction n with
  | zero => intros; exact ao_no
  | succ n ih => intro v0 v2 v3 h c Cv0; exact av_mSeals_multiply_b218 hk83 (fun _ _ _ h => ih) c Cv0
theorem av_mSeals_multiply_b92 {C : Nat → Prop} {k83 : Nat → Int → Hp → Option (Hp)} (hk83 : ∀ (v0 : Nat) (v2 : Int) (h : Hp), Cl C h → C v0 → Ao (qV C h) (k83 v0 v2 h)) {k92 : Nat → Int → Int → Int → Hp → Option (Hp)} (hk92 : ∀ (v0 : Nat) (v1 : Int) (v2 : Int) (v3 : Int) (h : Hp), Cl C h → C v0 → Ao (qV C h) (k92 v0 v1 v2 v3 h)) {v0 : Nat} {v1 : Int} {v2 : Int} {v3 : Int} {h : Hp} (c : Cl C h) (Cv0 : C v0) : Ao (qV C h) (f_mSeals_multiply_b92 k83 k92 v0 v1 v2 v3 h) := by
  unfold f_mSeals_multiply_b92
  have F0 := Av.rf c
  refine ao_it ?_ ?_
  · exact ao_jV F0 (av_mSeals_multiply_b218_lp hk83 FU (F0.cl) Cv0)
  · refine ao_it ?_ ?_
    · exact ao_jV F0 (av_mSeals_multiply_b147 hk83 hk92 (F0.cl) Cv0)
    · refine ao_it ao_no ?_
      refine ao_it ?_ ao_no
      refine ao_it ?_ ?_
      · exact ao_jV F0 (av_mSeals_multiply_b139 hk83 hk92 (F0.cl) Cv0)
      · refine ao_it ?_ ao_no
        exact ao_jV F0 (av_mSeals_multiply_b139 hk83 hk92 (F0.cl) Cv0)
theorem av_mSeals_multiply_b92_lp {C : Nat → Prop} {k83 : Nat → Int → Hp → Option (Hp)} (hk83 : ∀ (v0 : Nat) (v2 : Int) (h : Hp), Cl C h → C v0 → Ao (qV C h) (k83 v0 v2 h)) (n : Nat) : ∀ {v0 : Nat} {v1 : Int} {v2 : Int} {v3 : Int} {h : Hp}, Cl C h → C v0 → Ao (qV C h) (f_mSeals_multiply_b92_lp k83 n v0 v1 v2 v3 h) := by
  induction n with
  | zero => intros; exact ao_no
  | succ n ih => intro v0 v1 v2 v3 h c Cv0; exact av_mSeals_multiply_b92 hk83 (fun _ _ _ _ h => ih) c Cv0
theorem av_mSeals_multiply_b83 {C : Nat → Prop} {k83 : Nat → Int → Hp → Option (Hp)} (hk83 : ∀ (v0 : Nat) (v2 : Int) (h : Hp), Cl C h → C v0 → Ao (qV C h) (k83 v0 v2 h)) {v0 : Nat} {v2 : Int} {h : Hp} (c : Cl C h) (Cv0 : C v0) : Ao (qV C h) (f_mSeals_multiply_b83 k83 v0 v2 h) := by
  unfold f_mSeals_multiply_b83
  have F0 := Av.rf c
  refine ao_it ?_ ?_
  · exact ao_so F0
  · exact ao_jV F0 (av_mSeals_multiply_b92_lp hk83 FU (F0.cl) Cv0)
theorem av_mSeals_multiply_b83_lp {C : Nat → Prop} (n : Nat) : ∀ {v0 : Nat} {v2 : Int} {h : Hp}, Cl C h → C v0 → Ao (qV C h) (f_mSeals_multiply_b83_lp n v0 v2 h) := by
  induction n with
  | zero => intros; exact ao_no
  | succ n ih => intro v0 v2 h c Cv0; exact av_mSeals_multiply_b83 (fun _ _ h => ih) c Cv0
theorem av_mSeals_multiply_b4 {C : Nat → Prop} {k4 : Nat → Int → Int → Hp → Option (Hp)} (hk4 : ∀ (v0 : Nat) (v1 : Int) (v2 : Int) (h : Hp), Cl C h → C v0 → Ao (qV C h) (k4 v0 v1 v2 h)) {v0 : Nat} {v1 : Int} {v2 : Int} {h : Hp} (c : Cl C h) (Cv0 : C v0) : Ao (qV C h) (f_mSeals_multiply_b4 k4 v0 v1 v2 h) := by
  unfold f_mSeals_multiply_b4
  have F0 := Av.rf c
  refine ao_it ?_ ?_
  · exact ao_jV F0 (av_mSeals_multiply_b83_lp FU (F0.cl) Cv0)
  · exact ao_jV F0 (av_mSeals_multiply_b12_lp hk4 FU (F0.cl) Cv0)
theorem av_mSeals_multiply_b4_lp {C : Nat → Prop} (n : Nat) : ∀ {v0 : Nat} {v1 : Int} {v2 : Int} {h : Hp}, Cl C h → C v0 → Ao (qV C h) (f_mSeals_multiply_b4_lp n v0 v1 v2 h) := by
  induction n with
  | zero => intros; exact ao_no
  | succ n ih => intro v0 v1 v2 h c Cv0; exact av_mSeals_multiply_b4 (fun _ _ _ h => ih) c Cv0
theorem av_mSeals_multiply {C : Nat → Prop} {v0 : Nat} {h : Hp} (c : Cl C h) (Cv0 : C v0) : Ao (qV C h) (f_mSeals_multiply v0 h) := by
  unfold f_mSeals_multiply
  have F0 := Av.rf c
  exact ao_jV F0 (av_mSeals_multiply_b4_lp FU (F0.cl) Cv0)
theorem av_mSeals_tallyOf_b153 {C : Nat → Prop} {k97 : Nat → Int → Int → Hp → Option (Hp)} (hk97 : ∀ (v0 : Nat) (v1 : Int) (v2 : Int) (h : Hp), Cl C h → C v0 → Ao (qV C h) (k97 v0 v1 v2 h)) {k107 : Nat → Int → Int → Int → Int → Hp → Option (Hp)} (hk107 : ∀ (v0 : Nat) (v1 : Int) (v2 : Int) (v3 : Int) (v4 : Int) (h : Hp), Cl C h → C v0 → Ao (qV C h) (k107 v0 v1 v2 v3 v4 h)) {v0 : Nat} {v1 : Int} {v2 : Int} {v4 : Int} {s0 : Int} {s1 : Int} {s2 : Int} {h : Hp} (c : Cl C h) (Cv0 : C v0) : Ao (qV C h) (f_mSeals_tallyOf_b153 k97 k107 v0 v1 v2 v4 s0 s1 s2 h) := by
  unfold f_mSeals_tallyOf_b153
  have F0 := Av.rf c
  refine ao_v (fun y43 => ?_)
  refine ao_it ao_no ?_
  refine ao_it ?_ ao_no
  refine ao_I F0 (F0.cl.r Cv0) (fun h46 F2 => ?_)
  refine ao_v (fun y47 => ?_)
  exact ao_jV F2 (hk107 _ _ _ _ _ _ (F2.cl) Cv0)
theorem av_mSeals_tallyOf_b107 {C : Nat → Prop} {k97 : Nat → Int → Int → Hp → Option (Hp)} (hk97 : ∀ (v0 : Nat) (v1 : Int) (v2 : Int) (h : Hp), Cl C h → C v0 → Ao (qV C h) (k97 v0 v1 v2 h)) {k107 : Nat → Int → Int → Int → Int → Hp → Option (Hp)} (hk107 : ∀ (v0 : Nat) (v1 : Int) (v2 : Int) (v3 : Int) (v4 : Int) (h : Hp), Cl C h → C v0 → Ao (qV C h) (k107 v0 v1 v2 v3 v4 h)) {v0 : Nat} {v1 : Int} {v2 : Int} {v3 : Int} {v4 : Int} {h : Hp} (c : Cl C h) (Cv0 : C v0) : Ao (qV C h) (f_mSeals_tallyOf_b107 k97 k107 v0 v1 v2 v3 v4 h) := by
  unfold f_mSeals_tallyOf_b107
  have F0 := Av.rf c
  refine ao_it ?_ ?_
  · refine ao_b1 F0 (av_mSeals_multiply (F0.cl) Cv0) (fun h37 F1 => ?_)
    exact ao_jV F1 (hk97 _ _ _ _ (F1.cl) Cv0)
  · refine ao_it ao_no ?_
    refine ao_it ?_ ao_no
    refine ao_it ?_ ?_
    · refine ao_it ?_ ?_
      · exact ao_jV F0 (av_mSeals_tallyOf_b153 hk97 hk107 (F0.cl) Cv0)
      · exact ao_jV F0 (av_mSeals_tallyOf_b153 hk97 hk107 (F0.cl) Cv0)
    · refine ao_it ao_no ?_
      refine ao_it ?_ ao_no
      exact ao_jV F0 (av_mSeals_tallyOf_b153 hk97 hk107 (F0.cl) Cv0)
theorem av_mSeals_tallyOf_b107_lp {C : Nat → Prop} {k97 : Nat → Int → Int → Hp → Option (Hp)} (hk97 : ∀ (v0 : Nat) (v1 : Int) (v2 : Int) (h : Hp), Cl C h → C v0 → Ao (qV C h) (k97 v0 v1 v2 h)) (n : Nat) : ∀ {v0 : Nat} {v1 : Int} {v2 : Int} {v3 : Int} {v4 : Int} {h : Hp}, Cl C h → C v0 → Ao (qV C h) (f_mSeals_tallyOf_b107_lp k97 n v0 v1 v2 v3 v4 h) := by
  induction n with
  | zero => intros; exact ao_no
  | succ n ih => intro v0 v1 v2 v3 v4 h c Cv0; exact av_mSeals_tallyOf_b107 hk97 (fun _ _ _ _ _ h => ih) c Cv0
theorem av_mSeals_tallyOf_b281 {C : Nat → Prop} {k252 : Nat → Int → Int → Int → Hp → Option (Hp)} (hk252 : ∀ (v0 : Nat) (v2 : Int) (v3 : Int) (v4 : Int) (h : Hp), Cl C h → C v0 → Ao (qV C h) (k252 v0 v2 v3 v4 h)) {v0 : Nat} {v3 : Int} {v4 : Int} {s0 : Int} {s1 : Int} {h : Hp} (c : Cl C h) (Cv0 : C v0) : Ao (qV C h) (f_mSeals_tallyOf_b281 k252 v0 v3 v4 s0 s1 h) := by
  unfold f_mSeals_tallyOf_b281
  have F0 := Av.rf c
  refine ao_it ao_no ?_
  refine ao_it ?_ ao_no
  refine ao_v (fun y32 => ?_)
  refine ao_it ao_no ?_
  refine ao_it ?_ ao_no
  refine ao_I F0 (F0.cl.r Cv0) (fun h35 F2 => ?_)
  refine ao_v (fun y36 => ?_)
  exact ao_jV F2 (hk252 _ _ _ _ _ (F2.cl) Cv0)
theorem av_mSeals_tallyOf_b252 {C : Nat → Prop} {k252 : Nat → Int → Int → Int → Hp → Option (Hp)} (hk252 : ∀ (v0 : Nat) (v2 : Int) (v3 : Int) (v4 : Int) (h : Hp), Cl C h → C v0 → Ao (qV C h) (k252 v0 v2 v3 v4 h)) {v0 : Nat} {v2 : Int} {v3 : Int} {v4 : Int} {h : Hp} (c : Cl C h) (Cv0 : C v0) : Ao (qV C h) (f_mSeals_tallyOf_b252 k252 v0 v2 v3 v4 h) := by
  unfold f_mSeals_tallyOf_b252
  have F0 := Av.rf c
  refine ao_it ?_ ?_
  · exact ao_so F0
  · refine ao_it ?_ ?_
    · refine ao_it ao_no ?_
      refine ao_it ?_ ao_no
      exact ao_jV F0 (av_mSeals_tallyOf_b281 hk252 (F0.cl) Cv0)
    · refine ao_it ao_no ?_
      refine ao_it ?_ ao_no
      exact ao_jV F0 (av_mSeals_tallyOf_b281 hk252 (F0.cl) Cv0)
theorem av_mSeals_tallyOf_b252_lp {C : Nat → Prop} (n : Nat) : ∀ {v0 : Nat} {v2 : Int} {v3 : Int} {v4 : Int} {h : Hp}, Cl C h → C v0 → Ao (qV C h) (f_mSeals_tallyOf_b252_lp n v0 v2 v3 v4 h) := by
  induction n with
  | zero => intros; exact ao_no
  | succ n ih => intro v0 v2 v3 v4 h c Cv0; exact av_mSeals_tallyOf_b252 (fun _ _ _ _ h => ih) c Cv0
theorem av_mSeals_tallyOf_b246 {C : Nat → Prop} {v0 : Nat} {s0 : Int} {h : Hp} (c : Cl C h) (Cv0 : C v0) : Ao (qV C h) (f_mSeals_tallyOf_b246 v0 s0 h) := by
  unfold f_mSeals_tallyOf_b246
  have F0 := Av.rf c
  exact ao_jV F0 (av_mSeals_tallyOf_b252_lp FU (F0.cl) Cv0)
theorem av_mSeals_tallyOf_b193 {C : Nat → Prop} {k193 : Nat → Int → Int → Hp → Option (Hp)} (hk193 : ∀ (v0 : Nat) (v2 : Int) (v3 : Int) (h : Hp), Cl C h → C v0 → Ao (qV C h) (k193 v0 v2 v3 h)) {v0 : Nat} {v2 : Int} {v3 : Int} {h : Hp} (c : Cl C h) (Cv0 : C v0) : Ao (qV C h) (f_mSeals_tallyOf_b193 k193 v0 v2 v3 h) := by
  unfold f_mSeals_tallyOf_b193
  have F0 := Av.rf c
  refine ao_it ?_ ?_
  · refine ao_it ao_no ?_
    refine ao_it ?_ ao_no
    refine ao_it ?_ ?_
    · exact ao_jV F0 (av_mSeals_tallyOf_b246 (F0.cl) Cv0)
    · exact ao_jV F0 (av_mSeals_tallyOf_b246 (F0.cl) Cv0)
  · refine ao_it ao_no ?_
    refine ao_it ?_ ao_no
    refine ao_v (fun y21 => ?_)
    refine ao_it ao_no ?_
    refine ao_it ?_ ao_no
    refine ao_I F0 (F0.cl.r Cv0) (fun h24 F2 => ?_)
    refine ao_v (fun y25 => ?_)
    exact ao_jV F2 (hk193 _ _ _ _ (F2.cl) Cv0)
theorem av_mSeals_tallyOf_b193_lp {C : Nat → Prop} (n : Nat) : ∀ {v0 : Nat} {v2 : Int} {v3 : Int} {h : Hp}, Cl C h → C v0 → Ao (qV C h) (f_mSeals_tallyOf_b193_lp n v0 v2 v3 h) := by
  induction n with
  | zero => intros; exact ao_no
  | succ n ih => intro v0 v2 v3 h c Cv0; exact av_mSeals_tallyOf_b193 (fun _ _ _ h => ih) c Cv0
theorem av_mSeals_tallyOf_b97 {C : Nat → Prop} {k97 : Nat → Int → Int → Hp → Option (Hp)} (hk97 : ∀ (v0 : Nat) (v1 : Int) (v2 : Int) (h : Hp), Cl C h → C v0 → Ao (qV C h) (k97 v0 v1 v2 h)) {v0 : Nat} {v1 : Int} {v2 : Int} {h : Hp} (c : Cl C h) (Cv0 : C v0) : Ao (qV C h) (f_mSeals_tallyOf_b97 k97 v0 v1 v2 h) := by
  unfold f_mSeals_tallyOf_b97
  have F0 := Av.rf c
  refine ao_it ?_ ?_
  · exact ao_jV F0 (av_mSeals_tallyOf_b193_lp FU (F0.cl) Cv0)
  · exact ao_jV F0 (av_mSeals_tallyOf_b107_lp hk97 FU (F0.cl) Cv0)
theorem av_mSeals_tallyOf_b97_lp {C : Nat → Prop} (n : Nat) : ∀ {v0 : Nat} {v1 : Int} {v2 : Int} {h : Hp}, Cl C h → C v0 → Ao (qV C h) (f_mSeals_tallyOf_b97_lp n v0 v1 v2 h) := by
  induction n with
  | zero => intros; exact ao_no
  | succ n ih => intro v0 v1 v2 h c Cv0; exact av_mSeals_tallyOf_b97 (fun _ _ _ h => ih) c Cv0
theorem av_mSeals_tallyOf_b76 {C : Nat → Prop} {k76 : Nat → Int → Int → Hp → Option (Hp)} (hk76 : ∀ (v0 : Nat) (v1 : Int) (v2 : Int) (h : Hp), Cl C h → C v0 → Ao (qV C h) (k76 v0 v1 v2 h)) {v0 : Nat} {v1 : Int} {v2 : Int} {h : Hp} (c : Cl C h) (Cv0 : C v0) : Ao (qV C h) (f_mSeals_tallyOf_b76 k76 v0 v1 v2 h) := by
  unfold f_mSeals_tallyOf_b76
  have F0 := Av.rf c
  refine ao_it ?_ ?_
  · exact ao_jV F0 (av_mSeals_tallyOf_b97_lp FU (F0.cl) Cv0)
  · refine ao_it ao_no ?_
    refine ao_it ?_ ao_no
    refine ao_I F0 (F0.cl.r Cv0) (fun h16 F1 => ?_)
    exact ao_jV F1 (hk76 _ _ _ _ (F1.cl) Cv0)
theorem av_mSeals_tallyOf_b76_lp {C : Nat → Prop} (n : Nat) : ∀ {v0 : Nat} {v1 : Int} {v2 : Int} {h : Hp}, Cl C h → C v0 → Ao (qV C h) (f_mSeals_tallyOf_b76_lp n v0 v1 v2 h) := by
  induction n with
  | zero => intros; exact ao_no
  | succ n ih => intro v0 v1 v2 h c Cv0; exact av_mSeals_tallyOf_b76 (fun _ _ _ h => ih) c Cv0
theorem av_mSeals_tallyOf_b68 {C : Nat → Prop} {k2 : Nat → Int → Int → Hp → Option (Hp)} (hk2 : ∀ (v0 : Nat) (v1 : Int) (v2 : Int) (h : Hp), Cl C h → C v0 → Ao (qV C h) (k2 v0 v1 v2 h)) {v0 : Nat} {v1 : Int} {v2 : Int} {h : Hp} (c : Cl C h) (Cv0 : C v0) : Ao (qV C h) (f_mSeals_tallyOf_b68 k2 v0 v1 v2 h) := by
  unfold f_mSeals_tallyOf_b68
  have F0 := Av.rf c
  exact ao_jV F0 (hk2 _ _ _ _ (F0.cl) Cv0)
theorem av_mSeals_tallyOf_b42 {C : Nat → Prop} {k2 : Nat → Int → Int → Hp → Option (Hp)} (hk2 : ∀ (v0 : Nat) (v1 : Int) (v2 : Int) (h : Hp), Cl C h → C v0 → Ao (qV C h) (k2 v0 v1 v2 h)) {v0 : Nat} {v1 : Int} {v2 : Int} {h : Hp} (c : Cl C h) (Cv0 : C v0) : Ao (qV C h) (f_mSeals_tallyOf_b42 k2 v0 v1 v2 h) := by
  unfold f_mSeals_tallyOf_b42
  have F0 := Av.rf c
  refine ao_it ?_ ?_
  · exact ao_jV F0 (av_mSeals_tallyOf_b68 hk2 (F0.cl) Cv0)
  · refine ao_it ?_ ?_
    · exact ao_jV F0 (av_mSeals_tallyOf_b68 hk2 (F0.cl) Cv0)
    · refine ao_it ao_no ?_
      refine ao_it ?_ ao_no
      refine ao_it ?_ ao_no
      refine ao_I F0 (F0.cl.r Cv0) (fun h13 F1 => ?_)
      exact ao_jV F1 (av_mSeals_tallyOf_b68 hk2 (F1.cl) Cv0)
theorem av_mSeals_tallyOf_b2 {C : Nat → Prop} {k2 : Nat → Int → Int → Hp → Option (Hp)} (hk2 : ∀ (v0 : Nat) (v1 : Int) (v2 : Int) (h : Hp), Cl C h → C v0 → Ao (qV C h) (k2 v0 v1 v2 h)) {v0 : Nat} {v1 : Int} {v2 : Int} {h : Hp} (c : Cl C h) (Cv0 : C v0) : Ao (qV C h) (f_mSeals_tallyOf_b2 k2 v0 v1 v2 h) := by
  unfold f_mSeals_tallyOf_b2
  have F0 := Av.rf c
  refine ao_it ?_ ?_
  · exact ao_jV F0 (av_mSeals_tallyOf_b76_lp FU (F0.cl) Cv0)
  · refine ao_it ao_no ?_
    refine ao_it ?_ ao_no
    refine ao_it ao_no ?_
    refine ao_it ?_ ao_no
    refine ao_I F0 (F0.cl.r Cv0) (fun h5 F1 => ?_)
    refine ao_it ?_ ?_
    · exact ao_jV F1 (av_mSeals_tallyOf_b42 hk2 (F1.cl) Cv0)
    · refine ao_it ao_no ?_
      refine ao_it ?_ ao_no
      refine ao_it ?_ ao_no
      refine ao_I F1 (F1.cl.r Cv0) (fun h9 F2 => ?_)
      exact ao_jV F2 (av_mSeals_tallyOf_b42 hk2 (F2.cl) Cv0)
theorem av_mSeals_tallyOf_b2_lp {C : Nat → Prop} (n : Nat) : ∀ {v0 : Nat} {v1 : Int} {v2 : Int} {h : Hp}, Cl C h → C v0 → Ao (qV C h) (f_mSeals_tallyOf_b2_lp n v0 v1 v2 h) := by
  induction n with
  | zero => intros; exact ao_no
  | succ n ih => intro v0 v1 v2 h c Cv0; exact av_mSeals_tallyOf_b2 (fun _ _ _ h => ih) c Cv0
theorem av_mSeals_tallyOf {C : Nat → Prop} {v0 : Nat} {v1 : Int} {h : Hp} (c : Cl C h) (Cv0 : C v0) : Ao (qV C h) (f_mSeals_tallyOf v0 v1 h) := by
  unfold f_mSeals_tallyOf
  have F0 := Av.rf c
  exact ao_jV F0 (av_mSeals_tallyOf_b2_lp FU (F0.cl) Cv0)
theorem av_mSeals_tagOf_b148 {C : Nat → Prop} {k93 : Nat → Int → Int → Int → Int → Hp → Option (Hp)} (hk93 : ∀ (v0 : Nat) (v3 : Int) (v5 : Int) (v6 : Int) (v7 : Int) (h : Hp), Cl C h → C v0 → Ao (qV C h) (k93 v0 v3 v5 v6 v7 h)) {v0 : Nat} {v3 : Int} {v5 : Int} {v6 : Int} {v7 : Int} {s0 : Nat} {s1 : Int} {s2 : Int} {h : Hp} (c : Cl C h) (Cv0 : C v0) (Cs0 : C s0) : Ao (qV C h) (f_mSeals_tagOf_b148 k93 v0 v3 v5 v6 v7 s0 s1 s2 h) := by
  unfold f_mSeals_tagOf_b148
  have F0 := Av.rf c
  refine ao_it ao_no ?_
  refine ao_it ?_ ao_no
  refine ao_I F0 Cs0 (fun h25 F1 => ?_)
  exact ao_jV F1 (hk93 _ _ _ _ _ _ (F1.cl) Cv0)
theorem av_mSeals_tagOf_b135 {C : Nat → Prop} {k93 : Nat → Int → Int → Int → Int → Hp → Option (Hp)} (hk93 : ∀ (v0 : Nat) (v3 : Int) (v5 : Int) (v6 : Int) (v7 : Int) (h : Hp), Cl C h → C v0 → Ao (qV C h) (k93 v0 v3 v5 v6 v7 h)) {v0 : Nat} {v3 : Int} {v5 : Int} {v6 : Int} {v7 : Int} {s0 : Nat} {s1 : Int} {s2 : Int} {h : Hp} (c : Cl C h) (Cv0 : C v0) (Cs0 : C s0) : Ao (qV C h) (f_mSeals_tagOf_b135 k93 v0 v3 v5 v6 v7 s0 s1 s2 h) := by
  unfold f_mSeals_tagOf_b135
  have F0 := Av.rf c
  exact ao_jV F0 (av_mSeals_tagOf_b148 hk93 (F0.cl) Cv0 Cs0)
theorem av_mSeals_tagOf_b93 {C : Nat → Prop} {k93 : Nat → Int → Int → Int → Int → Hp → Option (Hp)} (hk93 : ∀ (v0 : Nat) (v3 : Int) (v5 : Int) (v6 : Int) (v7 : Int) (h : Hp), Cl C h → C v0 → Ao (qV C h) (k93 v0 v3 v5 v6 v7 h)) {v0 : Nat} {v3 : Int} {v5 : Int} {v6 : Int} {v7 : Int} {h : Hp} (c : Cl C h) (Cv0 : C v0) : Ao (qV C h) (f_mSeals_tagOf_b93 k93 v0 v3 v5 v6 v7 h) := by
  unfold f_mSeals_tagOf_b93
  have F0 := Av.rf c
  refine ao_it ?_ ?_
  · refine ao_b1 F0 (av_mSeals_blockOf (F0.cl) Cv0) (fun h19 F1 => ?_)
    refine ao_b1 F1 (av_mSeals_tallyOf (F1.cl) Cv0) (fun h21 F2 => ?_)
    exact ao_so F2
  · refine ao_it ?_ ?_
    · refine ao_it ?_ ?_
      · exact ao_jV F0 (av_mSeals_tagOf_b135 hk93 (F0.cl) Cv0 (F0.cl.r Cv0))
      · exact ao_jV F0 (av_mSeals_tagOf_b135 hk93 (F0.cl) Cv0 (F0.cl.r Cv0))
    · exact ao_jV F0 (av_mSeals_tagOf_b148 hk93 (F0.cl) Cv0 (F0.cl.r Cv0))
theorem av_mSeals_tagOf_b93_lp {C : Nat → Prop} (n : Nat) : ∀ {v0 : Nat} {v3 : Int} {v5 : Int} {v6 : Int} {v7 : Int} {h : Hp}, Cl C h → C v0 → Ao (qV C h) (f_mSeals_tagOf_b93_lp n v0 v3 v5 v6 v7 h) := by
  induction n with
  | zero => intros; exact ao_no
  | succ n ih => intro v0 v3 v5 v6 v7 h c Cv0; exact av_mSeals_tagOf_b93 (fun _ _ _ _ _ h => ih) c Cv0
theorem av_mSeals_tagOf_b47 {C : Nat → Prop} {k47 : Nat → Nat → Int → Int → Int → Int → Int → Hp → Option (Hp)} (hk47 : ∀ (v0 : Nat) (v1 : Nat) (v2 : Int) (v3 : Int) (v4 : Int) (v5 : Int) (v6 : Int) (h : Hp), Cl C h → C v0 → Ao (qV C h) (k47 v0 v1 v2 v3 v4 v5 v6 h)) {v0 : Nat} {v1 : Nat} {v2 : Int} {v3 : Int} {v4 : Int} {v5 : Int} {v6 : Int} {h : Hp} (c : Cl C h) (Cv0 : C v0) : Ao (qV C h) (f_mSeals_tagOf_b47 k47 v0 v1 v2 v3 v4 v5 v6 h) := by
  unfold f_mSeals_tagOf_b47
  have F0 := Av.rf c
  refine ao_it ?_ ?_
  · refine ao_b2 F0 (av_mSeals_fill (F0.cl) Cv0) (fun r12 h10 F1 => ?_)
    refine ao_v (fun y13 => ?_)
    exact ao_jV F1 (av_mSeals_tagOf_b93_lp FU (F1.cl) Cv0)
  · refine ao_it ao_no ?_
    refine ao_it ?_ ao_no
    refine ao_it ao_no ?_
    refine ao_it ?_ ao_no
    refine ao_I F0 (F0.cl.r Cv0) (fun h18 F3 => ?_)
    exact ao_jV F3 (hk47 _ _ _ _ _ _ _ _ (F3.cl) Cv0)
theorem av_mSeals_tagOf_b47_lp {C : Nat → Prop} (n : Nat) : ∀ {v0 : Nat} {v1 : Nat} {v2 : Int} {v3 : Int} {v4 : Int} {v5 : Int} {v6 : Int} {h : Hp}, Cl C h → C v0 → Ao (qV C h) (f_mSeals_tagOf_b47_lp n v0 v1 v2 v3 v4 v5 v6 h) := by
  induction n with
  | zero => intros; exact ao_no
  | succ n ih => intro v0 v1 v2 v3 v4 v5 v6 h c Cv0; exact av_mSeals_tagOf_b47 (fun _ _ _ _ _ _ _ h => ih) c Cv0
theorem av_mSeals_tagOf_b6 {C : Nat → Prop} {k6 : Nat → Nat → Int → Int → Int → Int → Int → Hp → Option (Hp)} (hk6 : ∀ (v0 : Nat) (v1 : Nat) (v2 : Int) (v3 : Int) (v4 : Int) (v5 : Int) (v6 : Int) (h : Hp), Cl C h → C v0 → Ao (qV C h) (k6 v0 v1 v2 v3 v4 v5 v6 h)) {v0 : Nat} {v1 : Nat} {v2 : Int} {v3 : Int} {v4 : Int} {v5 : Int} {v6 : Int} {h : Hp} (c : Cl C h) (Cv0 : C v0) : Ao (qV C h) (f_mSeals_tagOf_b6 k6 v0 v1 v2 v3 v4 v5 v6 h) := by
  unfold f_mSeals_tagOf_b6
  have F0 := Av.rf c
  refine ao_it ?_ ?_
  · refine ao_b2 F0 (av_mSeals_fill (F0.cl) Cv0) (fun r3 h1 F1 => ?_)
    refine ao_v (fun y4 => ?_)
    exact ao_jV F1 (av_mSeals_tagOf_b47_lp FU (F1.cl) Cv0)
  · refine ao_it ao_no ?_
    refine ao_it ?_ ao_no
    refine ao_it ao_no ?_
    refine ao_it ?_ ao_no
    refine ao_I F0 (F0.cl.r Cv0) (fun h9 F3 => ?_)
    exact ao_jV F3 (hk6 _ _ _ _ _ _ _ _ (F3.cl) Cv0)
theorem av_mSeals_tagOf_b6_lp {C : Nat → Prop} (n : Nat) : ∀ {v0 : Nat} {v1 : Nat} {v2 : Int} {v3 : Int} {v4 : Int} {v5 : Int} {v6 : Int} {h : Hp}, Cl C h → C v0 → Ao (qV C h) (f_mSeals_tagOf_b6_lp n v0 v1 v2 v3 v4 v5 v6 h) := by
  induction n with
  | zero => intros; exact ao_no
  | succ n ih => intro v0 v1 v2 v3 v4 v5 v6 h c Cv0; exact av_mSeals_tagOf_b6 (fun _ _ _ _ _ _ _ h => ih) c Cv0
theorem av_mSeals_tagOf {C : Nat → Prop} {v0 : Nat} {v1 : Nat} {v2 : Int} {v3 : Int} {v4 : Int} {h : Hp} (c : Cl C h) (Cv0 : C v0) : Ao (qV C h) (f_mSeals_tagOf v0 v1 v2 v3 v4 h) := by
  unfold f_mSeals_tagOf
  have F0 := Av.rf c
  exact ao_jV F0 (av_mSeals_tagOf_b6_lp FU (F0.cl) Cv0)
theorem av_mSeals_change_b33 {C : Nat → Prop} {k3 : Nat → Nat → Int → Int → Int → Hp → Option (Hp)} (hk3 : ∀ (v0 : Nat) (v1 : Nat) (v2 : Int) (v3 : Int) (v4 : Int) (h : Hp), Cl C h → C v0 → C v1 → Ao (qV C h) (k3 v0 v1 v2 v3 v4 h)) {v0 : Nat} {v1 : Nat} {v2 : Int} {v3 : Int} {v4 : Int} {h : Hp} (c : Cl C h) (Cv0 : C v0) (Cv1 : C v1) : Ao (qV C h) (f_mSeals_change_b33 k3 v0 v1 v2 v3 v4 h) := by
  unfold f_mSeals_change_b33
  have F0 := Av.rf c
  refine ao_it ao_no ?_
  refine ao_it ?_ ao_no
  refine ao_it ao_no ?_
  refine ao_it ?_ ao_no
  refine ao_it ?_ ao_no
  refine ao_I F0 Cv1 (fun h8 F1 => ?_)
  exact ao_jV F1 (hk3 _ _ _ _ _ _ (F1.cl) Cv0 Cv1)
theorem av_mSeals_change_b3 {C : Nat → Prop} {k3 : Nat → Nat → Int → Int → Int → Hp → Option (Hp)} (hk3 : ∀ (v0 : Nat) (v1 : Nat) (v2 : Int) (v3 : Int) (v4 : Int) (h : Hp), Cl C h → C v0 → C v1 → Ao (qV C h) (k3 v0 v1 v2 v3 v4 h)) {v0 : Nat} {v1 : Nat} {v2 : Int} {v3 : Int} {v4 : Int} {h : Hp} (c : Cl C h) (Cv0 : C v0) (Cv1 : C v1) : Ao (qV C h) (f_mSeals_change_b3 k3 v0 v1 v2 v3 v4 h) := by
  unfold f_mSeals_change_b3
  have F0 := Av.rf c
  refine ao_it ?_ ?_
  · exact ao_so F0
  · refine ao_it ?_ ?_
    · exact ao_jV F0 (av_mSeals_change_b33 hk3 (F0.cl) Cv0 Cv1)
    · refine ao_b1 F0 (av_mSeals_blockOf (F0.cl) Cv0) (fun h1 F1 => ?_)
      exact ao_jV F1 (av_mSeals_change_b33 hk3 (F1.cl) Cv0 Cv1)
theorem av_mSeals_change_b3_lp {C : Nat → Prop} (n : Nat) : ∀ {v0 : Nat} {v1 : Nat} {v2 : Int} {v3 : Int} {v4 : Int} {h : Hp}, Cl C h → C v0 → C v1 → Ao (qV C h) (f_mSeals_change_b3_lp n v0 v1 v2 v3 v4 h) := by
  induction n with
  | zero => intros; exact ao_no
  | succ n ih => intro v0 v1 v2 v3 v4 h c Cv0 Cv1; exact av_mSeals_change_b3 (fun _ _ _ _ _ h => ih) c Cv0 Cv1
theorem av_mSeals_change {C : Nat → Prop} {v0 : Nat} {v1 : Nat} {v2 : Int} {v3 : Int} {h : Hp} (c : Cl C h) (Cv0 : C v0) (Cv1 : C v1) : Ao (qV C h) (f_mSeals_change v0 v1 v2 v3 h) := by
  unfold f_mSeals_change
  have F0 := Av.rf c
  exact ao_jV F0 (av_mSeals_change_b3_lp FU (F0.cl) Cv0 Cv1)
theorem av_mSeals_open_b25 {C : Nat → Prop} {k25 : Nat → Nat → Int → Int → Int → Int → Hp → Option (Int × Hp)} (hk25 : ∀ (v0 : Nat) (v5 : Nat) (v6 : Int) (v7 : Int) (v8 : Int) (v9 : Int) (h : Hp), Cl C h → C v0 → C v5 → Ao (qI C h) (k25 v0 v5 v6 v7 v8 v9 h)) {v0 : Nat} {v5 : Nat} {v6 : Int} {v7 : Int} {v8 : Int} {v9 : Int} {h : Hp} (c : Cl C h) (Cv0 : C v0) (Cv5 : C v5) : Ao (qI C h) (f_mSeals_open_b25 k25 v0 v5 v6 v7 v8 v9 h) := by
  unfold f_mSeals_open_b25
  have F0 := Av.rf c
  refine ao_it ?_ ?_
  · refine ao_b1 F0 (av_mSeals_change (F0.cl) Cv0 Cv5) (fun h5 F1 => ?_)
    exact ao_so F1
  · refine ao_it ao_no ?_
    refine ao_it ?_ ao_no
    refine ao_it ao_no ?_
    refine ao_it ?_ ao_no
    refine ao_it ?_ ?_
    · exact ao_jI F0 (hk25 _ _ _ _ _ _ _ (F0.cl) Cv0 Cv5)
    · exact ao_so F0
theorem av_mSeals_open_b25_lp {C : Nat → Prop} (n : Nat) : ∀ {v0 : Nat} {v5 : Nat} {v6 : Int} {v7 : Int} {v8 : Int} {v9 : Int} {h : Hp}, Cl C h → C v0 → C v5 → Ao (qI C h) (f_mSeals_open_b25_lp n v0 v5 v6 v7 v8 v9 h) := by
  induction n with
  | zero => intros; exact ao_no
  | succ n ih => intro v0 v5 v6 v7 v8 v9 h c Cv0 Cv5; exact av_mSeals_open_b25 (fun _ _ _ _ _ _ h => ih) c Cv0 Cv5
theorem av_mSeals_open {C : Nat → Prop} {v0 : Nat} {v1 : Nat} {v2 : Int} {v3 : Int} {v5 : Nat} {v6 : Int} {v7 : Int} {v8 : Int} {h : Hp} (c : Cl C h) (Cv0 : C v0) (Cv5 : C v5) : Ao (qI C h) (f_mSeals_open v0 v1 v2 v3 v5 v6 v7 v8 h) := by
  unfold f_mSeals_open
  have F0 := Av.rf c
  refine ao_b1 F0 (av_mSeals_nonceOf (F0.cl) Cv0) (fun h1 F1 => ?_)
  refine ao_b1 F1 (av_mSeals_tagOf (F1.cl) Cv0) (fun h3 F2 => ?_)
  exact ao_jI F2 (av_mSeals_open_b25_lp FU (F2.cl) Cv0 Cv5)
theorem av_mSide_tries_b120 {C : Nat → Prop} {k120 : Nat → Nat → Int → Int → Int → Int → Hp → Option (Int × Hp)} (hk120 : ∀ (v0 : Nat) (v2 : Nat) (v3 : Int) (v4 : Int) (v5 : Int) (v7 : Int) (h : Hp), Cl C h → C v0 → Ao (qI C h) (k120 v0 v2 v3 v4 v5 v7 h)) {v0 : Nat} {v2 : Nat} {v3 : Int} {v4 : Int} {v5 : Int} {v7 : Int} {h : Hp} (c : Cl C h) (Cv0 : C v0) : Ao (qI C h) (f_mSide_tries_b120 k120 v0 v2 v3 v4 v5 v7 h) := by
  unfold f_mSide_tries_b120
  have F0 := Av.rf c
  refine ao_it ?_ ?_
  · refine ao_b2 F0 (av_mSide_grown (F0.cl)) (fun r31 h29 F1 => ?_)
    refine ao_it ao_no ?_
    refine ao_it ?_ ao_no
    refine ao_it ?_ ao_no
    refine ao_it ao_no ?_
    refine ao_b2 F1 (av_mSeals_open (F1.cl) (F0.cl.r Cv0) (F1.cl.r Cv0)) (fun r38 h36 F2 => ?_)
    refine ao_it ?_ ao_no
    exact ao_so F2
  · refine ao_it ao_no ?_
    refine ao_it ?_ ao_no
    refine ao_v (fun y42 => ?_)
    exact ao_jI F0 (hk120 _ _ _ _ _ _ _ (F0.cl) Cv0)
theorem av_mSide_tries_b120_lp {C : Nat → Prop} (n : Nat) : ∀ {v0 : Nat} {v2 : Nat} {v3 : Int} {v4 : Int} {v5 : Int} {v7 : Int} {h : Hp}, Cl C h → C v0 → Ao (qI C h) (f_mSide_tries_b120_lp n v0 v2 v3 v4 v5 v7 h) := by
  induction n with
  | zero => intros; exact ao_no
  | succ n ih => intro v0 v2 v3 v4 v5 v7 h c Cv0; exact av_mSide_tries_b120 (fun _ _ _ _ _ _ h => ih) c Cv0
theorem av_mSide_tries_b58 {C : Nat → Prop} {k58 : Nat → Nat → Nat → Int → Hp → Option (Int × Hp)} (hk58 : ∀ (v0 : Nat) (v1 : Nat) (v2 : Nat) (v3 : Int) (h : Hp), Cl C h → C v0 → Ao (qI C h) (k58 v0 v1 v2 v3 h)) {v0 : Nat} {v1 : Nat} {v2 : Nat} {v3 : Int} {h : Hp} (c : Cl C h) (Cv0 : C v0) : Ao (qI C h) (f_mSide_tries_b58 k58 v0 v1 v2 v3 h) := by
  unfold f_mSide_tries_b58
  have F0 := Av.rf c
  refine ao_it ao_no ?_
  refine ao_it ?_ ao_no
  refine ao_it ?_ ?_
  · refine ao_it ?_ ao_no
    refine ao_it ?_ ao_no
    refine ao_v (fun y18 => ?_)
    refine ao_it ao_no ?_
    refine ao_b2 F0 (av_mSeals_shield (F0.cl) (F0.cl.r Cv0) (F0.cl.r Cv0)) (fun r22 h20 F2 => ?_)
    exact ao_jI F2 (av_mSide_tries_b120_lp FU (F2.cl) Cv0)
  · refine ao_it ?_ ao_no
    refine ao_it ao_no ?_
    refine ao_it ?_ ao_no
    refine ao_it ao_no ?_
    refine ao_it ?_ ao_no
    refine ao_I F0 (F0.cl.r Cv0) (fun h28 F3 => ?_)
    exact ao_jI F3 (hk58 _ _ _ _ _ (F3.cl) Cv0)
theorem av_mSide_tries_b58_lp {C : Nat → Prop} (n : Nat) : ∀ {v0 : Nat} {v1 : Nat} {v2 : Nat} {v3 : Int} {h : Hp}, Cl C h → C v0 → Ao (qI C h) (f_mSide_tries_b58_lp n v0 v1 v2 v3 h) := by
  induction n with
  | zero => intros; exact ao_no
  | succ n ih => intro v0 v1 v2 v3 h c Cv0; exact av_mSide_tries_b58 (fun _ _ _ _ h => ih) c Cv0
theorem av_mSide_tries {C : Nat → Prop} {v0 : Nat} {v1 : Nat} {v2 : Nat} {h : Hp} (c : Cl C h) (Cv0 : C v0) : Ao (qI C h) (f_mSide_tries v0 v1 v2 h) := by
  unfold f_mSide_tries
  have F0 := Av.rf c
  refine ao_it ao_no ?_
  refine ao_it ?_ ao_no
  refine ao_it ao_no ?_
  refine ao_b1 F0 (av_mGreet_firstSecrets (F0.cl) (F0.cl.r Cv0) (F0.cl.r Cv0)) (fun h4 F1 => ?_)
  refine ao_it ao_no ?_
  refine ao_b1 F1 (av_mSeals_arm (F1.cl) (F1.cl.r Cv0) (F1.cl.r Cv0)) (fun h7 F2 => ?_)
  refine ao_it ao_no ?_
  refine ao_b1 F2 (av_mSeals_arm (F2.cl) (F2.cl.r Cv0) (F2.cl.r Cv0)) (fun h10 F3 => ?_)
  refine ao_it ?_ ao_no
  refine ao_v (fun y13 => ?_)
  exact ao_jI F3 (av_mSide_tries_b58_lp FU (F3.cl) Cv0)
theorem av_mSide_isName_b47 {C : Nat → Prop} {k16 : Nat → Nat → Int → Nat → Int → Int → Hp → Option (Int × Hp)} (hk16 : ∀ (v0 : Nat) (v1 : Nat) (v2 : Int) (v4 : Nat) (v5 : Int) (v6 : Int) (h : Hp), Cl C h → Ao (qI C h) (k16 v0 v1 v2 v4 v5 v6 h)) {v0 : Nat} {v1 : Nat} {v2 : Int} {v4 : Nat} {v6 : Int} {s0 : Int} {h : Hp} (c : Cl C h) : Ao (qI C h) (f_mSide_isName_b47 k16 v0 v1 v2 v4 v6 s0 h) := by
  unfold f_mSide_isName_b47
  have F0 := Av.rf c
  exact ao_jI F0 (hk16 _ _ _ _ _ _ _ (F0.cl))
theorem av_mSide_isName_b16 {C : Nat → Prop} {k16 : Nat → Nat → Int → Nat → Int → Int → Hp → Option (Int × Hp)} (hk16 : ∀ (v0 : Nat) (v1 : Nat) (v2 : Int) (v4 : Nat) (v5 : Int) (v6 : Int) (h : Hp), Cl C h → Ao (qI C h) (k16 v0 v1 v2 v4 v5 v6 h)) {v0 : Nat} {v1 : Nat} {v2 : Int} {v4 : Nat} {v5 : Int} {v6 : Int} {h : Hp} (c : Cl C h) : Ao (qI C h) (f_mSide_isName_b16 k16 v0 v1 v2 v4 v5 v6 h) := by
  unfold f_mSide_isName_b16
  have F0 := Av.rf c
  refine ao_it ?_ ?_
  · refine ao_it ?_ ao_no
    exact ao_so F0
  · refine ao_it ?_ ?_
    · refine ao_it ?_ ao_no
      exact ao_so F0
    · refine ao_it ao_no ?_
      refine ao_it ?_ ao_no
      refine ao_it ao_no ?_
      refine ao_it ?_ ao_no
      refine ao_it ?_ ?_
      · exact ao_jI F0 (av_mSide_isName_b47 hk16 (F0.cl))
      · exact ao_jI F0 (av_mSide_isName_b47 hk16 (F0.cl))
theorem av_mSide_isName_b16_lp {C : Nat → Prop} (n : Nat) : ∀ {v0 : Nat} {v1 : Nat} {v2 : Int} {v4 : Nat} {v5 : Int} {v6 : Int} {h : Hp}, Cl C h → Ao (qI C h) (f_mSide_isName_b16_lp n v0 v1 v2 v4 v5 v6 h) := by
  induction n with
  | zero => intros; exact ao_no
  | succ n ih => intro v0 v1 v2 v4 v5 v6 h c; exact av_mSide_isName_b16 (fun _ _ _ _ _ _ h => ih) c
theorem av_mSide_isName_b11 {C : Nat → Prop} {v0 : Nat} {v1 : Nat} {v2 : Int} {v4 : Nat} {s0 : Int} {h : Hp} (c : Cl C h) : Ao (qI C h) (f_mSide_isName_b11 v0 v1 v2 v4 s0 h) := by
  unfold f_mSide_isName_b11
  have F0 := Av.rf c
  exact ao_jI F0 (av_mSide_isName_b16_lp FU (F0.cl))
theorem av_mSide_isName {C : Nat → Prop} {v0 : Nat} {v1 : Nat} {v2 : Int} {v3 : Int} {v4 : Nat} {h : Hp} (c : Cl C h) : Ao (qI C h) (f_mSide_isName v0 v1 v2 v3 v4 h) := by
  unfold f_mSide_isName
  have F0 := Av.rf c
  refine ao_it ?_ ?_
  · exact ao_jI F0 (av_mSide_isName_b11 (F0.cl))
  · exact ao_jI F0 (av_mSide_isName_b11 (F0.cl))
theorem av_mSide_hasGuards {C : Nat → Prop} {v0 : Nat} {v1 : Int} {h : Hp} (c : Cl C h) : Ao (qI C h) (f_mSide_hasGuards v0 v1 h) := by
  unfold f_mSide_hasGuards
  have F0 := Av.rf c
  refine ao_it ao_no ?_
  refine ao_it ?_ ao_no
  refine ao_it ?_ ?_
  · exact ao_so F0
  · refine ao_it ao_no ?_
    refine ao_it ao_no ?_
    refine ao_it ?_ ao_no
    refine ao_it ?_ ?_
    · exact ao_so F0
    · exact ao_so F0
theorem av_mBook_greatest {C : Nat → Prop} {v0 : Nat} {v1 : Int} {h : Hp} (c : Cl C h) : Ao (qI C h) (f_mBook_greatest v0 v1 h) := by
  unfold f_mBook_greatest
  have F0 := Av.rf c
  refine ao_it ao_no ?_
  refine ao_it ?_ ao_no
  refine ao_it ?_ ?_
  · refine ao_it ?_ ao_no
    refine ao_it ao_no ?_
    refine ao_it ?_ ao_no
    exact ao_so F0
  · exact ao_so F0
theorem av_mBook_isOld_b74 {C : Nat → Prop} {k24 : Nat → Int → Int → Int → Int → Hp → Option (Int × Hp)} (hk24 : ∀ (v0 : Nat) (v1 : Int) (v2 : Int) (v4 : Int) (v5 : Int) (h : Hp), Cl C h → Ao (qI C h) (k24 v0 v1 v2 v4 v5 h)) {v0 : Nat} {v1 : Int} {v2 : Int} {v5 : Int} {s0 : Int} {h : Hp} (c : Cl C h) : Ao (qI C h) (f_mBook_isOld_b74 k24 v0 v1 v2 v5 s0 h) := by
  unfold f_mBook_isOld_b74
  have F0 := Av.rf c
  exact ao_jI F0 (hk24 _ _ _ _ _ _ (F0.cl))
theorem av_mBook_isOld_b69 {C : Nat → Prop} {k24 : Nat → Int → Int → Int → Int → Hp → Option (Int × Hp)} (hk24 : ∀ (v0 : Nat) (v1 : Int) (v2 : Int) (v4 : Int) (v5 : Int) (h : Hp), Cl C h → Ao (qI C h) (k24 v0 v1 v2 v4 v5 h)) {v0 : Nat} {v1 : Int} {v2 : Int} {v5 : Int} {h : Hp} (c : Cl C h) : Ao (qI C h) (f_mBook_isOld_b69 k24 v0 v1 v2 v5 h) := by
  unfold f_mBook_isOld_b69
  have F0 := Av.rf c
  exact ao_jI F0 (av_mBook_isOld_b74 hk24 (F0.cl))
theorem av_mBook_isOld_b73 {C : Nat → Prop} {k24 : Nat → Int → Int → Int → Int → Hp → Option (Int × Hp)} (hk24 : ∀ (v0 : Nat) (v1 : Int) (v2 : Int) (v4 : Int) (v5 : Int) (h : Hp), Cl C h → Ao (qI C h) (k24 v0 v1 v2 v4 v5 h)) {v0 : Nat} {v1 : Int} {v2 : Int} {v5 : Int} {h : Hp} (c : Cl C h) : Ao (qI C h) (f_mBook_isOld_b73 k24 v0 v1 v2 v5 h) := by
  unfold f_mBook_isOld_b73
  have F0 := Av.rf c
  exact ao_jI F0 (av_mBook_isOld_b74 hk24 (F0.cl))
theorem av_mBook_isOld_b24 {C : Nat → Prop} {k24 : Nat → Int → Int → Int → Int → Hp → Option (Int × Hp)} (hk24 : ∀ (v0 : Nat) (v1 : Int) (v2 : Int) (v4 : Int) (v5 : Int) (h : Hp), Cl C h → Ao (qI C h) (k24 v0 v1 v2 v4 v5 h)) {v0 : Nat} {v1 : Int} {v2 : Int} {v4 : Int} {v5 : Int} {h : Hp} (c : Cl C h) : Ao (qI C h) (f_mBook_isOld_b24 k24 v0 v1 v2 v4 v5 h) := by
  unfold f_mBook_isOld_b24
  have F0 := Av.rf c
  refine ao_it ao_no ?_
  refine ao_it ?_ ao_no
  refine ao_it ?_ ?_
  · refine ao_it ?_ ao_no
    exact ao_so F0
  · refine ao_it ?_ ?_
    · exact ao_jI F0 (av_mBook_isOld_b69 hk24 (F0.cl))
    · refine ao_it ao_no ?_
      refine ao_it ?_ ao_no
      refine ao_it ?_ ?_
      · exact ao_jI F0 (av_mBook_isOld_b73 hk24 (F0.cl))
      · refine ao_it ao_no ?_
        refine ao_it ?_ ao_no
        refine ao_it ?_ ?_
        · exact ao_jI F0 (av_mBook_isOld_b73 hk24 (F0.cl))
        · exact ao_jI F0 (av_mBook_isOld_b69 hk24 (F0.cl))
theorem av_mBook_isOld_b24_lp {C : Nat → Prop} (n : Nat) : ∀ {v0 : Nat} {v1 : Int} {v2 : Int} {v4 : Int} {v5 : Int} {h : Hp}, Cl C h → Ao (qI C h) (f_mBook_isOld_b24_lp n v0 v1 v2 v4 v5 h) := by
  induction n with
  | zero => intros; exact ao_no
  | succ n ih => intro v0 v1 v2 v4 v5 h c; exact av_mBook_isOld_b24 (fun _ _ _ _ _ h => ih) c
theorem av_mBook_isOld_b16 {C : Nat → Prop} {v0 : Nat} {v1 : Int} {v2 : Int} {s0 : Int} {h : Hp} (c : Cl C h) : Ao (qI C h) (f_mBook_isOld_b16 v0 v1 v2 s0 h) := by
  unfold f_mBook_isOld_b16
  have F0 := Av.rf c
  refine ao_v (fun y3 => ?_)
  exact ao_jI F0 (av_mBook_isOld_b24_lp FU (F0.cl))
theorem av_mBook_isOld {C : Nat → Prop} {v0 : Nat} {v1 : Int} {v2 : Int} {h : Hp} (c : Cl C h) : Ao (qI C h) (f_mBook_isOld v0 v1 v2 h) := by
  unfold f_mBook_isOld
  have F0 := Av.rf c
  refine ao_it ao_no ?_
  refine ao_it ?_ ao_no
  refine ao_it ?_ ?_
  · exact ao_jI F0 (av_mBook_isOld_b16 (F0.cl))
  · exact ao_jI F0 (av_mBook_isOld_b16 (F0.cl))
theorem av_mBook_discard {C : Nat → Prop} {v0 : Nat} {v1 : Int} {h : Hp} (c : Cl C h) (Cv0 : C v0) : Ao (qV C h) (f_mBook_discard v0 v1 h) := by
  unfold f_mBook_discard
  have F0 := Av.rf c
  refine ao_it ao_no ?_
  refine ao_it ?_ ao_no
  refine ao_I F0 (F0.cl.r Cv0) (fun h3 F1 => ?_)
  refine ao_it ao_no ?_
  refine ao_it ?_ ao_no
  refine ao_I F1 (F1.cl.r Cv0) (fun h6 F2 => ?_)
  refine ao_it ao_no ?_
  refine ao_it ?_ ao_no
  refine ao_it ao_no ?_
  refine ao_it ?_ ao_no
  refine ao_I F2 (F2.cl.r Cv0) (fun h11 F3 => ?_)
  refine ao_it ao_no ?_
  refine ao_it ?_ ao_no
  refine ao_it ao_no ?_
  refine ao_it ?_ ao_no
  refine ao_I F3 (F3.cl.r Cv0) (fun h16 F4 => ?_)
  refine ao_it ao_no ?_
  refine ao_it ?_ ao_no
  refine ao_I F4 (F4.cl.r Cv0) (fun h19 F5 => ?_)
  refine ao_it ao_no ?_
  refine ao_it ?_ ao_no
  refine ao_J F5 (F5.cl.r Cv0) (fun h22 F6 => ?_)
  refine ao_it ao_no ?_
  refine ao_it ?_ ao_no
  refine ao_I F6 (F6.cl.r Cv0) (fun h25 F7 => ?_)
  refine ao_it ao_no ?_
  refine ao_it ?_ ao_no
  refine ao_I F7 (F7.cl.r Cv0) (fun h28 F8 => ?_)
  refine ao_I F8 Cv0 (fun h29 F9 => ?_)
  exact ao_so F9
theorem av_mSide_discard {C : Nat → Prop} {v0 : Nat} {v1 : Int} {h : Hp} (c : Cl C h) (Cv0 : C v0) : Ao (qV C h) (f_mSide_discard v0 v1 h) := by
  unfold f_mSide_discard
  have F0 := Av.rf c
  refine ao_it ao_no ?_
  refine ao_it ao_no ?_
  refine ao_it ?_ ao_no
  refine ao_it ?_ ?_
  · refine ao_b1 F0 (av_mBook_discard (F0.cl) (F0.cl.r Cv0)) (fun h4 F1 => ?_)
    refine ao_it ao_no ?_
    refine ao_it ?_ ao_no
    refine ao_I F1 (F1.cl.r Cv0) (fun h8 F2 => ?_)
    exact ao_so F2
  · exact ao_so F0
theorem av_mSide_opened_b77 {C : Nat → Prop} {v0 : Nat} {v3 : Int} {h : Hp} (c : Cl C h) (Cv0 : C v0) : Ao (qV C h) (f_mSide_opened_b77 v0 v3 h) := by
  unfold f_mSide_opened_b77
  have F0 := Av.rf c
  refine ao_it ao_no ?_
  refine ao_I F0 Cv0 (fun h11 F1 => ?_)
  refine ao_I F1 Cv0 (fun h12 F2 => ?_)
  refine ao_it ?_ ?_
  · exact ao_so F2
  · refine ao_it ?_ ?_
    · refine ao_I F2 Cv0 (fun h13 F3 => ?_)
      refine ao_b1 F3 (av_mSide_discard (F3.cl) Cv0) (fun h14 F4 => ?_)
      exact ao_so F4
    · exact ao_so F2
theorem av_mSide_opened_b46 {C : Nat → Prop} {k46 : Nat → Nat → Nat → Int → Int → Hp → Option (Hp)} (hk46 : ∀ (v0 : Nat) (v1 : Nat) (v2 : Nat) (v3 : Int) (v4 : Int) (h : Hp), Cl C h → C v0 → Ao (qV C h) (k46 v0 v1 v2 v3 v4 h)) {v0 : Nat} {v1 : Nat} {v2 : Nat} {v3 : Int} {v4 : Int} {h : Hp} (c : Cl C h) (Cv0 : C v0) : Ao (qV C h) (f_mSide_opened_b46 k46 v0 v1 v2 v3 v4 h) := by
  unfold f_mSide_opened_b46
  have F0 := Av.rf c
  refine ao_it ?_ ?_
  · exact ao_jV F0 (av_mSide_opened_b77 (F0.cl) Cv0)
  · refine ao_it ao_no ?_
    refine ao_it ?_ ao_no
    refine ao_it ao_no ?_
    refine ao_it ?_ ao_no
    refine ao_it ao_no ?_
    refine ao_it ?_ ao_no
    refine ao_I F0 (F0.cl.r Cv0) (fun h22 F1 => ?_)
    exact ao_jV F1 (hk46 _ _ _ _ _ _ (F1.cl) Cv0)
theorem av_mSide_opened_b46_lp {C : Nat → Prop} (n : Nat) : ∀ {v0 : Nat} {v1 : Nat} {v2 : Nat} {v3 : Int} {v4 : Int} {h : Hp}, Cl C h → C v0 → Ao (qV C h) (f_mSide_opened_b46_lp n v0 v1 v2 v3 v4 h) := by
  induction n with
  | zero => intros; exact ao_no
  | succ n ih => intro v0 v1 v2 v3 v4 h c Cv0; exact av_mSide_opened_b46 (fun _ _ _ _ _ h => ih) c Cv0
theorem av_mSide_opened_b16 {C : Nat → Prop} {v0 : Nat} {v1 : Nat} {v2 : Nat} {v3 : Int} {h : Hp} (c : Cl C h) (Cv0 : C v0) : Ao (qV C h) (f_mSide_opened_b16 v0 v1 v2 v3 h) := by
  unfold f_mSide_opened_b16
  have F0 := Av.rf c
  refine ao_it ?_ ?_
  · exact ao_jV F0 (av_mSide_opened_b77 (F0.cl) Cv0)
  · refine ao_it ao_no ?_
    refine ao_it ?_ ao_no
    refine ao_it ?_ ?_
    · exact ao_jV F0 (av_mSide_opened_b77 (F0.cl) Cv0)
    · refine ao_I F0 Cv0 (fun h7 F1 => ?_)
      refine ao_it ?_ ao_no
      refine ao_I F1 Cv0 (fun h9 F2 => ?_)
      exact ao_jV F2 (av_mSide_opened_b46_lp FU (F2.cl) Cv0)
theorem av_mSide_opened {C : Nat → Prop} {v0 : Nat} {v1 : Nat} {v2 : Nat} {v3 : Int} {h : Hp} (c : Cl C h) (Cv0 : C v0) : Ao (qV C h) (f_mSide_opened v0 v1 v2 v3 h) := by
  unfold f_mSide_opened
  have F0 := Av.rf c
  refine ao_it ?_ ?_
  · exact ao_jV F0 (av_mSide_opened_b16 (F0.cl) Cv0)
  · refine ao_it ao_no ?_
    refine ao_it ?_ ao_no
    refine ao_b1 F0 (av_mSide_begin (F0.cl) Cv0) (fun h3 F1 => ?_)
    exact ao_jV F1 (av_mSide_opened_b16 (F1.cl) Cv0)
theorem av_mWire_takeAck_b96 {C : Nat → Prop} {k96 : Nat → Int → Int → Hp → Option (Hp)} (hk96 : ∀ (v0 : Nat) (v1 : Int) (v4 : Int) (h : Hp), Cl C h → C v0 → Ao (qV C h) (k96 v0 v1 v4 h)) {v0 : Nat} {v1 : Int} {v4 : Int} {h : Hp} (c : Cl C h) (Cv0 : C v0) : Ao (qV C h) (f_mWire_takeAck_b96 k96 v0 v1 v4 h) := by
  unfold f_mWire_takeAck_b96
  have F0 := Av.rf c
  refine ao_it ?_ ?_
  · exact ao_so F0
  · refine ao_it ?_ ?_
    · exact ao_so F0
    · refine ao_b2 F0 (av_mWire_takeNumber (F0.cl) Cv0) (fun r31 h29 F1 => ?_)
      exact ao_jV F1 (hk96 _ _ _ _ (F1.cl) Cv0)
theorem av_mWire_takeAck_b96_lp {C : Nat → Prop} (n : Nat) : ∀ {v0 : Nat} {v1 : Int} {v4 : Int} {h : Hp}, Cl C h → C v0 → Ao (qV C h) (f_mWire_takeAck_b96_lp n v0 v1 v4 h) := by
  induction n with
  | zero => intros; exact ao_no
  | succ n ih => intro v0 v1 v4 h c Cv0; exact av_mWire_takeAck_b96 (fun _ _ _ h => ih) c Cv0
theorem av_mWire_takeAck_b90 {C : Nat → Prop} {v0 : Nat} {v1 : Int} {s0 : Nat} {s1 : Int} {h : Hp} (c : Cl C h) (Cv0 : C v0) (Cs0 : C s0) : Ao (qV C h) (f_mWire_takeAck_b90 v0 v1 s0 s1 h) := by
  unfold f_mWire_takeAck_b90
  have F0 := Av.rf c
  refine ao_it ao_no ?_
  refine ao_I F0 Cs0 (fun h28 F1 => ?_)
  exact ao_jV F1 (av_mWire_takeAck_b96_lp FU (F1.cl) Cv0)
theorem av_mWire_takeAck_b74 {C : Nat → Prop} {v0 : Nat} {v1 : Int} {v2 : Int} {h : Hp} (c : Cl C h) (Cv0 : C v0) : Ao (qV C h) (f_mWire_takeAck_b74 v0 v1 v2 h) := by
  unfold f_mWire_takeAck_b74
  have F0 := Av.rf c
  refine ao_it ?_ ?_
  · exact ao_jV F0 (av_mWire_takeAck_b90 (F0.cl) Cv0 Cv0)
  · exact ao_jV F0 (av_mWire_takeAck_b90 (F0.cl) Cv0 Cv0)
theorem av_mWire_takeAck_b41 {C : Nat → Prop} {k41 : Nat → Int → Int → Int → Hp → Option (Hp)} (hk41 : ∀ (v0 : Nat) (v1 : Int) (v2 : Int) (v4 : Int) (h : Hp), Cl C h → C v0 → Ao (qV C h) (k41 v0 v1 v2 v4 h)) {v0 : Nat} {v1 : Int} {v2 : Int} {v4 : Int} {h : Hp} (c : Cl C h) (Cv0 : C v0) : Ao (qV C h) (f_mWire_takeAck_b41 k41 v0 v1 v2 v4 h) := by
  unfold f_mWire_takeAck_b41
  have F0 := Av.rf c
  refine ao_it ?_ ?_
  · exact ao_jV F0 (av_mWire_takeAck_b74 (F0.cl) Cv0)
  · refine ao_it ?_ ?_
    · exact ao_jV F0 (av_mWire_takeAck_b74 (F0.cl) Cv0)
    · refine ao_b2 F0 (av_mWire_takeNumber (F0.cl) Cv0) (fun r22 h20 F1 => ?_)
      refine ao_b2 F1 (av_mWire_takeNumber (F1.cl) Cv0) (fun r25 h23 F2 => ?_)
      refine ao_v (fun y26 => ?_)
      exact ao_jV F2 (hk41 _ _ _ _ _ (F2.cl) Cv0)
theorem av_mWire_takeAck_b41_lp {C : Nat → Prop} (n : Nat) : ∀ {v0 : Nat} {v1 : Int} {v2 : Int} {v4 : Int} {h : Hp}, Cl C h → C v0 → Ao (qV C h) (f_mWire_takeAck_b41_lp n v0 v1 v2 v4 h) := by
  induction n with
  | zero => intros; exact ao_no
  | succ n ih => intro v0 v1 v2 v4 h c Cv0; exact av_mWire_takeAck_b41 (fun _ _ _ _ h => ih) c Cv0
theorem av_mWire_takeAck {C : Nat → Prop} {v0 : Nat} {v1 : Int} {h : Hp} (c : Cl C h) (Cv0 : C v0) : Ao (qV C h) (f_mWire_takeAck v0 v1 h) := by
  unfold f_mWire_takeAck
  have F0 := Av.rf c
  refine ao_b2 F0 (av_mWire_takeNumber (F0.cl) Cv0) (fun r3 h1 F1 => ?_)
  refine ao_it ao_no ?_
  refine ao_it ?_ ao_no
  refine ao_J F1 (F0.cl.r Cv0) (fun h6 F2 => ?_)
  refine ao_b2 F2 (av_mWire_takeNumber (F2.cl) Cv0) (fun r9 h7 F3 => ?_)
  refine ao_it ao_no ?_
  refine ao_it ?_ ao_no
  refine ao_J F3 (F2.cl.r Cv0) (fun h12 F4 => ?_)
  refine ao_b2 F4 (av_mWire_takeNumber (F4.cl) Cv0) (fun r15 h13 F5 => ?_)
  refine ao_I F5 Cv0 (fun h16 F6 => ?_)
  refine ao_b2 F6 (av_mWire_takeNumber (F6.cl) Cv0) (fun r19 h17 F7 => ?_)
  exact ao_jV F7 (av_mWire_takeAck_b41_lp FU (F7.cl) Cv0)
theorem av_mWire_takeData_b23 {C : Nat → Prop} {v0 : Nat} {s0 : Nat} {s1 : Int} {h : Hp} (c : Cl C h) (Cs0 : C s0) : Ao (qV C h) (f_mWire_takeData_b23 v0 s0 s1 h) := by
  unfold f_mWire_takeData_b23
  have F0 := Av.rf c
  refine ao_it ao_no ?_
  refine ao_I F0 Cs0 (fun h6 F1 => ?_)
  exact ao_so F1
theorem av_mWire_takeData {C : Nat → Prop} {v0 : Nat} {v1 : Int} {h : Hp} (c : Cl C h) (Cv0 : C v0) : Ao (qV C h) (f_mWire_takeData v0 v1 h) := by
  unfold f_mWire_takeData
  have F0 := Av.rf c
  refine ao_b2 F0 (av_mWire_pass (F0.cl) Cv0) (fun r3 h1 F1 => ?_)
  refine ao_I F1 Cv0 (fun h4 F2 => ?_)
  refine ao_it ?_ ?_
  · exact ao_jV F2 (av_mWire_takeData_b23 (F2.cl) Cv0)
  · exact ao_jV F2 (av_mWire_takeData_b23 (F2.cl) Cv0)
theorem av_mWire_takeStream_b93 {C : Nat → Prop} {v0 : Nat} {s0 : Nat} {s1 : Int} {h : Hp} (c : Cl C h) (Cs0 : C s0) : Ao (qV C h) (f_mWire_takeStream_b93 v0 s0 s1 h) := by
  unfold f_mWire_takeStream_b93
  have F0 := Av.rf c
  refine ao_it ao_no ?_
  refine ao_b1 F0 (av_mWire_takeData (F0.cl) Cs0) (fun h25 F1 => ?_)
  exact ao_so F1
theorem av_mWire_takeStream_b51 {C : Nat → Prop} {v0 : Nat} {s0 : Nat} {s1 : Int} {s2 : Int} {h : Hp} (c : Cl C h) (Cv0 : C v0) (Cs0 : C s0) : Ao (qV C h) (f_mWire_takeStream_b51 v0 s0 s1 s2 h) := by
  unfold f_mWire_takeStream_b51
  have F0 := Av.rf c
  refine ao_it ao_no ?_
  refine ao_it ?_ ao_no
  refine ao_J F0 Cs0 (fun h18 F1 => ?_)
  refine ao_it ao_no ?_
  refine ao_it ?_ ao_no
  refine ao_it ?_ ?_
  · refine ao_it ?_ ?_
    · exact ao_jV F1 (av_mWire_takeStream_b93 (F1.cl) Cv0)
    · exact ao_jV F1 (av_mWire_takeStream_b93 (F1.cl) Cv0)
  · refine ao_b2 F1 (av_mWire_takeNumber (F1.cl) Cv0) (fun r23 h21 F2 => ?_)
    exact ao_jV F2 (av_mWire_takeStream_b93 (F2.cl) Cv0)
theorem av_mWire_takeStream {C : Nat → Prop} {v0 : Nat} {v1 : Int} {h : Hp} (c : Cl C h) (Cv0 : C v0) : Ao (qV C h) (f_mWire_takeStream v0 v1 h) := by
  unfold f_mWire_takeStream
  have F0 := Av.rf c
  refine ao_it ao_no ?_
  refine ao_it ?_ ao_no
  refine ao_J F0 (F0.cl.r Cv0) (fun h3 F1 => ?_)
  refine ao_it ao_no ?_
  refine ao_it ?_ ao_no
  refine ao_J F1 (F1.cl.r Cv0) (fun h6 F2 => ?_)
  refine ao_b2 F2 (av_mWire_takeNumber (F2.cl) Cv0) (fun r9 h7 F3 => ?_)
  refine ao_it ao_no ?_
  refine ao_it ?_ ao_no
  refine ao_J F3 (F2.cl.r Cv0) (fun h12 F4 => ?_)
  refine ao_it ?_ ?_
  · exact ao_jV F4 (av_mWire_takeStream_b51 (F4.cl) Cv0 (F4.cl.r Cv0))
  · refine ao_b2 F4 (av_mWire_takeNumber (F4.cl) Cv0) (fun r15 h13 F5 => ?_)
    exact ao_jV F5 (av_mWire_takeStream_b51 (F5.cl) Cv0 (F4.cl.r Cv0))
theorem av_mWire_fields_b152 {C : Nat → Prop} {v0 : Int} {h : Hp} (c : Cl C h) : Ao (qI C h) (f_mWire_fields_b152 v0 h) := by
  unfold f_mWire_fields_b152
  have F0 := Av.rf c
  refine ao_it ?_ ?_
  · exact ao_so F0
  · refine ao_it ?_ ?_
    · exact ao_so F0
    · exact ao_so F0
theorem av_mWire_fields {C : Nat → Prop} {v0 : Int} {h : Hp} (c : Cl C h) : Ao (qI C h) (f_mWire_fields v0 h) := by
  unfold f_mWire_fields
  have F0 := Av.rf c
  refine ao_it ?_ ?_
  · exact ao_so F0
  · refine ao_it ?_ ?_
    · exact ao_so F0
    · refine ao_it ?_ ?_
      · exact ao_so F0
      · refine ao_it ?_ ?_
        · exact ao_so F0
        · refine ao_it ?_ ?_
          · exact ao_jI F0 (av_mWire_fields_b152 (F0.cl))
          · refine ao_it ?_ ?_
            · exact ao_jI F0 (av_mWire_fields_b152 (F0.cl))
            · refine ao_it ?_ ?_
              · exact ao_jI F0 (av_mWire_fields_b152 (F0.cl))
              · refine ao_it ?_ ?_
                · exact ao_jI F0 (av_mWire_fields_b152 (F0.cl))
                · refine ao_it ?_ ?_
                  · exact ao_jI F0 (av_mWire_fields_b152 (F0.cl))
                  · refine ao_it ?_ ?_
                    · exact ao_jI F0 (av_mWire_fields_b152 (F0.cl))
                    · refine ao_it ?_ ?_
                      · exact ao_jI F0 (av_mWire_fields_b152 (F0.cl))
                      · refine ao_it ?_ ?_
                        · exact ao_jI F0 (av_mWire_fields_b152 (F0.cl))
                        · refine ao_it ?_ ?_
                          · exact ao_jI F0 (av_mWire_fields_b152 (F0.cl))
                          · refine ao_it ?_ ?_
                            · exact ao_so F0
                            · refine ao_it ?_ ?_
                              · exact ao_jI F0 (av_mWire_fields_b152 (F0.cl))
                              · refine ao_it ?_ ?_
                                · exact ao_jI F0 (av_mWire_fields_b152 (F0.cl))
                                · refine ao_it ?_ ?_
                                  · exact ao_jI F0 (av_mWire_fields_b152 (F0.cl))
                                  · refine ao_it ?_ ?_
                                    · exact ao_so F0
                                    · refine ao_it ?_ ?_
                                      · exact ao_jI F0 (av_mWire_fields_b152 (F0.cl))
                                      · refine ao_it ?_ ?_
                                        · exact ao_jI F0 (av_mWire_fields_b152 (F0.cl))
                                        · refine ao_it ?_ ?_
                                          · exact ao_so F0
                                          · refine ao_it ?_ ?_
                                            · exact ao_jI F0 (av_mWire_fields_b152 (F0.cl))
                                            · refine ao_it ?_ ?_
                                              · exact ao_so F0
                                              · refine ao_it ?_ ?_
                                                · exact ao_so F0
                                                · refine ao_it ?_ ?_
                                                  · exact ao_so F0
                                                  · refine ao_it ?_ ?_
                                                    · exact ao_so F0
                                                    · exact ao_jI F0 (av_mWire_fields_b152 (F0.cl))
theorem av_mWire_takeFields_b62 {C : Nat → Prop} {k5 : Nat → Int → Hp → Option (Hp)} (hk5 : ∀ (v0 : Nat) (v2 : Int) (h : Hp), Cl C h → C v0 → Ao (qV C h) (k5 v0 v2 h)) {v0 : Nat} {v2 : Int} {h : Hp} (c : Cl C h) (Cv0 : C v0) : Ao (qV C h) (f_mWire_takeFields_b62 k5 v0 v2 h) := by
  unfold f_mWire_takeFields_b62
  have F0 := Av.rf c
  refine ao_v (fun y22 => ?_)
  exact ao_jV F0 (hk5 _ _ _ (F0.cl) Cv0)
theorem av_mWire_takeFields_b5 {C : Nat → Prop} {k5 : Nat → Int → Hp → Option (Hp)} (hk5 : ∀ (v0 : Nat) (v2 : Int) (h : Hp), Cl C h → C v0 → Ao (qV C h) (k5 v0 v2 h)) {v0 : Nat} {v2 : Int} {h : Hp} (c : Cl C h) (Cv0 : C v0) : Ao (qV C h) (f_mWire_takeFields_b5 k5 v0 v2 h) := by
  unfold f_mWire_takeFields_b5
  have F0 := Av.rf c
  refine ao_it ?_ ?_
  · exact ao_so F0
  · refine ao_v (fun y4 => ?_)
    refine ao_it ?_ ?_
    · refine ao_it ?_ ?_
      · refine ao_b2 F0 (av_mWire_takeNumber (F0.cl) Cv0) (fun r7 h5 F2 => ?_)
        refine ao_it ao_no ?_
        refine ao_it ?_ ao_no
        refine ao_J F2 (F0.cl.r Cv0) (fun h10 F3 => ?_)
        exact ao_jV F3 (av_mWire_takeFields_b62 hk5 (F3.cl) Cv0)
      · refine ao_b2 F0 (av_mWire_takeNumber (F0.cl) Cv0) (fun r13 h11 F4 => ?_)
        refine ao_b1 F4 (av_mWire_takeData (F4.cl) Cv0) (fun h14 F5 => ?_)
        exact ao_jV F5 (av_mWire_takeFields_b62 hk5 (F5.cl) Cv0)
    · refine ao_b2 F0 (av_mWire_take (F0.cl) Cv0) (fun r18 h16 F6 => ?_)
      refine ao_it ao_no ?_
      refine ao_it ?_ ao_no
      refine ao_J F6 (F0.cl.r Cv0) (fun h21 F7 => ?_)
      exact ao_jV F7 (av_mWire_takeFields_b62 hk5 (F7.cl) Cv0)
theorem av_mWire_takeFields_b5_lp {C : Nat → Prop} (n : Nat) : ∀ {v0 : Nat} {v2 : Int} {h : Hp}, Cl C h → C v0 → Ao (qV C h) (f_mWire_takeFields_b5_lp n v0 v2 h) := by
  induction n with
  | zero => intros; exact ao_no
  | succ n ih => intro v0 v2 h c Cv0; exact av_mWire_takeFields_b5 (fun _ _ h => ih) c Cv0
theorem av_mWire_takeFields {C : Nat → Prop} {v0 : Nat} {v1 : Int} {h : Hp} (c : Cl C h) (Cv0 : C v0) : Ao (qV C h) (f_mWire_takeFields v0 v1 h) := by
  unfold f_mWire_takeFields
  have F0 := Av.rf c
  refine ao_b2 F0 (av_mWire_fields (F0.cl)) (fun r3 h1 F1 => ?_)
  exact ao_jV F1 (av_mWire_takeFields_b5_lp FU (F1.cl) Cv0)
theorem av_mWire_takeRest_b7 {C : Nat → Prop} {k7 : Nat → Hp → Option (Hp)} (hk7 : ∀ (v0 : Nat) (h : Hp), Cl C h → C v0 → Ao (qV C h) (k7 v0 h)) {v0 : Nat} {h : Hp} (c : Cl C h) (Cv0 : C v0) : Ao (qV C h) (f_mWire_takeRest_b7 k7 v0 h) := by
  unfold f_mWire_takeRest_b7
  have F0 := Av.rf c
  refine ao_it ?_ ?_
  · exact ao_so F0
  · refine ao_it ao_no ?_
    refine ao_it ?_ ao_no
    refine ao_it ?_ ?_
    · exact ao_so F0
    · refine ao_I F0 Cv0 (fun h17 F1 => ?_)
      exact ao_jV F1 (hk7 _ _ (F1.cl) Cv0)
theorem av_mWire_takeRest_b7_lp {C : Nat → Prop} (n : Nat) : ∀ {v0 : Nat} {h : Hp}, Cl C h → C v0 → Ao (qV C h) (f_mWire_takeRest_b7_lp n v0 h) := by
  induction n with
  | zero => intros; exact ao_no
  | succ n ih => intro v0 h c Cv0; exact av_mWire_takeRest_b7 (fun _ h => ih) c Cv0
theorem av_mWire_takeRest_b59 {C : Nat → Prop} {v0 : Nat} {h : Hp} (c : Cl C h) (Cv0 : C v0) : Ao (qV C h) (f_mWire_takeRest_b59 v0 h) := by
  unfold f_mWire_takeRest_b59
  have F0 := Av.rf c
  refine ao_b1 F0 (av_mWire_takeAck (F0.cl) Cv0) (fun h13 F1 => ?_)
  exact ao_so F1
theorem av_mWire_takeRest {C : Nat → Prop} {v0 : Nat} {v1 : Int} {h : Hp} (c : Cl C h) (Cv0 : C v0) : Ao (qV C h) (f_mWire_takeRest v0 v1 h) := by
  unfold f_mWire_takeRest
  have F0 := Av.rf c
  refine ao_it ?_ ?_
  · refine ao_it ?_ ?_
    · exact ao_jV F0 (av_mWire_takeRest_b59 (F0.cl) Cv0)
    · refine ao_it ?_ ?_
      · refine ao_it ?_ ?_
        · refine ao_b1 F0 (av_mWire_takeFields (F0.cl) Cv0) (fun h1 F1 => ?_)
          refine ao_it ?_ ?_
          · refine ao_b2 F1 (av_mWire_take (F1.cl) Cv0) (fun r5 h3 F2 => ?_)
            refine ao_b1 F2 (av_mWire_takeData (F2.cl) Cv0) (fun h6 F3 => ?_)
            refine ao_b2 F3 (av_mWire_pass (F3.cl) Cv0) (fun r10 h8 F4 => ?_)
            exact ao_so F4
          · exact ao_so F1
        · refine ao_b1 F0 (av_mWire_takeStream (F0.cl) Cv0) (fun h11 F5 => ?_)
          exact ao_so F5
      · exact ao_jV F0 (av_mWire_takeRest_b59 (F0.cl) Cv0)
  · exact ao_jV F0 (av_mWire_takeRest_b7_lp FU (F0.cl) Cv0)
theorem av_mWire_edge_b79 {C : Nat → Prop} {k33 : Nat → Int → Int → Int → Int → Int → Int → Hp → Option (Int × Hp)} (hk33 : ∀ (v0 : Nat) (v1 : Int) (v2 : Int) (v3 : Int) (v4 : Int) (v6 : Int) (v8 : Int) (h : Hp), Cl C h → C v0 → Ao (qI C h) (k33 v0 v1 v2 v3 v4 v6 v8 h)) {v0 : Nat} {v1 : Int} {v2 : Int} {v3 : Int} {v4 : Int} {v8 : Int} {s0 : Int} {h : Hp} (c : Cl C h) (Cv0 : C v0) : Ao (qI C h) (f_mWire_edge_b79 k33 v0 v1 v2 v3 v4 v8 s0 h) := by
  unfold f_mWire_edge_b79
  have F0 := Av.rf c
  exact ao_jI F0 (hk33 _ _ _ _ _ _ _ _ (F0.cl) Cv0)
theorem av_mWire_edge_b87 {C : Nat → Prop} {v0 : Nat} {v2 : Int} {v3 : Int} {v4 : Int} {v6 : Int} {h : Hp} (c : Cl C h) (Cv0 : C v0) : Ao (qI C h) (f_mWire_edge_b87 v0 v2 v3 v4 v6 h) := by
  unfold f_mWire_edge_b87
  have F0 := Av.rf c
  refine ao_I F0 Cv0 (fun h17 F1 => ?_)
  refine ao_it ?_ ?_
  · refine ao_it ?_ ?_
    · exact ao_so F1
    · exact ao_so F1
  · exact ao_so F1
theorem av_mWire_edge_b33 {C : Nat → Prop} {k33 : Nat → Int → Int → Int → Int → Int → Int → Hp → Option (Int × Hp)} (hk33 : ∀ (v0 : Nat) (v1 : Int) (v2 : Int) (v3 : Int) (v4 : Int) (v6 : Int) (v8 : Int) (h : Hp), Cl C h → C v0 → Ao (qI C h) (k33 v0 v1 v2 v3 v4 v6 v8 h)) {v0 : Nat} {v1 : Int} {v2 : Int} {v3 : Int} {v4 : Int} {v6 : Int} {v8 : Int} {h : Hp} (c : Cl C h) (Cv0 : C v0) : Ao (qI C h) (f_mWire_edge_b33 k33 v0 v1 v2 v3 v4 v6 v8 h) := by
  unfold f_mWire_edge_b33
  have F0 := Av.rf c
  refine ao_it ?_ ?_
  · exact ao_jI F0 (av_mWire_edge_b87 (F0.cl) Cv0)
  · refine ao_it ?_ ?_
    · exact ao_jI F0 (av_mWire_edge_b87 (F0.cl) Cv0)
    · refine ao_b2 F0 (av_mWire_takeNumber (F0.cl) Cv0) (fun r12 h10 F1 => ?_)
      refine ao_v (fun y13 => ?_)
      refine ao_it ?_ ?_
      · refine ao_b2 F1 (av_mWire_takeNumber (F1.cl) Cv0) (fun r16 h14 F3 => ?_)
        exact ao_jI F3 (av_mWire_edge_b79 hk33 (F3.cl) Cv0)
      · exact ao_jI F1 (av_mWire_edge_b79 hk33 (F1.cl) Cv0)
theorem av_mWire_edge_b33_lp {C : Nat → Prop} (n : Nat) : ∀ {v0 : Nat} {v1 : Int} {v2 : Int} {v3 : Int} {v4 : Int} {v6 : Int} {v8 : Int} {h : Hp}, Cl C h → C v0 → Ao (qI C h) (f_mWire_edge_b33_lp n v0 v1 v2 v3 v4 v6 v8 h) := by
  induction n with
  | zero => intros; exact ao_no
  | succ n ih => intro v0 v1 v2 v3 v4 v6 v8 h c Cv0; exact av_mWire_edge_b33 (fun _ _ _ _ _ _ _ h => ih) c Cv0
theorem av_mWire_edge {C : Nat → Prop} {v0 : Nat} {v1 : Int} {v2 : Int} {h : Hp} (c : Cl C h) (Cv0 : C v0) : Ao (qI C h) (f_mWire_edge v0 v1 v2 h) := by
  unfold f_mWire_edge
  have F0 := Av.rf c
  refine ao_v (fun y1 => ?_)
  refine ao_I F0 Cv0 (fun h2 F2 => ?_)
  refine ao_it ao_no ?_
  refine ao_it ?_ ao_no
  refine ao_v (fun y5 => ?_)
  refine ao_b2 F2 (av_mWire_takeNumber (F2.cl) Cv0) (fun r8 h6 F4 => ?_)
  refine ao_v (fun y9 => ?_)
  exact ao_jI F4 (av_mWire_edge_b33_lp FU (F4.cl) Cv0)
theorem av_mWire_isRight_b16 {C : Nat → Prop} {v0 : Nat} {h : Hp} (c : Cl C h) (Cv0 : C v0) : Ao (qI C h) (f_mWire_isRight_b16 v0 h) := by
  unfold f_mWire_isRight_b16
  have F0 := Av.rf c
  refine ao_b2 F0 (av_mWire_edge (F0.cl) Cv0) (fun r10 h8 F1 => ?_)
  refine ao_it ?_ ?_
  · exact ao_so F1
  · exact ao_so F1
theorem av_mWire_isRight_b199 {C : Nat → Prop} {v0 : Nat} {h : Hp} (c : Cl C h) : Ao (qI C h) (f_mWire_isRight_b199 v0 h) := by
  unfold f_mWire_isRight_b199
  have F0 := Av.rf c
  exact ao_so F0
theorem av_mWire_isRight_b180 {C : Nat → Prop} {v0 : Nat} {h : Hp} (c : Cl C h) : Ao (qI C h) (f_mWire_isRight_b180 v0 h) := by
  unfold f_mWire_isRight_b180
  have F0 := Av.rf c
  refine ao_it ao_no ?_
  refine ao_it ?_ ao_no
  refine ao_it ?_ ?_
  · exact ao_so F0
  · exact ao_jI F0 (av_mWire_isRight_b199 (F0.cl))
theorem av_mWire_isRight_b74 {C : Nat → Prop} {v0 : Nat} {h : Hp} (c : Cl C h) : Ao (qI C h) (f_mWire_isRight_b74 v0 h) := by
  unfold f_mWire_isRight_b74
  have F0 := Av.rf c
  refine ao_it ao_no ?_
  refine ao_it ?_ ao_no
  refine ao_it ?_ ?_
  · exact ao_so F0
  · exact ao_so F0
theorem av_mWire_isRight {C : Nat → Prop} {v0 : Nat} {h : Hp} (c : Cl C h) (Cv0 : C v0) : Ao (qI C h) (f_mWire_isRight v0 h) := by
  unfold f_mWire_isRight
  have F0 := Av.rf c
  refine ao_it ?_ ?_
  · exact ao_jI F0 (av_mWire_isRight_b16 (F0.cl) Cv0)
  · refine ao_it ?_ ?_
    · refine ao_it ?_ ?_
      · exact ao_jI F0 (av_mWire_isRight_b74 (F0.cl))
      · refine ao_it ?_ ?_
        · exact ao_jI F0 (av_mWire_isRight_b74 (F0.cl))
        · refine ao_it ?_ ?_
          · exact ao_jI F0 (av_mWire_isRight_b74 (F0.cl))
          · refine ao_it ?_ ?_
            · refine ao_it ?_ ?_
              · refine ao_it ?_ ?_
                · refine ao_it ?_ ?_
                  · exact ao_jI F0 (av_mWire_isRight_b180 (F0.cl))
                  · refine ao_it ?_ ?_
                    · exact ao_jI F0 (av_mWire_isRight_b199 (F0.cl))
                    · exact ao_jI F0 (av_mWire_isRight_b180 (F0.cl))
                · refine ao_it ao_no ?_
                  refine ao_it ?_ ao_no
                  refine ao_it ?_ ao_no
                  refine ao_it ?_ ?_
                  · exact ao_so F0
                  · refine ao_it ?_ ?_
                    · exact ao_so F0
                    · refine ao_it ?_ ?_
                      · exact ao_so F0
                      · exact ao_so F0
              · refine ao_it ?_ ?_
                · exact ao_so F0
                · exact ao_so F0
            · exact ao_jI F0 (av_mWire_isRight_b74 (F0.cl))
    · exact ao_jI F0 (av_mWire_isRight_b16 (F0.cl) Cv0)
theorem av_mWire_read_b105 {C : Nat → Prop} {v0 : Nat} {v2 : Int} {h : Hp} (c : Cl C h) (Cv0 : C v0) : Ao (qI C h) (f_mWire_read_b105 v0 v2 h) := by
  unfold f_mWire_read_b105
  have F0 := Av.rf c
  refine ao_b1 F0 (av_mWire_takeRest (F0.cl) Cv0) (fun h13 F1 => ?_)
  refine ao_it ?_ ?_
  · refine ao_b2 F1 (av_mWire_isRight (F1.cl) Cv0) (fun r17 h15 F2 => ?_)
    refine ao_it ?_ ?_
    · exact ao_so F2
    · exact ao_so F2
  · exact ao_so F1
theorem av_mWire_read_b69 {C : Nat → Prop} {v0 : Nat} {v1 : Int} {v2 : Int} {s0 : Nat} {s1 : Int} {h : Hp} (c : Cl C h) (Cv0 : C v0) (Cs0 : C s0) : Ao (qI C h) (f_mWire_read_b69 v0 v1 v2 s0 s1 h) := by
  unfold f_mWire_read_b69
  have F0 := Av.rf c
  refine ao_it ao_no ?_
  refine ao_I F0 Cs0 (fun h12 F1 => ?_)
  refine ao_it ?_ ?_
  · exact ao_jI F1 (av_mWire_read_b105 (F1.cl) Cv0)
  · refine ao_it ?_ ?_
    · exact ao_jI F1 (av_mWire_read_b105 (F1.cl) Cv0)
    · refine ao_it ?_ ?_
      · exact ao_jI F1 (av_mWire_read_b105 (F1.cl) Cv0)
      · refine ao_it ?_ ?_
        · exact ao_jI F1 (av_mWire_read_b105 (F1.cl) Cv0)
        · exact ao_so F1
theorem av_mWire_read_b68 {C : Nat → Prop} {v0 : Nat} {v1 : Int} {v2 : Int} {s0 : Nat} {h : Hp} (c : Cl C h) (Cv0 : C v0) (Cs0 : C s0) : Ao (qI C h) (f_mWire_read_b68 v0 v1 v2 s0 h) := by
  unfold f_mWire_read_b68
  have F0 := Av.rf c
  exact ao_jI F0 (av_mWire_read_b69 (F0.cl) Cv0 Cs0)
theorem av_mWire_read_b9 {C : Nat → Prop} {k9 : Nat → Int → Int → Int → Hp → Option (Int × Hp)} (hk9 : ∀ (v0 : Nat) (v1 : Int) (v2 : Int) (v3 : Int) (h : Hp), Cl C h → C v0 → Ao (qI C h) (k9 v0 v1 v2 v3 h)) {v0 : Nat} {v1 : Int} {v2 : Int} {v3 : Int} {h : Hp} (c : Cl C h) (Cv0 : C v0) : Ao (qI C h) (f_mWire_read_b9 k9 v0 v1 v2 v3 h) := by
  unfold f_mWire_read_b9
  have F0 := Av.rf c
  refine ao_it ?_ ?_
  · refine ao_I F0 Cv0 (fun h5 F1 => ?_)
    refine ao_I F1 Cv0 (fun h6 F2 => ?_)
    refine ao_I F2 Cv0 (fun h7 F3 => ?_)
    refine ao_it ?_ ?_
    · refine ao_it ?_ ?_
      · exact ao_jI F3 (av_mWire_read_b68 (F3.cl) Cv0 Cv0)
      · refine ao_it ?_ ?_
        · exact ao_jI F3 (av_mWire_read_b68 (F3.cl) Cv0 Cv0)
        · exact ao_jI F3 (av_mWire_read_b69 (F3.cl) Cv0 Cv0)
    · exact ao_so F3
  · refine ao_it ao_no ?_
    refine ao_it ?_ ao_no
    refine ao_J F0 (F0.cl.r Cv0) (fun h10 F4 => ?_)
    exact ao_jI F4 (hk9 _ _ _ _ _ (F4.cl) Cv0)
theorem av_mWire_read_b9_lp {C : Nat → Prop} (n : Nat) : ∀ {v0 : Nat} {v1 : Int} {v2 : Int} {v3 : Int} {h : Hp}, Cl C h → C v0 → Ao (qI C h) (f_mWire_read_b9_lp n v0 v1 v2 v3 h) := by
  induction n with
  | zero => intros; exact ao_no
  | succ n ih => intro v0 v1 v2 v3 h c Cv0; exact av_mWire_read_b9 (fun _ _ _ _ h => ih) c Cv0
theorem av_mWire_read {C : Nat → Prop} {v0 : Nat} {v1 : Int} {h : Hp} (c : Cl C h) (Cv0 : C v0) : Ao (qI C h) (f_mWire_read v0 v1 h) := by
  unfold f_mWire_read
  have F0 := Av.rf c
  refine ao_b2 F0 (av_mWire_take (F0.cl) Cv0) (fun r3 h1 F1 => ?_)
  refine ao_v (fun y4 => ?_)
  exact ao_jI F1 (av_mWire_read_b9_lp FU (F1.cl) Cv0)
theorem av_mBook_isOut {C : Nat → Prop} {v0 : Nat} {v1 : Int} {v2 : Int} {h : Hp} (c : Cl C h) : Ao (qI C h) (f_mBook_isOut v0 v1 v2 h) := by
  unfold f_mBook_isOut
  have F0 := Av.rf c
  refine ao_it ao_no ?_
  refine ao_it ?_ ao_no
  refine ao_it ?_ ?_
  · exact ao_so F0
  · refine ao_it ao_no ?_
    refine ao_it ?_ ao_no
    refine ao_it ?_ ?_
    · exact ao_so F0
    · exact ao_so F0
theorem av_mBook_isNew_b49 {C : Nat → Prop} {k5 : Nat → Int → Int → Int → Int → Hp → Option (Int × Hp)} (hk5 : ∀ (v0 : Nat) (v1 : Int) (v2 : Int) (v3 : Int) (v4 : Int) (h : Hp), Cl C h → Ao (qI C h) (k5 v0 v1 v2 v3 v4 h)) {v0 : Nat} {v1 : Int} {v2 : Int} {v4 : Int} {s0 : Int} {h : Hp} (c : Cl C h) : Ao (qI C h) (f_mBook_isNew_b49 k5 v0 v1 v2 v4 s0 h) := by
  unfold f_mBook_isNew_b49
  have F0 := Av.rf c
  exact ao_jI F0 (hk5 _ _ _ _ _ _ (F0.cl))
theorem av_mBook_isNew_b44 {C : Nat → Prop} {k5 : Nat → Int → Int → Int → Int → Hp → Option (Int × Hp)} (hk5 : ∀ (v0 : Nat) (v1 : Int) (v2 : Int) (v3 : Int) (v4 : Int) (h : Hp), Cl C h → Ao (qI C h) (k5 v0 v1 v2 v3 v4 h)) {v0 : Nat} {v1 : Int} {v2 : Int} {v4 : Int} {h : Hp} (c : Cl C h) : Ao (qI C h) (f_mBook_isNew_b44 k5 v0 v1 v2 v4 h) := by
  unfold f_mBook_isNew_b44
  have F0 := Av.rf c
  exact ao_jI F0 (av_mBook_isNew_b49 hk5 (F0.cl))
theorem av_mBook_isNew_b48 {C : Nat → Prop} {k5 : Nat → Int → Int → Int → Int → Hp → Option (Int × Hp)} (hk5 : ∀ (v0 : Nat) (v1 : Int) (v2 : Int) (v3 : Int) (v4 : Int) (h : Hp), Cl C h → Ao (qI C h) (k5 v0 v1 v2 v3 v4 h)) {v0 : Nat} {v1 : Int} {v2 : Int} {v4 : Int} {h : Hp} (c : Cl C h) : Ao (qI C h) (f_mBook_isNew_b48 k5 v0 v1 v2 v4 h) := by
  unfold f_mBook_isNew_b48
  have F0 := Av.rf c
  exact ao_jI F0 (av_mBook_isNew_b49 hk5 (F0.cl))
theorem av_mBook_isNew_b5 {C : Nat → Prop} {k5 : Nat → Int → Int → Int → Int → Hp → Option (Int × Hp)} (hk5 : ∀ (v0 : Nat) (v1 : Int) (v2 : Int) (v3 : Int) (v4 : Int) (h : Hp), Cl C h → Ao (qI C h) (k5 v0 v1 v2 v3 v4 h)) {v0 : Nat} {v1 : Int} {v2 : Int} {v3 : Int} {v4 : Int} {h : Hp} (c : Cl C h) : Ao (qI C h) (f_mBook_isNew_b5 k5 v0 v1 v2 v3 v4 h) := by
  unfold f_mBook_isNew_b5
  have F0 := Av.rf c
  refine ao_it ?_ ?_
  · refine ao_it ?_ ?_
    · exact ao_so F0
    · refine ao_b2 F0 (av_mBook_isOut (F0.cl)) (fun r3 h1 F1 => ?_)
      refine ao_it ?_ ?_
      · exact ao_so F1
      · exact ao_so F1
  · refine ao_it ?_ ?_
    · exact ao_jI F0 (av_mBook_isNew_b44 hk5 (F0.cl))
    · refine ao_it ao_no ?_
      refine ao_it ?_ ao_no
      refine ao_it ?_ ?_
      · exact ao_jI F0 (av_mBook_isNew_b48 hk5 (F0.cl))
      · refine ao_it ao_no ?_
        refine ao_it ?_ ao_no
        refine ao_it ?_ ?_
        · exact ao_jI F0 (av_mBook_isNew_b48 hk5 (F0.cl))
        · exact ao_jI F0 (av_mBook_isNew_b44 hk5 (F0.cl))
theorem av_mBook_isNew_b5_lp {C : Nat → Prop} (n : Nat) : ∀ {v0 : Nat} {v1 : Int} {v2 : Int} {v3 : Int} {v4 : Int} {h : Hp}, Cl C h → Ao (qI C h) (f_mBook_isNew_b5_lp n v0 v1 v2 v3 v4 h) := by
  induction n with
  | zero => intros; exact ao_no
  | succ n ih => intro v0 v1 v2 v3 v4 h c; exact av_mBook_isNew_b5 (fun _ _ _ _ _ h => ih) c
theorem av_mBook_isNew {C : Nat → Prop} {v0 : Nat} {v1 : Int} {v2 : Int} {h : Hp} (c : Cl C h) : Ao (qI C h) (f_mBook_isNew v0 v1 v2 h) := by
  unfold f_mBook_isNew
  have F0 := Av.rf c
  exact ao_jI F0 (av_mBook_isNew_b5_lp FU (F0.cl))
theorem av_mBook_sample_b110 {C : Nat → Prop} {v0 : Nat} {v3 : Int} {s0 : Nat} {s1 : Int} {s2 : Int} {h : Hp} (c : Cl C h) (Cv0 : C v0) (Cs0 : C s0) : Ao (qV C h) (f_mBook_sample_b110 v0 v3 s0 s1 s2 h) := by
  unfold f_mBook_sample_b110
  have F0 := Av.rf c
  refine ao_it ao_no ?_
  refine ao_I F0 Cs0 (fun h9 F1 => ?_)
  refine ao_I F1 Cv0 (fun h10 F2 => ?_)
  exact ao_so F2
theorem av_mBook_sample_b80 {C : Nat → Prop} {v0 : Nat} {s0 : Int} {h : Hp} (c : Cl C h) (Cv0 : C v0) : Ao (qV C h) (f_mBook_sample_b80 v0 s0 h) := by
  unfold f_mBook_sample_b80
  have F0 := Av.rf c
  refine ao_v (fun y7 => ?_)
  refine ao_it ?_ ?_
  · exact ao_jV F0 (av_mBook_sample_b110 (F0.cl) Cv0 Cv0)
  · exact ao_jV F0 (av_mBook_sample_b110 (F0.cl) Cv0 Cv0)
theorem av_mBook_sample_b29 {C : Nat → Prop} {v0 : Nat} {v1 : Int} {v2 : Int} {s0 : Nat} {s1 : Int} {h : Hp} (c : Cl C h) (Cv0 : C v0) (Cs0 : C s0) : Ao (qV C h) (f_mBook_sample_b29 v0 v1 v2 s0 s1 h) := by
  unfold f_mBook_sample_b29
  have F0 := Av.rf c
  refine ao_it ao_no ?_
  refine ao_I F0 Cs0 (fun h3 F1 => ?_)
  refine ao_it ?_ ?_
  · refine ao_it ?_ ?_
    · exact ao_jV F1 (av_mBook_sample_b80 (F1.cl) Cv0)
    · exact ao_jV F1 (av_mBook_sample_b80 (F1.cl) Cv0)
  · refine ao_I F1 Cv0 (fun h4 F2 => ?_)
    refine ao_I F2 Cv0 (fun h5 F3 => ?_)
    refine ao_I F3 Cv0 (fun h6 F4 => ?_)
    exact ao_so F4
theorem av_mBook_sample_b21 {C : Nat → Prop} {v0 : Nat} {v1 : Int} {v2 : Int} {s0 : Nat} {h : Hp} (c : Cl C h) (Cv0 : C v0) (Cs0 : C s0) : Ao (qV C h) (f_mBook_sample_b21 v0 v1 v2 s0 h) := by
  unfold f_mBook_sample_b21
  have F0 := Av.rf c
  exact ao_jV F0 (av_mBook_sample_b29 (F0.cl) Cv0 Cs0)
theorem av_mBook_sample {C : Nat → Prop} {v0 : Nat} {v1 : Int} {v2 : Int} {h : Hp} (c : Cl C h) (Cv0 : C v0) : Ao (qV C h) (f_mBook_sample v0 v1 v2 h) := by
  unfold f_mBook_sample
  have F0 := Av.rf c
  refine ao_I F0 Cv0 (fun h1 F1 => ?_)
  refine ao_it ?_ ?_
  · exact ao_jV F1 (av_mBook_sample_b21 (F1.cl) Cv0 Cv0)
  · refine ao_it ?_ ?_
    · exact ao_jV F1 (av_mBook_sample_b29 (F1.cl) Cv0 Cv0)
    · exact ao_jV F1 (av_mBook_sample_b21 (F1.cl) Cv0 Cv0)
theorem av_mBook_find_b55 {C : Nat → Prop} {k55 : Nat → Int → Hp → Option (Hp)} (hk55 : ∀ (v0 : Nat) (v1 : Int) (h : Hp), Cl C h → C v0 → Ao (qV C h) (k55 v0 v1 h)) {v0 : Nat} {v1 : Int} {h : Hp} (c : Cl C h) (Cv0 : C v0) : Ao (qV C h) (f_mBook_find_b55 k55 v0 v1 h) := by
  unfold f_mBook_find_b55
  have F0 := Av.rf c
  refine ao_it ao_no ?_
  refine ao_it ?_ ao_no
  refine ao_it ao_no ?_
  refine ao_it ?_ ao_no
  refine ao_it ?_ ?_
  · exact ao_so F0
  · refine ao_it ?_ ao_no
    refine ao_it ao_no ?_
    refine ao_it ?_ ao_no
    refine ao_it ?_ ?_
    · exact ao_so F0
    · refine ao_it ?_ ao_no
      refine ao_it ?_ ao_no
      refine ao_I F0 (F0.cl.r Cv0) (fun h23 F1 => ?_)
      exact ao_jV F1 (hk55 _ _ _ (F1.cl) Cv0)
theorem av_mBook_find_b55_lp {C : Nat → Prop} (n : Nat) : ∀ {v0 : Nat} {v1 : Int} {h : Hp}, Cl C h → C v0 → Ao (qV C h) (f_mBook_find_b55_lp n v0 v1 h) := by
  induction n with
  | zero => intros; exact ao_no
  | succ n ih => intro v0 v1 h c Cv0; exact av_mBook_find_b55 (fun _ _ h => ih) c Cv0
theorem av_mBook_find {C : Nat → Prop} {v0 : Nat} {v1 : Int} {v2 : Int} {v3 : Int} {h : Hp} (c : Cl C h) (Cv0 : C v0) : Ao (qV C h) (f_mBook_find v0 v1 v2 v3 h) := by
  unfold f_mBook_find
  have F0 := Av.rf c
  refine ao_v (fun y1 => ?_)
  refine ao_it ao_no ?_
  refine ao_it ?_ ao_no
  refine ao_I F0 (F0.cl.r Cv0) (fun h4 F2 => ?_)
  refine ao_it ao_no ?_
  refine ao_it ?_ ao_no
  refine ao_it ao_no ?_
  refine ao_it ?_ ao_no
  refine ao_I F2 (F2.cl.r Cv0) (fun h9 F3 => ?_)
  refine ao_it ao_no ?_
  refine ao_it ?_ ao_no
  refine ao_it ?_ ao_no
  refine ao_I F3 (F3.cl.r Cv0) (fun h13 F4 => ?_)
  exact ao_jV F4 (av_mBook_find_b55_lp FU (F4.cl) Cv0)
theorem av_mBook_isBehindRecovery_b20 {C : Nat → Prop} {v0 : Nat} {h : Hp} (c : Cl C h) : Ao (qI C h) (f_mBook_isBehindRecovery_b20 v0 h) := by
  unfold f_mBook_isBehindRecovery_b20
  have F0 := Av.rf c
  exact ao_so F0
theorem av_mBook_isBehindRecovery {C : Nat → Prop} {v0 : Nat} {v1 : Int} {h : Hp} (c : Cl C h) : Ao (qI C h) (f_mBook_isBehindRecovery v0 v1 h) := by
  unfold f_mBook_isBehindRecovery
  have F0 := Av.rf c
  refine ao_it ?_ ?_
  · exact ao_jI F0 (av_mBook_isBehindRecovery_b20 (F0.cl))
  · refine ao_it ao_no ?_
    refine ao_it ?_ ao_no
    refine ao_it ?_ ?_
    · exact ao_so F0
    · exact ao_jI F0 (av_mBook_isBehindRecovery_b20 (F0.cl))
theorem av_mBook_grow_b74 {C : Nat → Prop} {v0 : Nat} {s0 : Nat} {s1 : Int} {s2 : Int} {h : Hp} (c : Cl C h) (Cs0 : C s0) : Ao (qV C h) (f_mBook_grow_b74 v0 s0 s1 s2 h) := by
  unfold f_mBook_grow_b74
  have F0 := Av.rf c
  refine ao_it ao_no ?_
  refine ao_I F0 Cs0 (fun h14 F1 => ?_)
  exact ao_so F1
theorem av_mBook_grow_b50 {C : Nat → Prop} {v0 : Nat} {v1 : Int} {s0 : Nat} {s1 : Int} {h : Hp} (c : Cl C h) (Cs0 : C s0) : Ao (qV C h) (f_mBook_grow_b50 v0 v1 s0 s1 h) := by
  unfold f_mBook_grow_b50
  have F0 := Av.rf c
  refine ao_it ao_no ?_
  refine ao_it ?_ ao_no
  exact ao_jV F0 (av_mBook_grow_b74 (F0.cl) Cs0)
theorem av_mBook_grow {C : Nat → Prop} {v0 : Nat} {v1 : Int} {h : Hp} (c : Cl C h) (Cv0 : C v0) : Ao (qV C h) (f_mBook_grow v0 v1 h) := by
  unfold f_mBook_grow
  have F0 := Av.rf c
  refine ao_it ao_no ?_
  refine ao_it ?_ ao_no
  refine ao_it ?_ ?_
  · exact ao_so F0
  · refine ao_it ao_no ?_
    refine ao_it ?_ ao_no
    refine ao_it ?_ ?_
    · exact ao_so F0
    · refine ao_b2 F0 (av_mBook_isBehindRecovery (F0.cl)) (fun r7 h5 F1 => ?_)
      refine ao_it ?_ ?_
      · refine ao_it ?_ ?_
        · exact ao_jV F1 (av_mBook_grow_b50 (F1.cl) Cv0)
        · refine ao_it ?_ ?_
          · refine ao_it ao_no ?_
            refine ao_it ?_ ao_no
            refine ao_it ao_no ?_
            exact ao_jV F1 (av_mBook_grow_b74 (F1.cl) Cv0)
          · exact ao_jV F1 (av_mBook_grow_b50 (F1.cl) Cv0)
      · exact ao_so F1
theorem av_mBook_limit {C : Nat → Prop} {v0 : Nat} {h : Hp} (c : Cl C h) : Ao (qI C h) (f_mBook_limit v0 h) := by
  unfold f_mBook_limit
  have F0 := Av.rf c
  refine ao_b2 F0 (av_mBook_greater (F0.cl)) (fun r3 h1 F1 => ?_)
  refine ao_b2 F1 (av_mBook_greater (F1.cl)) (fun r6 h4 F2 => ?_)
  exact ao_so F2
theorem av_mBook_persists_b103 {C : Nat → Prop} {k8 : Nat → Int → Int → Int → Int → Hp → Option (Hp)} (hk8 : ∀ (v0 : Nat) (v1 : Int) (v3 : Int) (v4 : Int) (v5 : Int) (h : Hp), Cl C h → C v0 → Ao (qV C h) (k8 v0 v1 v3 v4 v5 h)) {v0 : Nat} {v1 : Int} {v3 : Int} {v4 : Int} {v5 : Int} {h : Hp} (c : Cl C h) (Cv0 : C v0) : Ao (qV C h) (f_mBook_persists_b103 k8 v0 v1 v3 v4 v5 h) := by
  unfold f_mBook_persists_b103
  have F0 := Av.rf c
  exact ao_jV F0 (hk8 _ _ _ _ _ _ (F0.cl) Cv0)
theorem av_mBook_persists_b98 {C : Nat → Prop} {k8 : Nat → Int → Int → Int → Int → Hp → Option (Hp)} (hk8 : ∀ (v0 : Nat) (v1 : Int) (v3 : Int) (v4 : Int) (v5 : Int) (h : Hp), Cl C h → C v0 → Ao (qV C h) (k8 v0 v1 v3 v4 v5 h)) {v0 : Nat} {v1 : Int} {v5 : Int} {v6 : Int} {s0 : Int} {h : Hp} (c : Cl C h) (Cv0 : C v0) : Ao (qV C h) (f_mBook_persists_b98 k8 v0 v1 v5 v6 s0 h) := by
  unfold f_mBook_persists_b98
  have F0 := Av.rf c
  exact ao_jV F0 (av_mBook_persists_b103 hk8 (F0.cl) Cv0)
theorem av_mBook_persists_b154 {C : Nat → Prop} {k120 : Nat → Int → Int → Int → Int → Int → Hp → Option (Hp)} (hk120 : ∀ (v0 : Nat) (v1 : Int) (v3 : Int) (v4 : Int) (v5 : Int) (v6 : Int) (h : Hp), Cl C h → C v0 → Ao (qV C h) (k120 v0 v1 v3 v4 v5 v6 h)) {v0 : Nat} {v1 : Int} {v3 : Int} {v4 : Int} {v6 : Int} {s0 : Int} {h : Hp} (c : Cl C h) (Cv0 : C v0) : Ao (qV C h) (f_mBook_persists_b154 k120 v0 v1 v3 v4 v6 s0 h) := by
  unfold f_mBook_persists_b154
  have F0 := Av.rf c
  exact ao_jV F0 (hk120 _ _ _ _ _ _ _ (F0.cl) Cv0)
theorem av_mBook_persists_b149 {C : Nat → Prop} {k120 : Nat → Int → Int → Int → Int → Int → Hp → Option (Hp)} (hk120 : ∀ (v0 : Nat) (v1 : Int) (v3 : Int) (v4 : Int) (v5 : Int) (v6 : Int) (h : Hp), Cl C h → C v0 → Ao (qV C h) (k120 v0 v1 v3 v4 v5 v6 h)) {v0 : Nat} {v1 : Int} {v3 : Int} {v4 : Int} {v6 : Int} {h : Hp} (c : Cl C h) (Cv0 : C v0) : Ao (qV C h) (f_mBook_persists_b149 k120 v0 v1 v3 v4 v6 h) := by
  unfold f_mBook_persists_b149
  have F0 := Av.rf c
  exact ao_jV F0 (av_mBook_persists_b154 hk120 (F0.cl) Cv0)
theorem av_mBook_persists_b120 {C : Nat → Prop} {k120 : Nat → Int → Int → Int → Int → Int → Hp → Option (Hp)} (hk120 : ∀ (v0 : Nat) (v1 : Int) (v3 : Int) (v4 : Int) (v5 : Int) (v6 : Int) (h : Hp), Cl C h → C v0 → Ao (qV C h) (k120 v0 v1 v3 v4 v5 v6 h)) {v0 : Nat} {v1 : Int} {v3 : Int} {v4 : Int} {v5 : Int} {v6 : Int} {h : Hp} (c : Cl C h) (Cv0 : C v0) : Ao (qV C h) (f_mBook_persists_b120 k120 v0 v1 v3 v4 v5 v6 h) := by
  unfold f_mBook_persists_b120
  have F0 := Av.rf c
  refine ao_it ?_ ?_
  · refine ao_it ?_ ?_
    · exact ao_so F0
    · refine ao_it ao_no ?_
      refine ao_it ?_ ao_no
      refine ao_it ?_ ao_no
      refine ao_b2 F0 (av_mBook_patience (F0.cl)) (fun r15 h13 F1 => ?_)
      refine ao_it ?_ ?_
      · refine ao_I F1 Cv0 (fun h16 F2 => ?_)
        refine ao_I F2 Cv0 (fun h17 F3 => ?_)
        exact ao_so F3
      · exact ao_so F1
  · refine ao_it ?_ ?_
    · exact ao_jV F0 (av_mBook_persists_b149 hk120 (F0.cl) Cv0)
    · refine ao_it ao_no ?_
      refine ao_it ?_ ao_no
      refine ao_it ?_ ?_
      · exact ao_jV F0 (av_mBook_persists_b154 hk120 (F0.cl) Cv0)
      · exact ao_jV F0 (av_mBook_persists_b149 hk120 (F0.cl) Cv0)
theorem av_mBook_persists_b120_lp {C : Nat → Prop} (n : Nat) : ∀ {v0 : Nat} {v1 : Int} {v3 : Int} {v4 : Int} {v5 : Int} {v6 : Int} {h : Hp}, Cl C h → C v0 → Ao (qV C h) (f_mBook_persists_b120_lp n v0 v1 v3 v4 v5 v6 h) := by
  induction n with
  | zero => intros; exact ao_no
  | succ n ih => intro v0 v1 v3 v4 v5 v6 h c Cv0; exact av_mBook_persists_b120 (fun _ _ _ _ _ _ h => ih) c Cv0
theorem av_mBook_persists_b8 {C : Nat → Prop} {k8 : Nat → Int → Int → Int → Int → Hp → Option (Hp)} (hk8 : ∀ (v0 : Nat) (v1 : Int) (v3 : Int) (v4 : Int) (v5 : Int) (h : Hp), Cl C h → C v0 → Ao (qV C h) (k8 v0 v1 v3 v4 v5 h)) {v0 : Nat} {v1 : Int} {v3 : Int} {v4 : Int} {v5 : Int} {h : Hp} (c : Cl C h) (Cv0 : C v0) : Ao (qV C h) (f_mBook_persists_b8 k8 v0 v1 v3 v4 v5 h) := by
  unfold f_mBook_persists_b8
  have F0 := Av.rf c
  refine ao_it ao_no ?_
  refine ao_it ?_ ao_no
  refine ao_it ?_ ?_
  · refine ao_it ?_ ?_
    · exact ao_jV F0 (av_mBook_persists_b120_lp FU (F0.cl) Cv0)
    · exact ao_so F0
  · refine ao_it ao_no ?_
    refine ao_it ?_ ao_no
    refine ao_v (fun y5 => ?_)
    refine ao_it ?_ ?_
    · exact ao_jV F0 (av_mBook_persists_b103 hk8 (F0.cl) Cv0)
    · refine ao_it ao_no ?_
      refine ao_it ?_ ao_no
      refine ao_it ?_ ?_
      · exact ao_jV F0 (av_mBook_persists_b103 hk8 (F0.cl) Cv0)
      · refine ao_it ao_no ?_
        refine ao_it ?_ ao_no
        refine ao_it ?_ ?_
        · refine ao_it ?_ ?_
          · exact ao_jV F0 (av_mBook_persists_b98 hk8 (F0.cl) Cv0)
          · exact ao_jV F0 (av_mBook_persists_b98 hk8 (F0.cl) Cv0)
        · exact ao_jV F0 (av_mBook_persists_b103 hk8 (F0.cl) Cv0)
theorem av_mBook_persists_b8_lp {C : Nat → Prop} (n : Nat) : ∀ {v0 : Nat} {v1 : Int} {v3 : Int} {v4 : Int} {v5 : Int} {h : Hp}, Cl C h → C v0 → Ao (qV C h) (f_mBook_persists_b8_lp n v0 v1 v3 v4 v5 h) := by
  induction n with
  | zero => intros; exact ao_no
  | succ n ih => intro v0 v1 v3 v4 v5 h c Cv0; exact av_mBook_persists_b8 (fun _ _ _ _ _ h => ih) c Cv0
theorem av_mBook_persists {C : Nat → Prop} {v0 : Nat} {v1 : Int} {v2 : Int} {h : Hp} (c : Cl C h) (Cv0 : C v0) : Ao (qV C h) (f_mBook_persists v0 v1 v2 h) := by
  unfold f_mBook_persists
  have F0 := Av.rf c
  exact ao_jV F0 (av_mBook_persists_b8_lp FU (F0.cl) Cv0)
theorem av_mBook_losses_b142 {C : Nat → Prop} {k31 : Nat → Int → Int → Int → Int → Hp → Option (Hp)} (hk31 : ∀ (v0 : Nat) (v1 : Int) (v2 : Int) (v3 : Int) (v4 : Int) (h : Hp), Cl C h → C v0 → Ao (qV C h) (k31 v0 v1 v2 v3 v4 h)) {v0 : Nat} {v1 : Int} {v2 : Int} {v3 : Int} {v4 : Int} {h : Hp} (c : Cl C h) (Cv0 : C v0) : Ao (qV C h) (f_mBook_losses_b142 k31 v0 v1 v2 v3 v4 h) := by
  unfold f_mBook_losses_b142
  have F0 := Av.rf c
  exact ao_jV F0 (hk31 _ _ _ _ _ _ (F0.cl) Cv0)
theorem av_mBook_losses_b141 {C : Nat → Prop} {k31 : Nat → Int → Int → Int → Int → Hp → Option (Hp)} (hk31 : ∀ (v0 : Nat) (v1 : Int) (v2 : Int) (v3 : Int) (v4 : Int) (h : Hp), Cl C h → C v0 → Ao (qV C h) (k31 v0 v1 v2 v3 v4 h)) {v0 : Nat} {v1 : Int} {v2 : Int} {v3 : Int} {v4 : Int} {s0 : Nat} {s1 : Int} {s2 : Int} {h : Hp} (c : Cl C h) (Cv0 : C v0) (Cs0 : C s0) : Ao (qV C h) (f_mBook_losses_b141 k31 v0 v1 v2 v3 v4 s0 s1 s2 h) := by
  unfold f_mBook_losses_b141
  have F0 := Av.rf c
  refine ao_it ao_no ?_
  refine ao_it ?_ ao_no
  refine ao_I F0 Cs0 (fun h29 F1 => ?_)
  exact ao_jV F1 (av_mBook_losses_b142 hk31 (F1.cl) Cv0)
theorem av_mBook_losses_b94 {C : Nat → Prop} {k31 : Nat → Int → Int → Int → Int → Hp → Option (Hp)} (hk31 : ∀ (v0 : Nat) (v1 : Int) (v2 : Int) (v3 : Int) (v4 : Int) (h : Hp), Cl C h → C v0 → Ao (qV C h) (k31 v0 v1 v2 v3 v4 h)) {v0 : Nat} {v1 : Int} {v2 : Int} {v3 : Int} {v4 : Int} {h : Hp} (c : Cl C h) (Cv0 : C v0) : Ao (qV C h) (f_mBook_losses_b94 k31 v0 v1 v2 v3 v4 h) := by
  unfold f_mBook_losses_b94
  have F0 := Av.rf c
  refine ao_b1 F0 (av_mBook_find (F0.cl) Cv0) (fun h48 F1 => ?_)
  exact ao_jV F1 (av_mBook_losses_b142 hk31 (F1.cl) Cv0)
theorem av_mBook_losses_b268 {C : Nat → Prop} {v0 : Nat} {v1 : Int} {v2 : Int} {h : Hp} (c : Cl C h) (Cv0 : C v0) : Ao (qV C h) (f_mBook_losses_b268 v0 v1 v2 h) := by
  unfold f_mBook_losses_b268
  have F0 := Av.rf c
  refine ao_b1 F0 (av_mBook_persists (F0.cl) Cv0) (fun h46 F1 => ?_)
  exact ao_so F1
theorem av_mBook_losses_b223 {C : Nat → Prop} {k154 : Nat → Int → Int → Int → Int → Hp → Option (Hp)} (hk154 : ∀ (v0 : Nat) (v1 : Int) (v2 : Int) (v4 : Int) (v5 : Int) (h : Hp), Cl C h → C v0 → Ao (qV C h) (k154 v0 v1 v2 v4 v5 h)) {v0 : Nat} {v1 : Int} {v2 : Int} {v5 : Int} {s0 : Int} {h : Hp} (c : Cl C h) (Cv0 : C v0) : Ao (qV C h) (f_mBook_losses_b223 k154 v0 v1 v2 v5 s0 h) := by
  unfold f_mBook_losses_b223
  have F0 := Av.rf c
  exact ao_jV F0 (hk154 _ _ _ _ _ _ (F0.cl) Cv0)
theorem av_mBook_losses_b222 {C : Nat → Prop} {k154 : Nat → Int → Int → Int → Int → Hp → Option (Hp)} (hk154 : ∀ (v0 : Nat) (v1 : Int) (v2 : Int) (v4 : Int) (v5 : Int) (h : Hp), Cl C h → C v0 → Ao (qV C h) (k154 v0 v1 v2 v4 v5 h)) {v0 : Nat} {v1 : Int} {v2 : Int} {v5 : Int} {h : Hp} (c : Cl C h) (Cv0 : C v0) : Ao (qV C h) (f_mBook_losses_b222 k154 v0 v1 v2 v5 h) := by
  unfold f_mBook_losses_b222
  have F0 := Av.rf c
  exact ao_jV F0 (av_mBook_losses_b223 hk154 (F0.cl) Cv0)
theorem av_mBook_losses_b218 {C : Nat → Prop} {k154 : Nat → Int → Int → Int → Int → Hp → Option (Hp)} (hk154 : ∀ (v0 : Nat) (v1 : Int) (v2 : Int) (v4 : Int) (v5 : Int) (h : Hp), Cl C h → C v0 → Ao (qV C h) (k154 v0 v1 v2 v4 v5 h)) {v0 : Nat} {v1 : Int} {v2 : Int} {v5 : Int} {h : Hp} (c : Cl C h) (Cv0 : C v0) : Ao (qV C h) (f_mBook_losses_b218 k154 v0 v1 v2 v5 h) := by
  unfold f_mBook_losses_b218
  have F0 := Av.rf c
  exact ao_jV F0 (av_mBook_losses_b223 hk154 (F0.cl) Cv0)
theorem av_mBook_losses_b154 {C : Nat → Prop} {k154 : Nat → Int → Int → Int → Int → Hp → Option (Hp)} (hk154 : ∀ (v0 : Nat) (v1 : Int) (v2 : Int) (v4 : Int) (v5 : Int) (h : Hp), Cl C h → C v0 → Ao (qV C h) (k154 v0 v1 v2 v4 v5 h)) {v0 : Nat} {v1 : Int} {v2 : Int} {v4 : Int} {v5 : Int} {h : Hp} (c : Cl C h) (Cv0 : C v0) : Ao (qV C h) (f_mBook_losses_b154 k154 v0 v1 v2 v4 v5 h) := by
  unfold f_mBook_losses_b154
  have F0 := Av.rf c
  refine ao_it ao_no ?_
  refine ao_it ?_ ao_no
  refine ao_it ?_ ?_
  · refine ao_it ?_ ?_
    · exact ao_jV F0 (av_mBook_losses_b268 (F0.cl) Cv0)
    · refine ao_I F0 Cv0 (fun h32 F1 => ?_)
      refine ao_I F1 Cv0 (fun h33 F2 => ?_)
      refine ao_b2 F2 (av_mBook_greater (F2.cl)) (fun r36 h34 F3 => ?_)
      refine ao_I F3 Cv0 (fun h37 F4 => ?_)
      exact ao_jV F4 (av_mBook_losses_b268 (F4.cl) Cv0)
  · refine ao_it ao_no ?_
    refine ao_it ?_ ao_no
    refine ao_v (fun y40 => ?_)
    refine ao_it ?_ ?_
    · exact ao_jV F0 (av_mBook_losses_b218 hk154 (F0.cl) Cv0)
    · refine ao_it ao_no ?_
      refine ao_it ?_ ao_no
      refine ao_it ?_ ?_
      · exact ao_jV F0 (av_mBook_losses_b222 hk154 (F0.cl) Cv0)
      · refine ao_b2 F0 (av_mBook_isBehindRecovery (F0.cl)) (fun r45 h43 F6 => ?_)
        refine ao_it ?_ ?_
        · exact ao_jV F6 (av_mBook_losses_b222 hk154 (F6.cl) Cv0)
        · exact ao_jV F6 (av_mBook_losses_b218 hk154 (F6.cl) Cv0)
theorem av_mBook_losses_b154_lp {C : Nat → Prop} (n : Nat) : ∀ {v0 : Nat} {v1 : Int} {v2 : Int} {v4 : Int} {v5 : Int} {h : Hp}, Cl C h → C v0 → Ao (qV C h) (f_mBook_losses_b154_lp n v0 v1 v2 v4 v5 h) := by
  induction n with
  | zero => intros; exact ao_no
  | succ n ih => intro v0 v1 v2 v4 v5 h c Cv0; exact av_mBook_losses_b154 (fun _ _ _ _ _ h => ih) c Cv0
theorem av_mBook_losses_b130 {C : Nat → Prop} {k31 : Nat → Int → Int → Int → Int → Hp → Option (Hp)} (hk31 : ∀ (v0 : Nat) (v1 : Int) (v2 : Int) (v3 : Int) (v4 : Int) (h : Hp), Cl C h → C v0 → Ao (qV C h) (k31 v0 v1 v2 v3 v4 h)) {v0 : Nat} {v1 : Int} {v2 : Int} {v3 : Int} {v4 : Int} {v5 : Int} {s0 : Nat} {s1 : Int} {h : Hp} (c : Cl C h) (Cv0 : C v0) (Cs0 : C s0) : Ao (qV C h) (f_mBook_losses_b130 k31 v0 v1 v2 v3 v4 v5 s0 s1 h) := by
  unfold f_mBook_losses_b130
  have F0 := Av.rf c
  exact ao_jV F0 (av_mBook_losses_b141 hk31 (F0.cl) Cv0 Cs0)
theorem av_mBook_losses_b31 {C : Nat → Prop} {k31 : Nat → Int → Int → Int → Int → Hp → Option (Hp)} (hk31 : ∀ (v0 : Nat) (v1 : Int) (v2 : Int) (v3 : Int) (v4 : Int) (h : Hp), Cl C h → C v0 → Ao (qV C h) (k31 v0 v1 v2 v3 v4 h)) {v0 : Nat} {v1 : Int} {v2 : Int} {v3 : Int} {v4 : Int} {h : Hp} (c : Cl C h) (Cv0 : C v0) : Ao (qV C h) (f_mBook_losses_b31 k31 v0 v1 v2 v3 v4 h) := by
  unfold f_mBook_losses_b31
  have F0 := Av.rf c
  refine ao_it ao_no ?_
  refine ao_it ?_ ao_no
  refine ao_it ?_ ?_
  · exact ao_jV F0 (av_mBook_losses_b154_lp FU (F0.cl) Cv0)
  · refine ao_b2 F0 (av_mBook_isOut (F0.cl)) (fun r17 h15 F1 => ?_)
    refine ao_it ?_ ?_
    · refine ao_it ao_no ?_
      refine ao_it ?_ ao_no
      refine ao_v (fun y20 => ?_)
      refine ao_it ao_no ?_
      refine ao_it ?_ ao_no
      refine ao_it ?_ ?_
      · exact ao_jV F1 (av_mBook_losses_b94 hk31 (F1.cl) Cv0)
      · refine ao_it ?_ ?_
        · refine ao_it ao_no ?_
          refine ao_it ?_ ao_no
          refine ao_it ?_ ?_
          · exact ao_jV F1 (av_mBook_losses_b130 hk31 (F1.cl) Cv0 (F1.cl.r Cv0))
          · refine ao_it ?_ ao_no
            refine ao_it ?_ ?_
            · refine ao_it ?_ ao_no
              exact ao_jV F1 (av_mBook_losses_b141 hk31 (F1.cl) Cv0 (F1.cl.r Cv0))
            · exact ao_jV F1 (av_mBook_losses_b130 hk31 (F1.cl) Cv0 (F1.cl.r Cv0))
        · exact ao_jV F1 (av_mBook_losses_b94 hk31 (F1.cl) Cv0)
    · exact ao_jV F1 (av_mBook_losses_b142 hk31 (F1.cl) Cv0)
theorem av_mBook_losses_b31_lp {C : Nat → Prop} (n : Nat) : ∀ {v0 : Nat} {v1 : Int} {v2 : Int} {v3 : Int} {v4 : Int} {h : Hp}, Cl C h → C v0 → Ao (qV C h) (f_mBook_losses_b31_lp n v0 v1 v2 v3 v4 h) := by
  induction n with
  | zero => intros; exact ao_no
  | succ n ih => intro v0 v1 v2 v3 v4 h c Cv0; exact av_mBook_losses_b31 (fun _ _ _ _ _ h => ih) c Cv0
theorem av_mBook_losses {C : Nat → Prop} {v0 : Nat} {v1 : Int} {h : Hp} (c : Cl C h) (Cv0 : C v0) : Ao (qV C h) (f_mBook_losses v0 v1 h) := by
  unfold f_mBook_losses
  have F0 := Av.rf c
  refine ao_it ao_no ?_
  refine ao_it ?_ ao_no
  refine ao_v (fun y3 => ?_)
  refine ao_b2 F0 (av_mBook_limit (F0.cl)) (fun r6 h4 F2 => ?_)
  refine ao_it ao_no ?_
  refine ao_it ?_ ao_no
  refine ao_I F2 (F2.cl.r Cv0) (fun h9 F3 => ?_)
  refine ao_it ao_no ?_
  refine ao_it ?_ ao_no
  refine ao_v (fun y12 => ?_)
  exact ao_jV F3 (av_mBook_losses_b31_lp FU (F3.cl) Cv0)
theorem av_mBook_acknowledge_b116 {C : Nat → Prop} {k61 : Nat → Int → Int → Int → Int → Int → Int → Int → Hp → Option (Int × Hp)} (hk61 : ∀ (v0 : Nat) (v1 : Int) (v2 : Int) (v3 : Int) (v4 : Int) (v5 : Int) (v6 : Int) (v7 : Int) (h : Hp), Cl C h → C v0 → Ao (qI C h) (k61 v0 v1 v2 v3 v4 v5 v6 v7 h)) {v0 : Nat} {v1 : Int} {v2 : Int} {v3 : Int} {v4 : Int} {v5 : Int} {v6 : Int} {v7 : Int} {h : Hp} (c : Cl C h) (Cv0 : C v0) : Ao (qI C h) (f_mBook_acknowledge_b116 k61 v0 v1 v2 v3 v4 v5 v6 v7 h) := by
  unfold f_mBook_acknowledge_b116
  have F0 := Av.rf c
  exact ao_jI F0 (hk61 _ _ _ _ _ _ _ _ _ (F0.cl) Cv0)
theorem av_mBook_acknowledge_b114 {C : Nat → Prop} {k61 : Nat → Int → Int → Int → Int → Int → Int → Int → Hp → Option (Int × Hp)} (hk61 : ∀ (v0 : Nat) (v1 : Int) (v2 : Int) (v3 : Int) (v4 : Int) (v5 : Int) (v6 : Int) (v7 : Int) (h : Hp), Cl C h → C v0 → Ao (qI C h) (k61 v0 v1 v2 v3 v4 v5 v6 v7 h)) {v0 : Nat} {v1 : Int} {v2 : Int} {v3 : Int} {v4 : Int} {v5 : Int} {v7 : Int} {s0 : Int} {h : Hp} (c : Cl C h) (Cv0 : C v0) : Ao (qI C h) (f_mBook_acknowledge_b114 k61 v0 v1 v2 v3 v4 v5 v7 s0 h) := by
  unfold f_mBook_acknowledge_b114
  have F0 := Av.rf c
  exact ao_jI F0 (av_mBook_acknowledge_b116 hk61 (F0.cl) Cv0)
theorem av_mBook_acknowledge_b109 {C : Nat → Prop} {k61 : Nat → Int → Int → Int → Int → Int → Int → Int → Hp → Option (Int × Hp)} (hk61 : ∀ (v0 : Nat) (v1 : Int) (v2 : Int) (v3 : Int) (v4 : Int) (v5 : Int) (v6 : Int) (v7 : Int) (h : Hp), Cl C h → C v0 → Ao (qI C h) (k61 v0 v1 v2 v3 v4 v5 v6 v7 h)) {v0 : Nat} {v1 : Int} {v2 : Int} {v3 : Int} {v4 : Int} {v5 : Int} {v7 : Int} {h : Hp} (c : Cl C h) (Cv0 : C v0) : Ao (qI C h) (f_mBook_acknowledge_b109 k61 v0 v1 v2 v3 v4 v5 v7 h) := by
  unfold f_mBook_acknowledge_b109
  have F0 := Av.rf c
  exact ao_jI F0 (av_mBook_acknowledge_b114 hk61 (F0.cl) Cv0)
theorem av_mBook_acknowledge_b233 {C : Nat → Prop} {k189 : Nat → Int → Int → Hp → Option (Int × Hp)} (hk189 : ∀ (v0 : Nat) (v1 : Int) (v7 : Int) (h : Hp), Cl C h → C v0 → Ao (qI C h) (k189 v0 v1 v7 h)) {v0 : Nat} {v1 : Int} {v7 : Int} {h : Hp} (c : Cl C h) (Cv0 : C v0) : Ao (qI C h) (f_mBook_acknowledge_b233 k189 v0 v1 v7 h) := by
  unfold f_mBook_acknowledge_b233
  have F0 := Av.rf c
  exact ao_jI F0 (hk189 _ _ _ _ (F0.cl) Cv0)
theorem av_mBook_acknowledge_b189 {C : Nat → Prop} {k189 : Nat → Int → Int → Hp → Option (Int × Hp)} (hk189 : ∀ (v0 : Nat) (v1 : Int) (v7 : Int) (h : Hp), Cl C h → C v0 → Ao (qI C h) (k189 v0 v1 v7 h)) {v0 : Nat} {v1 : Int} {v7 : Int} {h : Hp} (c : Cl C h) (Cv0 : C v0) : Ao (qI C h) (f_mBook_acknowledge_b189 k189 v0 v1 v7 h) := by
  unfold f_mBook_acknowledge_b189
  have F0 := Av.rf c
  refine ao_it ao_no ?_
  refine ao_it ?_ ao_no
  refine ao_it ?_ ?_
  · refine ao_b1 F0 (av_mBook_losses (F0.cl) Cv0) (fun h31 F1 => ?_)
    refine ao_I F1 Cv0 (fun h33 F2 => ?_)
    exact ao_so F2
  · refine ao_b2 F0 (av_mBook_isNew (F0.cl)) (fun r36 h34 F3 => ?_)
    refine ao_it ?_ ?_
    · refine ao_b1 F3 (av_mBook_find (F3.cl) Cv0) (fun h37 F4 => ?_)
      refine ao_b1 F4 (av_mBook_grow (F4.cl) Cv0) (fun h39 F5 => ?_)
      exact ao_jI F5 (av_mBook_acknowledge_b233 hk189 (F5.cl) Cv0)
    · exact ao_jI F3 (av_mBook_acknowledge_b233 hk189 (F3.cl) Cv0)
theorem av_mBook_acknowledge_b189_lp {C : Nat → Prop} (n : Nat) : ∀ {v0 : Nat} {v1 : Int} {v7 : Int} {h : Hp}, Cl C h → C v0 → Ao (qI C h) (f_mBook_acknowledge_b189_lp n v0 v1 v7 h) := by
  induction n with
  | zero => intros; exact ao_no
  | succ n ih => intro v0 v1 v7 h c Cv0; exact av_mBook_acknowledge_b189 (fun _ _ _ h => ih) c Cv0
theorem av_mBook_acknowledge_b185 {C : Nat → Prop} {v0 : Nat} {v1 : Int} {v4 : Int} {h : Hp} (c : Cl C h) (Cv0 : C v0) : Ao (qI C h) (f_mBook_acknowledge_b185 v0 v1 v4 h) := by
  unfold f_mBook_acknowledge_b185
  have F0 := Av.rf c
  exact ao_jI F0 (av_mBook_acknowledge_b189_lp FU (F0.cl) Cv0)
theorem av_mBook_acknowledge_b182 {C : Nat → Prop} {v0 : Nat} {v1 : Int} {v4 : Int} {s0 : Nat} {s1 : Int} {s2 : Int} {h : Hp} (c : Cl C h) (Cv0 : C v0) (Cs0 : C s0) : Ao (qI C h) (f_mBook_acknowledge_b182 v0 v1 v4 s0 s1 s2 h) := by
  unfold f_mBook_acknowledge_b182
  have F0 := Av.rf c
  refine ao_it ao_no ?_
  refine ao_b1 F0 (av_mBook_sample (F0.cl) Cs0) (fun h42 F1 => ?_)
  exact ao_jI F1 (av_mBook_acknowledge_b185 (F1.cl) Cv0)
theorem av_mBook_acknowledge_b61 {C : Nat → Prop} {k61 : Nat → Int → Int → Int → Int → Int → Int → Int → Hp → Option (Int × Hp)} (hk61 : ∀ (v0 : Nat) (v1 : Int) (v2 : Int) (v3 : Int) (v4 : Int) (v5 : Int) (v6 : Int) (v7 : Int) (h : Hp), Cl C h → C v0 → Ao (qI C h) (k61 v0 v1 v2 v3 v4 v5 v6 v7 h)) {v0 : Nat} {v1 : Int} {v2 : Int} {v3 : Int} {v4 : Int} {v5 : Int} {v6 : Int} {v7 : Int} {h : Hp} (c : Cl C h) (Cv0 : C v0) : Ao (qI C h) (f_mBook_acknowledge_b61 k61 v0 v1 v2 v3 v4 v5 v6 v7 h) := by
  unfold f_mBook_acknowledge_b61
  have F0 := Av.rf c
  refine ao_it ao_no ?_
  refine ao_it ?_ ao_no
  refine ao_it ?_ ?_
  · refine ao_it ?_ ?_
    · refine ao_it ?_ ?_
      · exact ao_jI F0 (av_mBook_acknowledge_b185 (F0.cl) Cv0)
      · refine ao_b2 F0 (av_mBook_isNew (F0.cl)) (fun r21 h19 F1 => ?_)
        refine ao_it ?_ ?_
        · exact ao_jI F1 (av_mBook_acknowledge_b185 (F1.cl) Cv0)
        · refine ao_it ao_no ?_
          refine ao_it ?_ ao_no
          refine ao_it ?_ ?_
          · refine ao_it ?_ ?_
            · exact ao_jI F1 (av_mBook_acknowledge_b182 (F1.cl) Cv0 Cv0)
            · exact ao_jI F1 (av_mBook_acknowledge_b182 (F1.cl) Cv0 Cv0)
          · exact ao_jI F1 (av_mBook_acknowledge_b182 (F1.cl) Cv0 Cv0)
    · exact ao_so F0
  · refine ao_b2 F0 (av_mBook_isNew (F0.cl)) (fun r26 h24 F2 => ?_)
    refine ao_it ?_ ?_
    · refine ao_it ?_ ?_
      · exact ao_jI F2 (av_mBook_acknowledge_b109 hk61 (F2.cl) Cv0)
      · refine ao_it ao_no ?_
        refine ao_it ?_ ao_no
        refine ao_it ?_ ?_
        · exact ao_jI F2 (av_mBook_acknowledge_b114 hk61 (F2.cl) Cv0)
        · exact ao_jI F2 (av_mBook_acknowledge_b109 hk61 (F2.cl) Cv0)
    · exact ao_jI F2 (av_mBook_acknowledge_b116 hk61 (F2.cl) Cv0)
theorem av_mBook_acknowledge_b61_lp {C : Nat → Prop} (n : Nat) : ∀ {v0 : Nat} {v1 : Int} {v2 : Int} {v3 : Int} {v4 : Int} {v5 : Int} {v6 : Int} {v7 : Int} {h : Hp}, Cl C h → C v0 → Ao (qI C h) (f_mBook_acknowledge_b61_lp n v0 v1 v2 v3 v4 v5 v6 v7 h) := by
  induction n with
  | zero => intros; exact ao_no
  | succ n ih => intro v0 v1 v2 v3 v4 v5 v6 v7 h c Cv0; exact av_mBook_acknowledge_b61 (fun _ _ _ _ _ _ _ _ h => ih) c Cv0
theorem av_mBook_acknowledge {C : Nat → Prop} {v0 : Nat} {v1 : Int} {v2 : Int} {h : Hp} (c : Cl C h) (Cv0 : C v0) : Ao (qI C h) (f_mBook_acknowledge v0 v1 v2 h) := by
  unfold f_mBook_acknowledge
  have F0 := Av.rf c
  refine ao_it ao_no ?_
  refine ao_it ?_ ao_no
  refine ao_it ao_no ?_
  refine ao_it ?_ ao_no
  refine ao_it ?_ ?_
  · refine ao_it ?_ ao_no
    refine ao_v (fun y6 => ?_)
    refine ao_it ao_no ?_
    refine ao_it ?_ ao_no
    refine ao_b2 F0 (av_mBook_greater (F0.cl)) (fun r11 h9 F2 => ?_)
    refine ao_it ?_ ao_no
    refine ao_I F2 (F0.cl.r Cv0) (fun h13 F3 => ?_)
    refine ao_it ao_no ?_
    refine ao_it ?_ ao_no
    refine ao_v (fun y16 => ?_)
    exact ao_jI F3 (av_mBook_acknowledge_b61_lp FU (F3.cl) Cv0)
  · exact ao_so F0
theorem av_mBook_next_b12 {C : Nat → Prop} {v0 : Nat} {s0 : Int} {s1 : Int} {h : Hp} (c : Cl C h) (Cv0 : C v0) : Ao (qI C h) (f_mBook_next_b12 v0 s0 s1 h) := by
  unfold f_mBook_next_b12
  have F0 := Av.rf c
  refine ao_v (fun y1 => ?_)
  refine ao_it ao_no ?_
  refine ao_it ?_ ao_no
  refine ao_it ao_no ?_
  refine ao_it ?_ ao_no
  refine ao_it ?_ ?_
  · refine ao_it ?_ ao_no
    refine ao_it ?_ ao_no
    refine ao_I F0 (F0.cl.r Cv0) (fun h8 F2 => ?_)
    refine ao_it ao_no ?_
    refine ao_it ?_ ao_no
    refine ao_it ao_no ?_
    refine ao_it ?_ ao_no
    exact ao_so F2
  · exact ao_so F0
theorem av_mBook_next {C : Nat → Prop} {v0 : Nat} {v1 : Int} {v2 : Int} {h : Hp} (c : Cl C h) (Cv0 : C v0) : Ao (qI C h) (f_mBook_next v0 v1 v2 h) := by
  unfold f_mBook_next
  have F0 := Av.rf c
  refine ao_it ?_ ?_
  · exact ao_jI F0 (av_mBook_next_b12 (F0.cl) Cv0)
  · exact ao_jI F0 (av_mBook_next_b12 (F0.cl) Cv0)
theorem av_mSide_tellCrypto_b58 {C : Nat → Prop} {k9 : Nat → Int → Int → Int → Int → Int → Hp → Option (Hp)} (hk9 : ∀ (v0 : Nat) (v1 : Int) (v2 : Int) (v3 : Int) (v4 : Int) (v5 : Int) (h : Hp), Cl C h → C v0 → Ao (qV C h) (k9 v0 v1 v2 v3 v4 v5 h)) {v0 : Nat} {v1 : Int} {v2 : Int} {v3 : Int} {v4 : Int} {v5 : Int} {h : Hp} (c : Cl C h) (Cv0 : C v0) : Ao (qV C h) (f_mSide_tellCrypto_b58 k9 v0 v1 v2 v3 v4 v5 h) := by
  unfold f_mSide_tellCrypto_b58
  have F0 := Av.rf c
  exact ao_jV F0 (hk9 _ _ _ _ _ _ _ (F0.cl) Cv0)
theorem av_mSide_tellCrypto_b9 {C : Nat → Prop} {k9 : Nat → Int → Int → Int → Int → Int → Hp → Option (Hp)} (hk9 : ∀ (v0 : Nat) (v1 : Int) (v2 : Int) (v3 : Int) (v4 : Int) (v5 : Int) (h : Hp), Cl C h → C v0 → Ao (qV C h) (k9 v0 v1 v2 v3 v4 v5 h)) {v0 : Nat} {v1 : Int} {v2 : Int} {v3 : Int} {v4 : Int} {v5 : Int} {h : Hp} (c : Cl C h) (Cv0 : C v0) : Ao (qV C h) (f_mSide_tellCrypto_b9 k9 v0 v1 v2 v3 v4 v5 h) := by
  unfold f_mSide_tellCrypto_b9
  have F0 := Av.rf c
  refine ao_it ?_ ?_
  · exact ao_so F0
  · refine ao_it ?_ ?_
    · refine ao_it ao_no ?_
      refine ao_it ?_ ao_no
      refine ao_it ?_ ?_
      · exact ao_jV F0 (av_mSide_tellCrypto_b58 hk9 (F0.cl) Cv0)
      · refine ao_it ?_ ao_no
        refine ao_I F0 (F0.cl.r Cv0) (fun h5 F1 => ?_)
        exact ao_jV F1 (av_mSide_tellCrypto_b58 hk9 (F1.cl) Cv0)
    · refine ao_it ao_no ?_
      refine ao_it ?_ ao_no
      refine ao_I F0 (F0.cl.r Cv0) (fun h8 F2 => ?_)
      exact ao_jV F2 (av_mSide_tellCrypto_b58 hk9 (F2.cl) Cv0)
theorem av_mSide_tellCrypto_b9_lp {C : Nat → Prop} (n : Nat) : ∀ {v0 : Nat} {v1 : Int} {v2 : Int} {v3 : Int} {v4 : Int} {v5 : Int} {h : Hp}, Cl C h → C v0 → Ao (qV C h) (f_mSide_tellCrypto_b9_lp n v0 v1 v2 v3 v4 v5 h) := by
  induction n with
  | zero => intros; exact ao_no
  | succ n ih => intro v0 v1 v2 v3 v4 v5 h c Cv0; exact av_mSide_tellCrypto_b9 (fun _ _ _ _ _ _ h => ih) c Cv0
theorem av_mSide_tellCrypto {C : Nat → Prop} {v0 : Nat} {v1 : Int} {v2 : Int} {v3 : Int} {v4 : Int} {h : Hp} (c : Cl C h) (Cv0 : C v0) : Ao (qV C h) (f_mSide_tellCrypto v0 v1 v2 v3 v4 h) := by
  unfold f_mSide_tellCrypto
  have F0 := Av.rf c
  refine ao_v (fun y1 => ?_)
  exact ao_jV F0 (av_mSide_tellCrypto_b9_lp FU (F0.cl) Cv0)
theorem av_mSide_tellDone_b44 {C : Nat → Prop} {v0 : Nat} {s0 : Nat} {s1 : Int} {h : Hp} (c : Cl C h) (Cs0 : C s0) : Ao (qV C h) (f_mSide_tellDone_b44 v0 s0 s1 h) := by
  unfold f_mSide_tellDone_b44
  have F0 := Av.rf c
  refine ao_it ao_no ?_
  refine ao_it ao_no ?_
  refine ao_I F0 Cs0 (fun h5 F1 => ?_)
  exact ao_so F1
theorem av_mSide_tellDone_b39 {C : Nat → Prop} {v0 : Nat} {s0 : Nat} {h : Hp} (c : Cl C h) (Cs0 : C s0) : Ao (qV C h) (f_mSide_tellDone_b39 v0 s0 h) := by
  unfold f_mSide_tellDone_b39
  have F0 := Av.rf c
  exact ao_jV F0 (av_mSide_tellDone_b44 (F0.cl) Cs0)
theorem av_mSide_tellDone_b43 {C : Nat → Prop} {v0 : Nat} {s0 : Nat} {h : Hp} (c : Cl C h) (Cs0 : C s0) : Ao (qV C h) (f_mSide_tellDone_b43 v0 s0 h) := by
  unfold f_mSide_tellDone_b43
  have F0 := Av.rf c
  exact ao_jV F0 (av_mSide_tellDone_b44 (F0.cl) Cs0)
theorem av_mSide_tellDone_b17 {C : Nat → Prop} {v0 : Nat} {v1 : Int} {s0 : Nat} {s1 : Int} {h : Hp} (c : Cl C h) (Cv0 : C v0) (Cs0 : C s0) : Ao (qV C h) (f_mSide_tellDone_b17 v0 v1 s0 s1 h) := by
  unfold f_mSide_tellDone_b17
  have F0 := Av.rf c
  refine ao_it ao_no ?_
  refine ao_it ao_no ?_
  refine ao_I F0 Cs0 (fun h2 F1 => ?_)
  refine ao_it ?_ ?_
  · exact ao_jV F1 (av_mSide_tellDone_b43 (F1.cl) Cv0)
  · refine ao_it ?_ ?_
    · exact ao_jV F1 (av_mSide_tellDone_b39 (F1.cl) Cv0)
    · refine ao_it ?_ ?_
      · exact ao_jV F1 (av_mSide_tellDone_b43 (F1.cl) Cv0)
      · exact ao_jV F1 (av_mSide_tellDone_b39 (F1.cl) Cv0)
theorem av_mSide_tellDone_b12 {C : Nat → Prop} {v0 : Nat} {v1 : Int} {s0 : Nat} {h : Hp} (c : Cl C h) (Cv0 : C v0) (Cs0 : C s0) : Ao (qV C h) (f_mSide_tellDone_b12 v0 v1 s0 h) := by
  unfold f_mSide_tellDone_b12
  have F0 := Av.rf c
  exact ao_jV F0 (av_mSide_tellDone_b17 (F0.cl) Cv0 Cs0)
theorem av_mSide_tellDone {C : Nat → Prop} {v0 : Nat} {v1 : Int} {h : Hp} (c : Cl C h) (Cv0 : C v0) : Ao (qV C h) (f_mSide_tellDone v0 v1 h) := by
  unfold f_mSide_tellDone
  have F0 := Av.rf c
  refine ao_it ?_ ?_
  · exact ao_jV F0 (av_mSide_tellDone_b12 (F0.cl) Cv0 Cv0)
  · refine ao_it ?_ ?_
    · exact ao_jV F0 (av_mSide_tellDone_b17 (F0.cl) Cv0 Cv0)
    · exact ao_jV F0 (av_mSide_tellDone_b12 (F0.cl) Cv0 Cv0)
theorem av_mStreams_remark_b84 {C : Nat → Prop} {v0 : Nat} {v2 : Int} {v3 : Int} {s0 : Nat} {s1 : Int} {s2 : Int} {s3 : Int} {h : Hp} (c : Cl C h) (Cv0 : C v0) (Cs0 : C s0) : Ao (qV C h) (f_mStreams_remark_b84 v0 v2 v3 s0 s1 s2 s3 h) := by
  unfold f_mStreams_remark_b84
  have F0 := Av.rf c
  refine ao_it ao_no ?_
  refine ao_it ?_ ao_no
  refine ao_I F0 Cs0 (fun h23 F1 => ?_)
  refine ao_it ao_no ?_
  refine ao_it ?_ ao_no
  refine ao_I F1 (F1.cl.r Cv0) (fun h26 F2 => ?_)
  exact ao_so F2
theorem av_mStreams_remark_b65 {C : Nat → Prop} {v0 : Nat} {v1 : Int} {v2 : Int} {v3 : Int} {s0 : Nat} {s1 : Int} {s2 : Int} {s3 : Int} {h : Hp} (c : Cl C h) (Cv0 : C v0) (Cs0 : C s0) : Ao (qV C h) (f_mStreams_remark_b65 v0 v1 v2 v3 s0 s1 s2 s3 h) := by
  unfold f_mStreams_remark_b65
  have F0 := Av.rf c
  refine ao_it ao_no ?_
  refine ao_it ?_ ao_no
  refine ao_I F0 Cs0 (fun h18 F1 => ?_)
  refine ao_it ao_no ?_
  refine ao_it ?_ ao_no
  refine ao_it ?_ ?_
  · exact ao_jV F1 (av_mStreams_remark_b84 (F1.cl) Cv0 (F1.cl.r Cv0))
  · exact ao_jV F1 (av_mStreams_remark_b84 (F1.cl) Cv0 (F1.cl.r Cv0))
theorem av_mStreams_remark_b46 {C : Nat → Prop} {v0 : Nat} {v1 : Int} {v2 : Int} {v3 : Int} {s0 : Nat} {s1 : Int} {s2 : Int} {s3 : Int} {h : Hp} (c : Cl C h) (Cv0 : C v0) (Cs0 : C s0) : Ao (qV C h) (f_mStreams_remark_b46 v0 v1 v2 v3 s0 s1 s2 s3 h) := by
  unfold f_mStreams_remark_b46
  have F0 := Av.rf c
  refine ao_it ao_no ?_
  refine ao_it ?_ ao_no
  refine ao_I F0 Cs0 (fun h13 F1 => ?_)
  refine ao_it ao_no ?_
  refine ao_it ?_ ao_no
  refine ao_it ?_ ?_
  · exact ao_jV F1 (av_mStreams_remark_b65 (F1.cl) Cv0 (F1.cl.r Cv0))
  · exact ao_jV F1 (av_mStreams_remark_b65 (F1.cl) Cv0 (F1.cl.r Cv0))
theorem av_mStreams_remark_b26 {C : Nat → Prop} {v0 : Nat} {v1 : Int} {v2 : Int} {v3 : Int} {v4 : Int} {s0 : Nat} {s1 : Int} {s2 : Int} {s3 : Int} {h : Hp} (c : Cl C h) (Cv0 : C v0) (Cs0 : C s0) : Ao (qV C h) (f_mStreams_remark_b26 v0 v1 v2 v3 v4 s0 s1 s2 s3 h) := by
  unfold f_mStreams_remark_b26
  have F0 := Av.rf c
  refine ao_it ao_no ?_
  refine ao_it ?_ ao_no
  refine ao_I F0 Cs0 (fun h8 F1 => ?_)
  refine ao_it ao_no ?_
  refine ao_it ?_ ao_no
  refine ao_it ?_ ?_
  · exact ao_jV F1 (av_mStreams_remark_b46 (F1.cl) Cv0 (F1.cl.r Cv0))
  · exact ao_jV F1 (av_mStreams_remark_b46 (F1.cl) Cv0 (F1.cl.r Cv0))
theorem av_mStreams_remark {C : Nat → Prop} {v0 : Nat} {v1 : Int} {v2 : Int} {v3 : Int} {h : Hp} (c : Cl C h) (Cv0 : C v0) : Ao (qV C h) (f_mStreams_remark v0 v1 v2 v3 h) := by
  unfold f_mStreams_remark
  have F0 := Av.rf c
  refine ao_it ao_no ?_
  refine ao_it ?_ ao_no
  refine ao_v (fun y3 => ?_)
  refine ao_it ao_no ?_
  refine ao_it ?_ ao_no
  refine ao_it ?_ ?_
  · exact ao_jV F0 (av_mStreams_remark_b26 (F0.cl) Cv0 (F0.cl.r Cv0))
  · exact ao_jV F0 (av_mStreams_remark_b26 (F0.cl) Cv0 (F0.cl.r Cv0))
