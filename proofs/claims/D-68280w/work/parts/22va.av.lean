/-! frames (gen/av.py) -/
theorem av_cP_word {C : Nat → Prop} {v0 : Nat} {v1 : Int} {h : Hp} (c : Cl C h) : Ao (qI C h) (f_cP_word v0 v1 h) := by
  unfold f_cP_word
  have F0 := Av.rf c
  refine ao_it ao_no ?_
  refine ao_it ?_ ao_no
  refine ao_it ?_ ao_no
  refine ao_it ?_ ao_no
  refine ao_it ?_ ao_no
  exact ao_so F0
theorem av_cP_sizeOf {C : Nat → Prop} {v0 : Int} {h : Hp} (c : Cl C h) : Ao (qI C h) (f_cP_sizeOf v0 h) := by
  unfold f_cP_sizeOf
  have F0 := Av.rf c
  refine ao_it ?_ ?_
  · refine ao_it ?_ ?_
    · refine ao_it ?_ ?_
      · exact ao_so F0
      · exact ao_so F0
    · exact ao_so F0
  · exact ao_so F0
theorem av_cHash_init {C : Nat → Prop} {v0 : Nat} {h : Hp} (c : Cl C h) (Cv0 : C v0) : Ao (qV C h) (f_cHash_init v0 h) := by
  unfold f_cHash_init
  have F0 := Av.rf c
  refine ao_it ?_ ao_no
  refine ao_nw F0 (fun h2 F1 => ?_)
  refine ao_R F1 Cv0 (F0.cl.n) (fun h4 F2 => ?_)
  refine ao_it ?_ ao_no
  refine ao_nw F2 (fun h6 F3 => ?_)
  refine ao_R F3 Cv0 (F2.cl.n) (fun h8 F4 => ?_)
  refine ao_it ?_ ao_no
  refine ao_nw F4 (fun h10 F5 => ?_)
  refine ao_R F5 Cv0 (F4.cl.n) (fun h12 F6 => ?_)
  exact ao_so F6
theorem av_cMac_init {C : Nat → Prop} {v0 : Nat} {h : Hp} (c : Cl C h) (Cv0 : C v0) : Ao (qV C h) (f_cMac_init v0 h) := by
  unfold f_cMac_init
  have F0 := Av.rf c
  refine ao_it ?_ ao_no
  refine ao_nw F0 (fun h2 F1 => ?_)
  refine ao_b1 F1 (av_cHash_init (F1.cl) (F0.cl.n)) (fun h4 F2 => ?_)
  refine ao_R F2 Cv0 (F0.cl.n) (fun h6 F3 => ?_)
  refine ao_it ?_ ao_no
  refine ao_nw F3 (fun h8 F4 => ?_)
  refine ao_b1 F4 (av_cHash_init (F4.cl) (F3.cl.n)) (fun h10 F5 => ?_)
  refine ao_R F5 Cv0 (F3.cl.n) (fun h12 F6 => ?_)
  refine ao_it ?_ ao_no
  refine ao_nw F6 (fun h14 F7 => ?_)
  refine ao_R F7 Cv0 (F6.cl.n) (fun h16 F8 => ?_)
  refine ao_it ?_ ao_no
  refine ao_nw F8 (fun h18 F9 => ?_)
  refine ao_R F9 Cv0 (F8.cl.n) (fun h20 F10 => ?_)
  exact ao_so F10
theorem av_cStretch_init {C : Nat → Prop} {v0 : Nat} {h : Hp} (c : Cl C h) (Cv0 : C v0) : Ao (qV C h) (f_cStretch_init v0 h) := by
  unfold f_cStretch_init
  have F0 := Av.rf c
  refine ao_it ?_ ao_no
  refine ao_nw F0 (fun h2 F1 => ?_)
  refine ao_b1 F1 (av_cMac_init (F1.cl) (F0.cl.n)) (fun h4 F2 => ?_)
  refine ao_R F2 Cv0 (F0.cl.n) (fun h6 F3 => ?_)
  refine ao_it ?_ ao_no
  refine ao_nw F3 (fun h8 F4 => ?_)
  refine ao_R F4 Cv0 (F3.cl.n) (fun h10 F5 => ?_)
  refine ao_it ?_ ao_no
  refine ao_nw F5 (fun h12 F6 => ?_)
  refine ao_R F6 Cv0 (F5.cl.n) (fun h14 F7 => ?_)
  refine ao_it ?_ ao_no
  refine ao_nw F7 (fun h16 F8 => ?_)
  refine ao_R F8 Cv0 (F7.cl.n) (fun h18 F9 => ?_)
  exact ao_so F9
theorem av_cKeystream_init {C : Nat → Prop} {v0 : Nat} {h : Hp} (c : Cl C h) (Cv0 : C v0) : Ao (qV C h) (f_cKeystream_init v0 h) := by
  unfold f_cKeystream_init
  have F0 := Av.rf c
  refine ao_it ?_ ao_no
  refine ao_nw F0 (fun h2 F1 => ?_)
  refine ao_R F1 Cv0 (F0.cl.n) (fun h4 F2 => ?_)
  refine ao_it ?_ ao_no
  refine ao_nw F2 (fun h6 F3 => ?_)
  refine ao_R F3 Cv0 (F2.cl.n) (fun h8 F4 => ?_)
  refine ao_it ?_ ao_no
  refine ao_nw F4 (fun h10 F5 => ?_)
  refine ao_R F5 Cv0 (F4.cl.n) (fun h12 F6 => ?_)
  exact ao_so F6
theorem av_cTally_init {C : Nat → Prop} {v0 : Nat} {h : Hp} (c : Cl C h) (Cv0 : C v0) : Ao (qV C h) (f_cTally_init v0 h) := by
  unfold f_cTally_init
  have F0 := Av.rf c
  refine ao_it ?_ ao_no
  refine ao_nw F0 (fun h2 F1 => ?_)
  refine ao_R F1 Cv0 (F0.cl.n) (fun h4 F2 => ?_)
  refine ao_it ?_ ao_no
  refine ao_nw F2 (fun h6 F3 => ?_)
  refine ao_R F3 Cv0 (F2.cl.n) (fun h8 F4 => ?_)
  refine ao_it ?_ ao_no
  refine ao_nw F4 (fun h10 F5 => ?_)
  refine ao_R F5 Cv0 (F4.cl.n) (fun h12 F6 => ?_)
  refine ao_it ?_ ao_no
  refine ao_nw F6 (fun h14 F7 => ?_)
  refine ao_R F7 Cv0 (F6.cl.n) (fun h16 F8 => ?_)
  exact ao_so F8
theorem av_cBench_init {C : Nat → Prop} {v0 : Nat} {h : Hp} (c : Cl C h) (Cv0 : C v0) : Ao (qV C h) (f_cBench_init v0 h) := by
  unfold f_cBench_init
  have F0 := Av.rf c
  refine ao_it ?_ ao_no
  refine ao_nw F0 (fun h2 F1 => ?_)
  refine ao_b1 F1 (av_cStretch_init (F1.cl) (F0.cl.n)) (fun h4 F2 => ?_)
  refine ao_R F2 Cv0 (F0.cl.n) (fun h6 F3 => ?_)
  refine ao_it ?_ ao_no
  refine ao_nw F3 (fun h8 F4 => ?_)
  refine ao_b1 F4 (av_cKeystream_init (F4.cl) (F3.cl.n)) (fun h10 F5 => ?_)
  refine ao_R F5 Cv0 (F3.cl.n) (fun h12 F6 => ?_)
  refine ao_it ?_ ao_no
  refine ao_nw F6 (fun h14 F7 => ?_)
  refine ao_b1 F7 (av_cTally_init (F7.cl) (F6.cl.n)) (fun h16 F8 => ?_)
  refine ao_R F8 Cv0 (F6.cl.n) (fun h18 F9 => ?_)
  refine ao_it ?_ ao_no
  refine ao_nw F9 (fun h20 F10 => ?_)
  refine ao_R F10 Cv0 (F9.cl.n) (fun h22 F11 => ?_)
  refine ao_it ?_ ao_no
  refine ao_nw F11 (fun h24 F12 => ?_)
  refine ao_R F12 Cv0 (F11.cl.n) (fun h26 F13 => ?_)
  refine ao_it ?_ ao_no
  refine ao_nw F13 (fun h28 F14 => ?_)
  refine ao_R F14 Cv0 (F13.cl.n) (fun h30 F15 => ?_)
  refine ao_it ?_ ao_no
  refine ao_nw F15 (fun h32 F16 => ?_)
  refine ao_R F16 Cv0 (F15.cl.n) (fun h34 F17 => ?_)
  exact ao_so F17
theorem av_cGuard_init {C : Nat → Prop} {v0 : Nat} {h : Hp} (c : Cl C h) (Cv0 : C v0) : Ao (qV C h) (f_cGuard_init v0 h) := by
  unfold f_cGuard_init
  have F0 := Av.rf c
  refine ao_it ?_ ao_no
  refine ao_nw F0 (fun h2 F1 => ?_)
  refine ao_R F1 Cv0 (F0.cl.n) (fun h4 F2 => ?_)
  refine ao_it ?_ ao_no
  refine ao_nw F2 (fun h6 F3 => ?_)
  refine ao_R F3 Cv0 (F2.cl.n) (fun h8 F4 => ?_)
  refine ao_it ?_ ao_no
  refine ao_nw F4 (fun h10 F5 => ?_)
  refine ao_R F5 Cv0 (F4.cl.n) (fun h12 F6 => ?_)
  refine ao_it ?_ ao_no
  refine ao_nw F6 (fun h14 F7 => ?_)
  refine ao_R F7 Cv0 (F6.cl.n) (fun h16 F8 => ?_)
  exact ao_so F8
theorem av_cCrypto_init {C : Nat → Prop} {v0 : Nat} {h : Hp} (c : Cl C h) (Cv0 : C v0) : Ao (qV C h) (f_cCrypto_init v0 h) := by
  unfold f_cCrypto_init
  have F0 := Av.rf c
  refine ao_it ?_ ao_no
  refine ao_nw F0 (fun h2 F1 => ?_)
  refine ao_R F1 Cv0 (F0.cl.n) (fun h4 F2 => ?_)
  refine ao_it ?_ ao_no
  refine ao_nw F2 (fun h6 F3 => ?_)
  refine ao_R F3 Cv0 (F2.cl.n) (fun h8 F4 => ?_)
  refine ao_it ?_ ao_no
  refine ao_nw F4 (fun h10 F5 => ?_)
  refine ao_R F5 Cv0 (F4.cl.n) (fun h12 F6 => ?_)
  exact ao_so F6
theorem av_cTrip_init {C : Nat → Prop} {v0 : Nat} {h : Hp} (c : Cl C h) (Cv0 : C v0) : Ao (qV C h) (f_cTrip_init v0 h) := by
  unfold f_cTrip_init
  have F0 := Av.rf c
  refine ao_I F0 Cv0 (fun h1 F1 => ?_)
  refine ao_I F1 Cv0 (fun h2 F2 => ?_)
  refine ao_I F2 Cv0 (fun h3 F3 => ?_)
  refine ao_I F3 Cv0 (fun h4 F4 => ?_)
  exact ao_so F4
theorem av_cWindow_init {C : Nat → Prop} {v0 : Nat} {h : Hp} (c : Cl C h) (Cv0 : C v0) : Ao (qV C h) (f_cWindow_init v0 h) := by
  unfold f_cWindow_init
  have F0 := Av.rf c
  refine ao_I F0 Cv0 (fun h1 F1 => ?_)
  refine ao_I F1 Cv0 (fun h2 F2 => ?_)
  refine ao_I F2 Cv0 (fun h3 F3 => ?_)
  exact ao_so F3
theorem av_cQueue_init {C : Nat → Prop} {v0 : Nat} {h : Hp} (c : Cl C h) (Cv0 : C v0) : Ao (qV C h) (f_cQueue_init v0 h) := by
  unfold f_cQueue_init
  have F0 := Av.rf c
  refine ao_it ?_ ao_no
  refine ao_nw F0 (fun h2 F1 => ?_)
  refine ao_R F1 Cv0 (F0.cl.n) (fun h4 F2 => ?_)
  exact ao_so F2
theorem av_cRanges_init {C : Nat → Prop} {v0 : Nat} {h : Hp} (c : Cl C h) (Cv0 : C v0) : Ao (qV C h) (f_cRanges_init v0 h) := by
  unfold f_cRanges_init
  have F0 := Av.rf c
  refine ao_it ?_ ao_no
  refine ao_nw F0 (fun h2 F1 => ?_)
  refine ao_R F1 Cv0 (F0.cl.n) (fun h4 F2 => ?_)
  refine ao_it ?_ ao_no
  refine ao_nw F2 (fun h6 F3 => ?_)
  refine ao_R F3 Cv0 (F2.cl.n) (fun h8 F4 => ?_)
  exact ao_so F4
theorem av_cSpace_init {C : Nat → Prop} {v0 : Nat} {h : Hp} (c : Cl C h) (Cv0 : C v0) : Ao (qV C h) (f_cSpace_init v0 h) := by
  unfold f_cSpace_init
  have F0 := Av.rf c
  refine ao_it ?_ ao_no
  refine ao_nw F0 (fun h2 F1 => ?_)
  refine ao_R F1 Cv0 (F0.cl.n) (fun h4 F2 => ?_)
  refine ao_it ?_ ao_no
  refine ao_nw F2 (fun h6 F3 => ?_)
  refine ao_R F3 Cv0 (F2.cl.n) (fun h8 F4 => ?_)
  refine ao_it ?_ ao_no
  refine ao_nw F4 (fun h10 F5 => ?_)
  refine ao_R F5 Cv0 (F4.cl.n) (fun h12 F6 => ?_)
  refine ao_I F6 Cv0 (fun h13 F7 => ?_)
  refine ao_I F7 Cv0 (fun h14 F8 => ?_)
  refine ao_I F8 Cv0 (fun h15 F9 => ?_)
  refine ao_it ?_ ao_no
  refine ao_nw F9 (fun h17 F10 => ?_)
  refine ao_b1 F10 (av_cQueue_init (F10.cl) (F9.cl.n)) (fun h19 F11 => ?_)
  refine ao_R F11 Cv0 (F9.cl.n) (fun h21 F12 => ?_)
  refine ao_it ?_ ao_no
  refine ao_nw F12 (fun h23 F13 => ?_)
  refine ao_b1 F13 (av_cQueue_init (F13.cl) (F12.cl.n)) (fun h25 F14 => ?_)
  refine ao_R F14 Cv0 (F12.cl.n) (fun h27 F15 => ?_)
  refine ao_it ?_ ao_no
  refine ao_nw F15 (fun h29 F16 => ?_)
  refine ao_b1 F16 (av_cRanges_init (F16.cl) (F15.cl.n)) (fun h31 F17 => ?_)
  refine ao_R F17 Cv0 (F15.cl.n) (fun h33 F18 => ?_)
  exact ao_so F18
theorem av_cBook_init_b52 {C : Nat → Prop} {k52 : Nat → Int → Hp → Option (Hp)} (hk52 : ∀ (v0 : Nat) (v1 : Int) (h : Hp), Cl C h → C v0 → Ao (qV C h) (k52 v0 v1 h)) {v0 : Nat} {v1 : Int} {h : Hp} (c : Cl C h) (Cv0 : C v0) : Ao (qV C h) (f_cBook_init_b52 k52 v0 v1 h) := by
  unfold f_cBook_init_b52
  have F0 := Av.rf c
  refine ao_it ?_ ?_
  · exact ao_so F0
  · refine ao_it ?_ ao_no
    refine ao_nw F0 (fun h26 F1 => ?_)
    refine ao_b1 F1 (av_cSpace_init (F1.cl) (F0.cl.n)) (fun h28 F2 => ?_)
    refine ao_it ao_no ?_
    refine ao_it ?_ ao_no
    refine ao_R F2 (F0.cl.r Cv0) (F0.cl.n) (fun h32 F3 => ?_)
    exact ao_jV F3 (hk52 _ _ _ (F3.cl) Cv0)
theorem av_cBook_init_b52_lp {C : Nat → Prop} (n : Nat) : ∀ {v0 : Nat} {v1 : Int} {h : Hp}, Cl C h → C v0 → Ao (qV C h) (f_cBook_init_b52_lp n v0 v1 h) := by
  induction n with
  | zero => intros; exact ao_no
  | succ n ih => intro v0 v1 h c Cv0; exact av_cBook_init_b52 (fun _ _ h => ih) c Cv0
theorem av_cBook_init {C : Nat → Prop} {v0 : Nat} {h : Hp} (c : Cl C h) (Cv0 : C v0) : Ao (qV C h) (f_cBook_init v0 h) := by
  unfold f_cBook_init
  have F0 := Av.rf c
  refine ao_it ?_ ao_no
  refine ao_nw F0 (fun h2 F1 => ?_)
  refine ao_R F1 Cv0 (F0.cl.n) (fun h4 F2 => ?_)
  refine ao_it ?_ ao_no
  refine ao_nw F2 (fun h6 F3 => ?_)
  refine ao_b1 F3 (av_cTrip_init (F3.cl) (F2.cl.n)) (fun h8 F4 => ?_)
  refine ao_R F4 Cv0 (F2.cl.n) (fun h10 F5 => ?_)
  refine ao_it ?_ ao_no
  refine ao_nw F5 (fun h12 F6 => ?_)
  refine ao_b1 F6 (av_cWindow_init (F6.cl) (F5.cl.n)) (fun h14 F7 => ?_)
  refine ao_R F7 Cv0 (F5.cl.n) (fun h16 F8 => ?_)
  refine ao_it ?_ ao_no
  refine ao_nw F8 (fun h18 F9 => ?_)
  refine ao_R F9 Cv0 (F8.cl.n) (fun h20 F10 => ?_)
  refine ao_it ?_ ao_no
  refine ao_nw F10 (fun h22 F11 => ?_)
  refine ao_R F11 Cv0 (F10.cl.n) (fun h24 F12 => ?_)
  exact ao_jV F12 (av_cBook_init_b52_lp FU (F12.cl) Cv0)
theorem av_cCargo_init {C : Nat → Prop} {v0 : Nat} {h : Hp} (c : Cl C h) (Cv0 : C v0) : Ao (qV C h) (f_cCargo_init v0 h) := by
  unfold f_cCargo_init
  have F0 := Av.rf c
  refine ao_it ?_ ao_no
  refine ao_nw F0 (fun h2 F1 => ?_)
  refine ao_R F1 Cv0 (F0.cl.n) (fun h4 F2 => ?_)
  refine ao_it ?_ ao_no
  refine ao_nw F2 (fun h6 F3 => ?_)
  refine ao_R F3 Cv0 (F2.cl.n) (fun h8 F4 => ?_)
  refine ao_it ?_ ao_no
  refine ao_nw F4 (fun h10 F5 => ?_)
  refine ao_R F5 Cv0 (F4.cl.n) (fun h12 F6 => ?_)
  refine ao_it ?_ ao_no
  refine ao_nw F6 (fun h14 F7 => ?_)
  refine ao_R F7 Cv0 (F6.cl.n) (fun h16 F8 => ?_)
  refine ao_it ?_ ao_no
  refine ao_nw F8 (fun h18 F9 => ?_)
  refine ao_R F9 Cv0 (F8.cl.n) (fun h20 F10 => ?_)
  refine ao_it ?_ ao_no
  refine ao_nw F10 (fun h22 F11 => ?_)
  refine ao_R F11 Cv0 (F10.cl.n) (fun h24 F12 => ?_)
  exact ao_so F12
theorem av_cParameters_isBytes_b21 {C : Nat → Prop} {h : Hp} (c : Cl C h) : Ao (qI C h) (f_cParameters_isBytes_b21  h) := by
  unfold f_cParameters_isBytes_b21
  have F0 := Av.rf c
  exact ao_so F0
theorem av_cParameters_isBytes {C : Nat → Prop} {v0 : Int} {h : Hp} (c : Cl C h) : Ao (qI C h) (f_cParameters_isBytes v0 h) := by
  unfold f_cParameters_isBytes
  have F0 := Av.rf c
  refine ao_it ?_ ?_
  · exact ao_jI F0 (av_cParameters_isBytes_b21 (F0.cl))
  · refine ao_it ?_ ?_
    · exact ao_jI F0 (av_cParameters_isBytes_b21 (F0.cl))
    · refine ao_it ?_ ?_
      · exact ao_jI F0 (av_cParameters_isBytes_b21 (F0.cl))
      · refine ao_it ?_ ?_
        · exact ao_so F0
        · exact ao_jI F0 (av_cParameters_isBytes_b21 (F0.cl))
theorem av_cParameters_forget_b34 {C : Nat → Prop} {k2 : Nat → Int → Hp → Option (Hp)} (hk2 : ∀ (v0 : Nat) (v1 : Int) (h : Hp), Cl C h → C v0 → Ao (qV C h) (k2 v0 v1 h)) {v0 : Nat} {v1 : Int} {s0 : Nat} {s1 : Int} {s2 : Int} {h : Hp} (c : Cl C h) (Cv0 : C v0) (Cs0 : C s0) : Ao (qV C h) (f_cParameters_forget_b34 k2 v0 v1 s0 s1 s2 h) := by
  unfold f_cParameters_forget_b34
  have F0 := Av.rf c
  refine ao_it ao_no ?_
  refine ao_it ?_ ao_no
  refine ao_J F0 Cs0 (fun h21 F1 => ?_)
  refine ao_it ao_no ?_
  refine ao_it ?_ ao_no
  refine ao_I F1 (F1.cl.r Cv0) (fun h24 F2 => ?_)
  exact ao_jV F2 (hk2 _ _ _ (F2.cl) Cv0)
theorem av_cParameters_forget_b2 {C : Nat → Prop} {k2 : Nat → Int → Hp → Option (Hp)} (hk2 : ∀ (v0 : Nat) (v1 : Int) (h : Hp), Cl C h → C v0 → Ao (qV C h) (k2 v0 v1 h)) {v0 : Nat} {v1 : Int} {h : Hp} (c : Cl C h) (Cv0 : C v0) : Ao (qV C h) (f_cParameters_forget_b2 k2 v0 v1 h) := by
  unfold f_cParameters_forget_b2
  have F0 := Av.rf c
  refine ao_it ?_ ?_
  · refine ao_it ao_no ?_
    refine ao_it ?_ ao_no
    refine ao_J F0 (F0.cl.r Cv0) (fun h3 F1 => ?_)
    refine ao_it ao_no ?_
    refine ao_it ?_ ao_no
    refine ao_J F1 (F1.cl.r Cv0) (fun h6 F2 => ?_)
    refine ao_it ao_no ?_
    refine ao_it ?_ ao_no
    refine ao_J F2 (F2.cl.r Cv0) (fun h9 F3 => ?_)
    refine ao_it ao_no ?_
    refine ao_it ?_ ao_no
    refine ao_J F3 (F3.cl.r Cv0) (fun h12 F4 => ?_)
    exact ao_so F4
  · refine ao_it ao_no ?_
    refine ao_it ?_ ao_no
    refine ao_I F0 (F0.cl.r Cv0) (fun h15 F5 => ?_)
    refine ao_b2 F5 (av_cParameters_isBytes (F5.cl)) (fun r18 h16 F6 => ?_)
    refine ao_it ?_ ?_
    · exact ao_jV F6 (av_cParameters_forget_b34 hk2 (F6.cl) Cv0 (F5.cl.r Cv0))
    · exact ao_jV F6 (av_cParameters_forget_b34 hk2 (F6.cl) Cv0 (F5.cl.r Cv0))
theorem av_cParameters_forget_b2_lp {C : Nat → Prop} (n : Nat) : ∀ {v0 : Nat} {v1 : Int} {h : Hp}, Cl C h → C v0 → Ao (qV C h) (f_cParameters_forget_b2_lp n v0 v1 h) := by
  induction n with
  | zero => intros; exact ao_no
  | succ n ih => intro v0 v1 h c Cv0; exact av_cParameters_forget_b2 (fun _ _ h => ih) c Cv0
theorem av_cParameters_forget {C : Nat → Prop} {v0 : Nat} {h : Hp} (c : Cl C h) (Cv0 : C v0) : Ao (qV C h) (f_cParameters_forget v0 h) := by
  unfold f_cParameters_forget
  have F0 := Av.rf c
  exact ao_jV F0 (av_cParameters_forget_b2_lp FU (F0.cl) Cv0)
theorem av_cParameters_init {C : Nat → Prop} {v0 : Nat} {h : Hp} (c : Cl C h) (Cv0 : C v0) : Ao (qV C h) (f_cParameters_init v0 h) := by
  unfold f_cParameters_init
  have F0 := Av.rf c
  refine ao_it ?_ ao_no
  refine ao_nw F0 (fun h2 F1 => ?_)
  refine ao_R F1 Cv0 (F0.cl.n) (fun h4 F2 => ?_)
  refine ao_it ?_ ao_no
  refine ao_nw F2 (fun h6 F3 => ?_)
  refine ao_R F3 Cv0 (F2.cl.n) (fun h8 F4 => ?_)
  refine ao_it ?_ ao_no
  refine ao_nw F4 (fun h10 F5 => ?_)
  refine ao_R F5 Cv0 (F4.cl.n) (fun h12 F6 => ?_)
  refine ao_b1 F6 (av_cParameters_forget (F6.cl) Cv0) (fun h13 F7 => ?_)
  exact ao_so F7
theorem av_cBytes_init {C : Nat → Prop} {v0 : Nat} {h : Hp} (c : Cl C h) : Ao (qV C h) (f_cBytes_init v0 h) := by
  unfold f_cBytes_init
  have F0 := Av.rf c
  exact ao_so F0
theorem av_cHeader_init {C : Nat → Prop} {v0 : Nat} {h : Hp} (c : Cl C h) : Ao (qV C h) (f_cHeader_init v0 h) := by
  unfold f_cHeader_init
  have F0 := Av.rf c
  exact ao_so F0
theorem av_cFrame_init {C : Nat → Prop} {v0 : Nat} {h : Hp} (c : Cl C h) (Cv0 : C v0) : Ao (qV C h) (f_cFrame_init v0 h) := by
  unfold f_cFrame_init
  have F0 := Av.rf c
  refine ao_it ?_ ao_no
  refine ao_nw F0 (fun h2 F1 => ?_)
  refine ao_R F1 Cv0 (F0.cl.n) (fun h4 F2 => ?_)
  refine ao_it ?_ ao_no
  refine ao_nw F2 (fun h6 F3 => ?_)
  refine ao_R F3 Cv0 (F2.cl.n) (fun h8 F4 => ?_)
  refine ao_it ?_ ao_no
  refine ao_nw F4 (fun h10 F5 => ?_)
  refine ao_R F5 Cv0 (F4.cl.n) (fun h12 F6 => ?_)
  exact ao_so F6
theorem av_cRow_init {C : Nat → Prop} {v0 : Nat} {h : Hp} (c : Cl C h) (Cv0 : C v0) : Ao (qV C h) (f_cRow_init v0 h) := by
  unfold f_cRow_init
  have F0 := Av.rf c
  refine ao_it ?_ ao_no
  refine ao_nw F0 (fun h2 F1 => ?_)
  refine ao_R F1 Cv0 (F0.cl.n) (fun h4 F2 => ?_)
  exact ao_so F2
theorem av_cGreeting_init {C : Nat → Prop} {v0 : Nat} {v1 : Int} {h : Hp} (c : Cl C h) (Cv0 : C v0) : Ao (qV C h) (f_cGreeting_init v0 v1 h) := by
  unfold f_cGreeting_init
  have F0 := Av.rf c
  refine ao_it ?_ ao_no
  refine ao_nw F0 (fun h2 F1 => ?_)
  refine ao_R F1 Cv0 (F0.cl.n) (fun h4 F2 => ?_)
  refine ao_it ?_ ao_no
  refine ao_nw F2 (fun h6 F3 => ?_)
  refine ao_R F3 Cv0 (F2.cl.n) (fun h8 F4 => ?_)
  refine ao_it ?_ ao_no
  refine ao_nw F4 (fun h10 F5 => ?_)
  refine ao_R F5 Cv0 (F4.cl.n) (fun h12 F6 => ?_)
  refine ao_it ?_ ao_no
  refine ao_nw F6 (fun h14 F7 => ?_)
  refine ao_b1 F7 (av_cHash_init (F7.cl) (F6.cl.n)) (fun h16 F8 => ?_)
  refine ao_R F8 Cv0 (F6.cl.n) (fun h18 F9 => ?_)
  refine ao_it ?_ ao_no
  refine ao_nw F9 (fun h20 F10 => ?_)
  refine ao_b1 F10 (av_cStretch_init (F10.cl) (F9.cl.n)) (fun h22 F11 => ?_)
  refine ao_R F11 Cv0 (F9.cl.n) (fun h24 F12 => ?_)
  refine ao_it ?_ ao_no
  refine ao_nw F12 (fun h26 F13 => ?_)
  refine ao_b1 F13 (av_cRow_init (F13.cl) (F12.cl.n)) (fun h28 F14 => ?_)
  refine ao_R F14 Cv0 (F12.cl.n) (fun h30 F15 => ?_)
  refine ao_it ?_ ao_no
  refine ao_nw F15 (fun h32 F16 => ?_)
  refine ao_it ?_ ao_no
  refine ao_nw F16 (fun h35 F17 => ?_)
  refine ao_b1 F17 (av_cRow_init (F17.cl) (F16.cl.n)) (fun h37 F18 => ?_)
  refine ao_it ?_ ao_no
  refine ao_R F18 (F15.cl.n) (F16.cl.n) (fun h40 F19 => ?_)
  refine ao_it ?_ ao_no
  refine ao_nw F19 (fun h42 F20 => ?_)
  refine ao_b1 F20 (av_cRow_init (F20.cl) (F19.cl.n)) (fun h44 F21 => ?_)
  refine ao_it ?_ ao_no
  refine ao_R F21 (F15.cl.n) (F19.cl.n) (fun h47 F22 => ?_)
  refine ao_R F22 Cv0 (F15.cl.n) (fun h48 F23 => ?_)
  refine ao_it ?_ ao_no
  refine ao_nw F23 (fun h50 F24 => ?_)
  refine ao_it ?_ ao_no
  refine ao_nw F24 (fun h53 F25 => ?_)
  refine ao_b1 F25 (av_cRow_init (F25.cl) (F24.cl.n)) (fun h55 F26 => ?_)
  refine ao_it ?_ ao_no
  refine ao_R F26 (F23.cl.n) (F24.cl.n) (fun h58 F27 => ?_)
  refine ao_it ?_ ao_no
  refine ao_nw F27 (fun h60 F28 => ?_)
  refine ao_b1 F28 (av_cRow_init (F28.cl) (F27.cl.n)) (fun h62 F29 => ?_)
  refine ao_it ?_ ao_no
  refine ao_R F29 (F23.cl.n) (F27.cl.n) (fun h65 F30 => ?_)
  refine ao_R F30 Cv0 (F23.cl.n) (fun h66 F31 => ?_)
  refine ao_it ?_ ao_no
  refine ao_nm F31 (fun h68 F32 => ?_)
  refine ao_R F32 Cv0 (F31.cl.n) (fun h70 F33 => ?_)
  refine ao_it ?_ ao_no
  refine ao_nw F33 (fun h72 F34 => ?_)
  refine ao_R F34 Cv0 (F33.cl.n) (fun h74 F35 => ?_)
  refine ao_it ?_ ao_no
  refine ao_nw F35 (fun h76 F36 => ?_)
  refine ao_R F36 Cv0 (F35.cl.n) (fun h78 F37 => ?_)
  refine ao_it ?_ ao_no
  refine ao_nw F37 (fun h80 F38 => ?_)
  refine ao_R F38 Cv0 (F37.cl.n) (fun h82 F39 => ?_)
  refine ao_it ?_ ao_no
  refine ao_nw F39 (fun h84 F40 => ?_)
  refine ao_R F40 Cv0 (F39.cl.n) (fun h86 F41 => ?_)
  refine ao_it ?_ ao_no
  refine ao_nw F41 (fun h88 F42 => ?_)
  refine ao_R F42 Cv0 (F41.cl.n) (fun h90 F43 => ?_)
  refine ao_it ?_ ao_no
  refine ao_nw F43 (fun h92 F44 => ?_)
  refine ao_R F44 Cv0 (F43.cl.n) (fun h94 F45 => ?_)
  refine ao_it ?_ ao_no
  refine ao_nw F45 (fun h96 F46 => ?_)
  refine ao_R F46 Cv0 (F45.cl.n) (fun h98 F47 => ?_)
  refine ao_I F47 Cv0 (fun h99 F48 => ?_)
  refine ao_I F48 Cv0 (fun h100 F49 => ?_)
  exact ao_so F49
theorem av_cWay_init {C : Nat → Prop} {v0 : Nat} {h : Hp} (c : Cl C h) (Cv0 : C v0) : Ao (qV C h) (f_cWay_init v0 h) := by
  unfold f_cWay_init
  have F0 := Av.rf c
  refine ao_J F0 Cv0 (fun h1 F1 => ?_)
  refine ao_J F1 Cv0 (fun h2 F2 => ?_)
  exact ao_so F2
theorem av_cSpans_init {C : Nat → Prop} {v0 : Nat} {h : Hp} (c : Cl C h) (Cv0 : C v0) : Ao (qV C h) (f_cSpans_init v0 h) := by
  unfold f_cSpans_init
  have F0 := Av.rf c
  refine ao_it ?_ ao_no
  refine ao_nw F0 (fun h2 F1 => ?_)
  refine ao_R F1 Cv0 (F0.cl.n) (fun h4 F2 => ?_)
  refine ao_it ?_ ao_no
  refine ao_nw F2 (fun h6 F3 => ?_)
  refine ao_R F3 Cv0 (F2.cl.n) (fun h8 F4 => ?_)
  refine ao_it ?_ ao_no
  refine ao_nw F4 (fun h10 F5 => ?_)
  refine ao_R F5 Cv0 (F4.cl.n) (fun h12 F6 => ?_)
  refine ao_I F6 Cv0 (fun h13 F7 => ?_)
  exact ao_so F7
theorem av_cStore_init {C : Nat → Prop} {v0 : Nat} {h : Hp} (c : Cl C h) (Cv0 : C v0) : Ao (qV C h) (f_cStore_init v0 h) := by
  unfold f_cStore_init
  have F0 := Av.rf c
  refine ao_it ?_ ao_no
  refine ao_nw F0 (fun h2 F1 => ?_)
  refine ao_R F1 Cv0 (F0.cl.n) (fun h4 F2 => ?_)
  refine ao_it ?_ ao_no
  refine ao_nw F2 (fun h6 F3 => ?_)
  refine ao_R F3 Cv0 (F2.cl.n) (fun h8 F4 => ?_)
  refine ao_it ?_ ao_no
  refine ao_nw F4 (fun h10 F5 => ?_)
  refine ao_R F5 Cv0 (F4.cl.n) (fun h12 F6 => ?_)
  refine ao_it ?_ ao_no
  refine ao_nw F6 (fun h14 F7 => ?_)
  refine ao_R F7 Cv0 (F6.cl.n) (fun h16 F8 => ?_)
  exact ao_so F8
theorem av_cBlocks_init {C : Nat → Prop} {v0 : Nat} {h : Hp} (c : Cl C h) (Cv0 : C v0) : Ao (qV C h) (f_cBlocks_init v0 h) := by
  unfold f_cBlocks_init
  have F0 := Av.rf c
  refine ao_it ?_ ao_no
  refine ao_nw F0 (fun h2 F1 => ?_)
  refine ao_R F1 Cv0 (F0.cl.n) (fun h4 F2 => ?_)
  refine ao_it ?_ ao_no
  refine ao_nw F2 (fun h6 F3 => ?_)
  refine ao_R F3 Cv0 (F2.cl.n) (fun h8 F4 => ?_)
  refine ao_it ?_ ao_no
  refine ao_nw F4 (fun h10 F5 => ?_)
  refine ao_R F5 Cv0 (F4.cl.n) (fun h12 F6 => ?_)
  refine ao_it ?_ ao_no
  refine ao_nw F6 (fun h14 F7 => ?_)
  refine ao_R F7 Cv0 (F6.cl.n) (fun h16 F8 => ?_)
  refine ao_I F8 Cv0 (fun h17 F9 => ?_)
  exact ao_so F9
theorem av_cHall_init {C : Nat → Prop} {v0 : Nat} {v1 : Int} {h : Hp} (c : Cl C h) (Cv0 : C v0) : Ao (qV C h) (f_cHall_init v0 v1 h) := by
  unfold f_cHall_init
  have F0 := Av.rf c
  refine ao_it ?_ ao_no
  refine ao_nw F0 (fun h2 F1 => ?_)
  refine ao_R F1 Cv0 (F0.cl.n) (fun h4 F2 => ?_)
  refine ao_it ?_ ao_no
  refine ao_nw F2 (fun h6 F3 => ?_)
  refine ao_R F3 Cv0 (F2.cl.n) (fun h8 F4 => ?_)
  refine ao_it ?_ ao_no
  refine ao_nw F4 (fun h10 F5 => ?_)
  refine ao_it ?_ ao_no
  refine ao_nw F5 (fun h13 F6 => ?_)
  refine ao_b1 F6 (av_cWay_init (F6.cl) (F5.cl.n)) (fun h15 F7 => ?_)
  refine ao_it ?_ ao_no
  refine ao_R F7 (F4.cl.n) (F5.cl.n) (fun h18 F8 => ?_)
  refine ao_it ?_ ao_no
  refine ao_nw F8 (fun h20 F9 => ?_)
  refine ao_b1 F9 (av_cWay_init (F9.cl) (F8.cl.n)) (fun h22 F10 => ?_)
  refine ao_it ?_ ao_no
  refine ao_R F10 (F4.cl.n) (F8.cl.n) (fun h25 F11 => ?_)
  refine ao_R F11 Cv0 (F4.cl.n) (fun h26 F12 => ?_)
  refine ao_it ?_ ao_no
  refine ao_nw F12 (fun h28 F13 => ?_)
  refine ao_it ?_ ao_no
  refine ao_I F13 (F12.cl.n) (fun h31 F14 => ?_)
  refine ao_it ?_ ao_no
  refine ao_I F14 (F12.cl.n) (fun h33 F15 => ?_)
  refine ao_it ?_ ao_no
  refine ao_I F15 (F12.cl.n) (fun h35 F16 => ?_)
  refine ao_it ?_ ao_no
  refine ao_I F16 (F12.cl.n) (fun h37 F17 => ?_)
  refine ao_it ?_ ao_no
  refine ao_I F17 (F12.cl.n) (fun h39 F18 => ?_)
  refine ao_it ?_ ao_no
  refine ao_I F18 (F12.cl.n) (fun h41 F19 => ?_)
  refine ao_R F19 Cv0 (F12.cl.n) (fun h42 F20 => ?_)
  refine ao_it ?_ ao_no
  refine ao_nw F20 (fun h44 F21 => ?_)
  refine ao_R F21 Cv0 (F20.cl.n) (fun h46 F22 => ?_)
  refine ao_it ?_ ao_no
  refine ao_nw F22 (fun h48 F23 => ?_)
  refine ao_b1 F23 (av_cSpans_init (F23.cl) (F22.cl.n)) (fun h50 F24 => ?_)
  refine ao_R F24 Cv0 (F22.cl.n) (fun h52 F25 => ?_)
  refine ao_it ?_ ao_no
  refine ao_nw F25 (fun h54 F26 => ?_)
  refine ao_b1 F26 (av_cStore_init (F26.cl) (F25.cl.n)) (fun h56 F27 => ?_)
  refine ao_R F27 Cv0 (F25.cl.n) (fun h58 F28 => ?_)
  refine ao_it ?_ ao_no
  refine ao_nw F28 (fun h60 F29 => ?_)
  refine ao_b1 F29 (av_cBlocks_init (F29.cl) (F28.cl.n)) (fun h62 F30 => ?_)
  refine ao_R F30 Cv0 (F28.cl.n) (fun h64 F31 => ?_)
  refine ao_J F31 Cv0 (fun h65 F32 => ?_)
  refine ao_I F32 Cv0 (fun h66 F33 => ?_)
  refine ao_it ?_ ao_no
  refine ao_nw F33 (fun h68 F34 => ?_)
  refine ao_R F34 Cv0 (F33.cl.n) (fun h70 F35 => ?_)
  refine ao_I F35 Cv0 (fun h71 F36 => ?_)
  exact ao_so F36
theorem av_cHall_grants {C : Nat → Prop} {v0 : Nat} {v1 : Int} {v2 : Int} {v3 : Int} {v4 : Int} {v5 : Int} {v6 : Int} {h : Hp} (c : Cl C h) (Cv0 : C v0) : Ao (qV C h) (f_cHall_grants v0 v1 v2 v3 v4 v5 v6 h) := by
  unfold f_cHall_grants
  have F0 := Av.rf c
  refine ao_it ao_no ?_
  refine ao_it ?_ ao_no
  refine ao_I F0 (F0.cl.r Cv0) (fun h3 F1 => ?_)
  refine ao_it ao_no ?_
  refine ao_it ?_ ao_no
  refine ao_I F1 (F1.cl.r Cv0) (fun h6 F2 => ?_)
  refine ao_it ao_no ?_
  refine ao_it ?_ ao_no
  refine ao_I F2 (F2.cl.r Cv0) (fun h9 F3 => ?_)
  refine ao_it ao_no ?_
  refine ao_it ?_ ao_no
  refine ao_I F3 (F3.cl.r Cv0) (fun h12 F4 => ?_)
  refine ao_it ao_no ?_
  refine ao_it ?_ ao_no
  refine ao_I F4 (F4.cl.r Cv0) (fun h15 F5 => ?_)
  refine ao_it ao_no ?_
  refine ao_it ?_ ao_no
  refine ao_I F5 (F5.cl.r Cv0) (fun h18 F6 => ?_)
  refine ao_I F6 Cv0 (fun h19 F7 => ?_)
  refine ao_it ao_no ?_
  refine ao_it ?_ ao_no
  refine ao_it ao_no ?_
  refine ao_I F7 (F7.cl.r (F7.cl.r Cv0)) (fun h23 F8 => ?_)
  refine ao_it ao_no ?_
  refine ao_it ?_ ao_no
  refine ao_it ao_no ?_
  refine ao_I F8 (F8.cl.r (F8.cl.r Cv0)) (fun h27 F9 => ?_)
  exact ao_so F9
theorem av_cSide_grants {C : Nat → Prop} {v0 : Nat} {h : Hp} (c : Cl C h) (Cv0 : C v0) : Ao (qV C h) (f_cSide_grants v0 h) := by
  unfold f_cSide_grants
  have F0 := Av.rf c
  refine ao_it ao_no ?_
  refine ao_it ?_ ao_no
  refine ao_it ?_ ao_no
  refine ao_it ?_ ao_no
  refine ao_it ?_ ao_no
  refine ao_it ?_ ao_no
  refine ao_it ?_ ao_no
  refine ao_it ao_no ?_
  refine ao_b1 F0 (av_cHall_grants (F0.cl) (F0.cl.r Cv0)) (fun h9 F1 => ?_)
  exact ao_so F1
theorem av_cSide_init_b359 {C : Nat → Prop} {k359 : Nat → Int → Hp → Option (Hp)} (hk359 : ∀ (v0 : Nat) (v2 : Int) (h : Hp), Cl C h → C v0 → Ao (qV C h) (k359 v0 v2 h)) {v0 : Nat} {v2 : Int} {h : Hp} (c : Cl C h) (Cv0 : C v0) : Ao (qV C h) (f_cSide_init_b359 k359 v0 v2 h) := by
  unfold f_cSide_init_b359
  have F0 := Av.rf c
  refine ao_it ?_ ?_
  · refine ao_it ao_no ?_
    refine ao_it ?_ ao_no
    refine ao_I F0 (F0.cl.r Cv0) (fun h201 F1 => ?_)
    refine ao_it ao_no ?_
    refine ao_it ?_ ao_no
    refine ao_I F1 (F1.cl.r Cv0) (fun h204 F2 => ?_)
    refine ao_b1 F2 (av_cSide_grants (F2.cl) Cv0) (fun h205 F3 => ?_)
    exact ao_so F3
  · refine ao_it ao_no ?_
    refine ao_it ?_ ao_no
    refine ao_I F0 (F0.cl.r Cv0) (fun h209 F4 => ?_)
    exact ao_jV F4 (hk359 _ _ _ (F4.cl) Cv0)
theorem av_cSide_init_b359_lp {C : Nat → Prop} (n : Nat) : ∀ {v0 : Nat} {v2 : Int} {h : Hp}, Cl C h → C v0 → Ao (qV C h) (f_cSide_init_b359_lp n v0 v2 h) := by
  induction n with
  | zero => intros; exact ao_no
  | succ n ih => intro v0 v2 h c Cv0; exact av_cSide_init_b359 (fun _ _ h => ih) c Cv0
theorem av_cSide_init {C : Nat → Prop} {v0 : Nat} {v1 : Int} {h : Hp} (c : Cl C h) (Cv0 : C v0) : Ao (qV C h) (f_cSide_init v0 v1 h) := by
  unfold f_cSide_init
  have F0 := Av.rf c
  refine ao_it ?_ ao_no
  refine ao_nw F0 (fun h2 F1 => ?_)
  refine ao_b1 F1 (av_cBench_init (F1.cl) (F0.cl.n)) (fun h4 F2 => ?_)
  refine ao_R F2 Cv0 (F0.cl.n) (fun h6 F3 => ?_)
  refine ao_it ?_ ao_no
  refine ao_nw F3 (fun h8 F4 => ?_)
  refine ao_it ?_ ao_no
  refine ao_nw F4 (fun h11 F5 => ?_)
  refine ao_b1 F5 (av_cGuard_init (F5.cl) (F4.cl.n)) (fun h13 F6 => ?_)
  refine ao_it ?_ ao_no
  refine ao_R F6 (F3.cl.n) (F4.cl.n) (fun h16 F7 => ?_)
  refine ao_it ?_ ao_no
  refine ao_nw F7 (fun h18 F8 => ?_)
  refine ao_b1 F8 (av_cGuard_init (F8.cl) (F7.cl.n)) (fun h20 F9 => ?_)
  refine ao_it ?_ ao_no
  refine ao_R F9 (F3.cl.n) (F7.cl.n) (fun h23 F10 => ?_)
  refine ao_it ?_ ao_no
  refine ao_nw F10 (fun h25 F11 => ?_)
  refine ao_b1 F11 (av_cGuard_init (F11.cl) (F10.cl.n)) (fun h27 F12 => ?_)
  refine ao_it ?_ ao_no
  refine ao_R F12 (F3.cl.n) (F10.cl.n) (fun h30 F13 => ?_)
  refine ao_R F13 Cv0 (F3.cl.n) (fun h31 F14 => ?_)
  refine ao_it ?_ ao_no
  refine ao_nw F14 (fun h33 F15 => ?_)
  refine ao_it ?_ ao_no
  refine ao_nw F15 (fun h36 F16 => ?_)
  refine ao_b1 F16 (av_cGuard_init (F16.cl) (F15.cl.n)) (fun h38 F17 => ?_)
  refine ao_it ?_ ao_no
  refine ao_R F17 (F14.cl.n) (F15.cl.n) (fun h41 F18 => ?_)
  refine ao_it ?_ ao_no
  refine ao_nw F18 (fun h43 F19 => ?_)
  refine ao_b1 F19 (av_cGuard_init (F19.cl) (F18.cl.n)) (fun h45 F20 => ?_)
  refine ao_it ?_ ao_no
  refine ao_R F20 (F14.cl.n) (F18.cl.n) (fun h48 F21 => ?_)
  refine ao_it ?_ ao_no
  refine ao_nw F21 (fun h50 F22 => ?_)
  refine ao_b1 F22 (av_cGuard_init (F22.cl) (F21.cl.n)) (fun h52 F23 => ?_)
  refine ao_it ?_ ao_no
  refine ao_R F23 (F14.cl.n) (F21.cl.n) (fun h55 F24 => ?_)
  refine ao_R F24 Cv0 (F14.cl.n) (fun h56 F25 => ?_)
  refine ao_it ?_ ao_no
  refine ao_nw F25 (fun h58 F26 => ?_)
  refine ao_R F26 Cv0 (F25.cl.n) (fun h60 F27 => ?_)
  refine ao_it ?_ ao_no
  refine ao_nw F27 (fun h62 F28 => ?_)
  refine ao_it ?_ ao_no
  refine ao_nw F28 (fun h65 F29 => ?_)
  refine ao_b1 F29 (av_cCrypto_init (F29.cl) (F28.cl.n)) (fun h67 F30 => ?_)
  refine ao_it ?_ ao_no
  refine ao_R F30 (F27.cl.n) (F28.cl.n) (fun h70 F31 => ?_)
  refine ao_it ?_ ao_no
  refine ao_nw F31 (fun h72 F32 => ?_)
  refine ao_b1 F32 (av_cCrypto_init (F32.cl) (F31.cl.n)) (fun h74 F33 => ?_)
  refine ao_it ?_ ao_no
  refine ao_R F33 (F27.cl.n) (F31.cl.n) (fun h77 F34 => ?_)
  refine ao_R F34 Cv0 (F27.cl.n) (fun h78 F35 => ?_)
  refine ao_it ?_ ao_no
  refine ao_nw F35 (fun h80 F36 => ?_)
  refine ao_b1 F36 (av_cBook_init (F36.cl) (F35.cl.n)) (fun h82 F37 => ?_)
  refine ao_R F37 Cv0 (F35.cl.n) (fun h84 F38 => ?_)
  refine ao_it ?_ ao_no
  refine ao_nw F38 (fun h86 F39 => ?_)
  refine ao_it ?_ ao_no
  refine ao_nw F39 (fun h89 F40 => ?_)
  refine ao_b1 F40 (av_cCargo_init (F40.cl) (F39.cl.n)) (fun h91 F41 => ?_)
  refine ao_it ?_ ao_no
  refine ao_R F41 (F38.cl.n) (F39.cl.n) (fun h94 F42 => ?_)
  refine ao_it ?_ ao_no
  refine ao_nw F42 (fun h96 F43 => ?_)
  refine ao_b1 F43 (av_cCargo_init (F43.cl) (F42.cl.n)) (fun h98 F44 => ?_)
  refine ao_it ?_ ao_no
  refine ao_R F44 (F38.cl.n) (F42.cl.n) (fun h101 F45 => ?_)
  refine ao_it ?_ ao_no
  refine ao_nw F45 (fun h103 F46 => ?_)
  refine ao_b1 F46 (av_cCargo_init (F46.cl) (F45.cl.n)) (fun h105 F47 => ?_)
  refine ao_it ?_ ao_no
  refine ao_R F47 (F38.cl.n) (F45.cl.n) (fun h108 F48 => ?_)
  refine ao_R F48 Cv0 (F38.cl.n) (fun h109 F49 => ?_)
  refine ao_it ?_ ao_no
  refine ao_nw F49 (fun h111 F50 => ?_)
  refine ao_R F50 Cv0 (F49.cl.n) (fun h113 F51 => ?_)
  refine ao_it ?_ ao_no
  refine ao_nw F51 (fun h115 F52 => ?_)
  refine ao_R F52 Cv0 (F51.cl.n) (fun h117 F53 => ?_)
  refine ao_it ?_ ao_no
  refine ao_nw F53 (fun h119 F54 => ?_)
  refine ao_R F54 Cv0 (F53.cl.n) (fun h121 F55 => ?_)
  refine ao_it ?_ ao_no
  refine ao_nw F55 (fun h123 F56 => ?_)
  refine ao_b1 F56 (av_cParameters_init (F56.cl) (F55.cl.n)) (fun h125 F57 => ?_)
  refine ao_R F57 Cv0 (F55.cl.n) (fun h127 F58 => ?_)
  refine ao_it ?_ ao_no
  refine ao_nw F58 (fun h129 F59 => ?_)
  refine ao_b1 F59 (av_cBytes_init (F59.cl)) (fun h131 F60 => ?_)
  refine ao_R F60 Cv0 (F58.cl.n) (fun h133 F61 => ?_)
  refine ao_it ?_ ao_no
  refine ao_nw F61 (fun h135 F62 => ?_)
  refine ao_b1 F62 (av_cBytes_init (F62.cl)) (fun h137 F63 => ?_)
  refine ao_R F63 Cv0 (F61.cl.n) (fun h139 F64 => ?_)
  refine ao_it ?_ ao_no
  refine ao_nw F64 (fun h141 F65 => ?_)
  refine ao_b1 F65 (av_cHeader_init (F65.cl)) (fun h143 F66 => ?_)
  refine ao_R F66 Cv0 (F64.cl.n) (fun h145 F67 => ?_)
  refine ao_it ?_ ao_no
  refine ao_nw F67 (fun h147 F68 => ?_)
  refine ao_b1 F68 (av_cFrame_init (F68.cl) (F67.cl.n)) (fun h149 F69 => ?_)
  refine ao_R F69 Cv0 (F67.cl.n) (fun h151 F70 => ?_)
  refine ao_it ?_ ao_no
  refine ao_nw F70 (fun h153 F71 => ?_)
  refine ao_R F71 Cv0 (F70.cl.n) (fun h155 F72 => ?_)
  refine ao_it ?_ ao_no
  refine ao_nw F72 (fun h157 F73 => ?_)
  refine ao_R F73 Cv0 (F72.cl.n) (fun h159 F74 => ?_)
  refine ao_it ?_ ao_no
  refine ao_nm F74 (fun h161 F75 => ?_)
  refine ao_R F75 Cv0 (F74.cl.n) (fun h163 F76 => ?_)
  refine ao_it ?_ ao_no
  refine ao_nw F76 (fun h165 F77 => ?_)
  refine ao_R F77 Cv0 (F76.cl.n) (fun h167 F78 => ?_)
  refine ao_it ?_ ao_no
  refine ao_nw F78 (fun h169 F79 => ?_)
  refine ao_R F79 Cv0 (F78.cl.n) (fun h171 F80 => ?_)
  refine ao_it ?_ ao_no
  refine ao_nw F80 (fun h173 F81 => ?_)
  refine ao_R F81 Cv0 (F80.cl.n) (fun h175 F82 => ?_)
  refine ao_it ?_ ao_no
  refine ao_nw F82 (fun h177 F83 => ?_)
  refine ao_R F83 Cv0 (F82.cl.n) (fun h179 F84 => ?_)
  refine ao_I F84 Cv0 (fun h180 F85 => ?_)
  refine ao_it ?_ ao_no
  refine ao_nw F85 (fun h182 F86 => ?_)
  refine ao_b1 F86 (av_cGreeting_init (F86.cl) (F85.cl.n)) (fun h184 F87 => ?_)
  refine ao_R F87 Cv0 (F85.cl.n) (fun h186 F88 => ?_)
  refine ao_it ?_ ao_no
  refine ao_nw F88 (fun h188 F89 => ?_)
  refine ao_b1 F89 (av_cHall_init (F89.cl) (F88.cl.n)) (fun h190 F90 => ?_)
  refine ao_R F90 Cv0 (F88.cl.n) (fun h192 F91 => ?_)
  refine ao_it ao_no ?_
  refine ao_it ?_ ao_no
  refine ao_I F91 (F91.cl.r Cv0) (fun h195 F92 => ?_)
  refine ao_it ao_no ?_
  refine ao_it ?_ ao_no
  refine ao_I F92 (F92.cl.r Cv0) (fun h198 F93 => ?_)
  exact ao_jV F93 (av_cSide_init_b359_lp FU (F93.cl) Cv0)
theorem av_cLine_init {C : Nat → Prop} {v0 : Nat} {h : Hp} (c : Cl C h) (Cv0 : C v0) : Ao (qV C h) (f_cLine_init v0 h) := by
  unfold f_cLine_init
  have F0 := Av.rf c
  refine ao_it ?_ ao_no
  refine ao_nm F0 (fun h2 F1 => ?_)
  refine ao_R F1 Cv0 (F0.cl.n) (fun h4 F2 => ?_)
  refine ao_it ?_ ao_no
  refine ao_nw F2 (fun h6 F3 => ?_)
  refine ao_R F3 Cv0 (F2.cl.n) (fun h8 F4 => ?_)
  refine ao_it ?_ ao_no
  refine ao_nw F4 (fun h10 F5 => ?_)
  refine ao_R F5 Cv0 (F4.cl.n) (fun h12 F6 => ?_)
  exact ao_so F6
theorem av_cP_init {C : Nat → Prop} {v0 : Nat} {h : Hp} (c : Cl C h) (Cv0 : C v0) : Ao (qV C h) (f_cP_init v0 h) := by
  unfold f_cP_init
  have F0 := Av.rf c
  refine ao_it ?_ ao_no
  refine ao_nw F0 (fun h2 F1 => ?_)
  refine ao_R F1 Cv0 (F0.cl.n) (fun h4 F2 => ?_)
  refine ao_it ?_ ao_no
  refine ao_nw F2 (fun h6 F3 => ?_)
  refine ao_R F3 Cv0 (F2.cl.n) (fun h8 F4 => ?_)
  refine ao_it ?_ ao_no
  refine ao_nw F4 (fun h10 F5 => ?_)
  refine ao_R F5 Cv0 (F4.cl.n) (fun h12 F6 => ?_)
  refine ao_it ?_ ao_no
  refine ao_nw F6 (fun h14 F7 => ?_)
  refine ao_it ?_ ao_no
  refine ao_nw F7 (fun h17 F8 => ?_)
  refine ao_b1 F8 (av_cSide_init (F8.cl) (F7.cl.n)) (fun h19 F9 => ?_)
  refine ao_it ?_ ao_no
  refine ao_R F9 (F6.cl.n) (F7.cl.n) (fun h22 F10 => ?_)
  refine ao_it ?_ ao_no
  refine ao_nw F10 (fun h24 F11 => ?_)
  refine ao_b1 F11 (av_cSide_init (F11.cl) (F10.cl.n)) (fun h26 F12 => ?_)
  refine ao_it ?_ ao_no
  refine ao_R F12 (F6.cl.n) (F10.cl.n) (fun h29 F13 => ?_)
  refine ao_R F13 Cv0 (F6.cl.n) (fun h30 F14 => ?_)
  refine ao_it ?_ ao_no
  refine ao_nw F14 (fun h32 F15 => ?_)
  refine ao_it ?_ ao_no
  refine ao_nw F15 (fun h35 F16 => ?_)
  refine ao_b1 F16 (av_cLine_init (F16.cl) (F15.cl.n)) (fun h37 F17 => ?_)
  refine ao_it ?_ ao_no
  refine ao_R F17 (F14.cl.n) (F15.cl.n) (fun h40 F18 => ?_)
  refine ao_it ?_ ao_no
  refine ao_nw F18 (fun h42 F19 => ?_)
  refine ao_b1 F19 (av_cLine_init (F19.cl) (F18.cl.n)) (fun h44 F20 => ?_)
  refine ao_it ?_ ao_no
  refine ao_R F20 (F14.cl.n) (F18.cl.n) (fun h47 F21 => ?_)
  refine ao_R F21 Cv0 (F14.cl.n) (fun h48 F22 => ?_)
  refine ao_it ?_ ao_no
  refine ao_nm F22 (fun h50 F23 => ?_)
  refine ao_R F23 Cv0 (F22.cl.n) (fun h52 F24 => ?_)
  exact ao_so F24
theorem av_cP_need {C : Nat → Prop} {v0 : Int} {h : Hp} (c : Cl C h) : Ao (qTV C h) (f_cP_need v0 h) := by
  unfold f_cP_need
  exact av_guard c
theorem av_cP_ready {C : Nat → Prop} {v0 : Int} {h : Hp} (c : Cl C h) : Ao (qTV C h) (f_cP_ready v0 h) := by
  unfold f_cP_ready
  exact av_guard c
theorem av_cP_there {C : Nat → Prop} {v0 : Int} {h : Hp} (c : Cl C h) : Ao (qTV C h) (f_cP_there v0 h) := by
  unfold f_cP_there
  exact av_guard c
theorem av_cP_in {C : Nat → Prop} {v0 : Int} {v2 : Int} {v4 : Int} {h : Hp} (c : Cl C h) : Ao (qI C h) (f_cP_in v0 v2 v4 h) := by
  unfold f_cP_in
  have F0 := Av.rf c
  refine ao_it ?_ ?_
  · exact ao_so F0
  · refine ao_it ?_ ?_
    · exact ao_so F0
    · exact ao_so F0
theorem av_cP_of {C : Nat → Prop} {v0 : Nat} {v1 : Int} {h : Hp} (c : Cl C h) (Cv0 : C v0) : Ao (qTR C h) (f_cP_of v0 v1 h) := by
  unfold f_cP_of
  have F0 := Av.rf c
  refine ao_b2 F0 (av_cP_in (F0.cl)) (fun r3 h1 F1 => ?_)
  refine ao_bt F1 (av_cP_need (F1.cl)) (fun a6 h7 F2 => ?_) (fun h4 F3 => ?_)
  · exact ao_so F2
  · refine ao_it ao_no ?_
    refine ao_it ?_ ao_no
    exact ao_so ⟨F3, (F3.cl.r (F3.cl.r Cv0))⟩
theorem av_cP_on {C : Nat → Prop} {v0 : Nat} {v1 : Int} {v2 : Int} {h : Hp} (c : Cl C h) (Cv0 : C v0) : Ao (qTR C h) (f_cP_on v0 v1 v2 h) := by
  unfold f_cP_on
  have F0 := Av.rf c
  refine ao_b2 F0 (av_cP_in (F0.cl)) (fun r3 h1 F1 => ?_)
  refine ao_bt F1 (av_cP_need (F1.cl)) (fun a6 h7 F2 => ?_) (fun h4 F3 => ?_)
  · exact ao_so F2
  · refine ao_it ao_no ?_
    refine ao_it ?_ ao_no
    refine ao_it ao_no ?_
    refine ao_b2 F3 (av_cP_in (F3.cl)) (fun r14 h12 F4 => ?_)
    refine ao_bt F4 (av_cP_there (F4.cl)) (fun a17 h18 F5 => ?_) (fun h15 F6 => ?_)
    · exact ao_so F5
    · refine ao_it ao_no ?_
      refine ao_it ?_ ao_no
      exact ao_so ⟨F6, (F6.cl.r (F6.cl.r Cv0))⟩
theorem av_cP_used {C : Nat → Prop} {v0 : Nat} {h : Hp} (c : Cl C h) (Cv0 : C v0) : Ao (qI C h) (f_cP_used v0 h) := by
  unfold f_cP_used
  have F0 := Av.rf c
  refine ao_v (fun y1 => ?_)
  refine ao_I F0 Cv0 (fun h2 F2 => ?_)
  exact ao_so F2
theorem av_cP_feed_b76 {C : Nat → Prop} {k23 : Nat → Int → Int → Int → Int → Int → Int → Hp → Option ((Int × Hp) ⊕ (Nat × Hp))} (hk23 : ∀ (v0 : Nat) (v1 : Int) (v2 : Int) (v3 : Int) (v4 : Int) (v5 : Int) (v6 : Int) (h : Hp), Cl C h → C v0 → Ao (qTI C h) (k23 v0 v1 v2 v3 v4 v5 v6 h)) {v0 : Nat} {v1 : Int} {v2 : Int} {v3 : Int} {v4 : Int} {v5 : Int} {v6 : Int} {s0 : Int} {h : Hp} (c : Cl C h) (Cv0 : C v0) : Ao (qTI C h) (f_cP_feed_b76 k23 v0 v1 v2 v3 v4 v5 v6 s0 h) := by
  unfold f_cP_feed_b76
  have F0 := Av.rf c
  refine ao_it ao_no ?_
  refine ao_it ?_ ao_no
  refine ao_I F0 (F0.cl.r Cv0) (fun h9 F1 => ?_)
  exact ao_jTI F1 (hk23 _ _ _ _ _ _ _ _ (F1.cl) Cv0)
theorem av_cP_feed_b23 {C : Nat → Prop} {k23 : Nat → Int → Int → Int → Int → Int → Int → Hp → Option ((Int × Hp) ⊕ (Nat × Hp))} (hk23 : ∀ (v0 : Nat) (v1 : Int) (v2 : Int) (v3 : Int) (v4 : Int) (v5 : Int) (v6 : Int) (h : Hp), Cl C h → C v0 → Ao (qTI C h) (k23 v0 v1 v2 v3 v4 v5 v6 h)) {v0 : Nat} {v1 : Int} {v2 : Int} {v3 : Int} {v4 : Int} {v5 : Int} {v6 : Int} {h : Hp} (c : Cl C h) (Cv0 : C v0) : Ao (qTI C h) (f_cP_feed_b23 k23 v0 v1 v2 v3 v4 v5 v6 h) := by
  unfold f_cP_feed_b23
  have F0 := Av.rf c
  refine ao_it ?_ ?_
  · refine ao_I F0 Cv0 (fun h6 F1 => ?_)
    exact ao_so F1
  · refine ao_it ?_ ?_
    · refine ao_it ?_ ?_
      · refine ao_it ?_ ?_
        · refine ao_it ?_ ?_
          · exact ao_jTI F0 (av_cP_feed_b76 hk23 (F0.cl) Cv0)
          · exact ao_jTI F0 (av_cP_feed_b76 hk23 (F0.cl) Cv0)
        · exact ao_jTI F0 (av_cP_feed_b76 hk23 (F0.cl) Cv0)
      · exact ao_jTI F0 (av_cP_feed_b76 hk23 (F0.cl) Cv0)
    · exact ao_jTI F0 (av_cP_feed_b76 hk23 (F0.cl) Cv0)
theorem av_cP_feed_b23_lp {C : Nat → Prop} (n : Nat) : ∀ {v0 : Nat} {v1 : Int} {v2 : Int} {v3 : Int} {v4 : Int} {v5 : Int} {v6 : Int} {h : Hp}, Cl C h → C v0 → Ao (qTI C h) (f_cP_feed_b23_lp n v0 v1 v2 v3 v4 v5 v6 h) := by
  induction n with
  | zero => intros; exact ao_no
  | succ n ih => intro v0 v1 v2 v3 v4 v5 v6 h c Cv0; exact av_cP_feed_b23 (fun _ _ _ _ _ _ _ h => ih) c Cv0
theorem av_cP_feed_b17 {C : Nat → Prop} {v0 : Nat} {v1 : Int} {v2 : Int} {v3 : Int} {v4 : Int} {v5 : Int} {s0 : Int} {h : Hp} (c : Cl C h) (Cv0 : C v0) : Ao (qTI C h) (f_cP_feed_b17 v0 v1 v2 v3 v4 v5 s0 h) := by
  unfold f_cP_feed_b17
  have F0 := Av.rf c
  refine ao_bt F0 (av_cP_ready (F0.cl)) (fun a3 h4 F1 => ?_) (fun h1 F2 => ?_)
  · exact ao_so F1
  · exact ao_jTI F2 (av_cP_feed_b23_lp FU (F2.cl) Cv0)
theorem av_cP_feed {C : Nat → Prop} {v0 : Nat} {v1 : Int} {v2 : Int} {v3 : Int} {v4 : Int} {v5 : Int} {h : Hp} (c : Cl C h) (Cv0 : C v0) : Ao (qTI C h) (f_cP_feed v0 v1 v2 v3 v4 v5 h) := by
  unfold f_cP_feed
  have F0 := Av.rf c
  refine ao_it ?_ ?_
  · exact ao_jTI F0 (av_cP_feed_b17 (F0.cl) Cv0)
  · exact ao_jTI F0 (av_cP_feed_b17 (F0.cl) Cv0)
theorem av_cP_end {C : Nat → Prop} {v0 : Nat} {v1 : Int} {h : Hp} (c : Cl C h) (Cv0 : C v0) : Ao (qTI C h) (f_cP_end v0 v1 h) := by
  unfold f_cP_end
  have F0 := Av.rf c
  refine ao_b2 F0 (av_cP_in (F0.cl)) (fun r3 h1 F1 => ?_)
  refine ao_bt F1 (av_cP_need (F1.cl)) (fun a6 h7 F2 => ?_) (fun h4 F3 => ?_)
  · exact ao_so F2
  · refine ao_v (fun y9 => ?_)
    refine ao_I F3 Cv0 (fun h10 F5 => ?_)
    exact ao_so F5
theorem av_cP_told_b64 {C : Nat → Prop} {v0 : Nat} {v1 : Int} {v2 : Int} {s0 : Nat} {s1 : Int} {s2 : Nat} {h : Hp} (c : Cl C h) (Cv0 : C v0) (Cs2 : C s2) : Ao (qTV C h) (f_cP_told_b64 v0 v1 v2 s0 s1 s2 h) := by
  unfold f_cP_told_b64
  have F0 := Av.rf c
  refine ao_b2 F0 (av_cP_used (F0.cl) Cv0) (fun r24 h22 F1 => ?_)
  refine ao_it ao_no ?_
  refine ao_it ao_no ?_
  refine ao_it ?_ ao_no
  refine ao_cI F1 Cs2 (fun h28 F2 => ?_)
  refine ao_it ao_no ?_
  refine ao_it ?_ ao_no
  refine ao_it ao_no ?_
  refine ao_it ?_ ao_no
  refine ao_I F2 (F2.cl.r (F2.cl.r Cv0)) (fun h33 F3 => ?_)
  exact ao_so F3
theorem av_cP_told_b35 {C : Nat → Prop} {v0 : Nat} {v1 : Int} {v2 : Int} {v3 : Nat} {s0 : Int} {h : Hp} (c : Cl C h) (Cv0 : C v0) (Cv3 : C v3) : Ao (qTV C h) (f_cP_told_b35 v0 v1 v2 v3 s0 h) := by
  unfold f_cP_told_b35
  have F0 := Av.rf c
  refine ao_bt F0 (av_cP_ready (F0.cl)) (fun a15 h16 F1 => ?_) (fun h13 F2 => ?_)
  · exact ao_so F1
  · refine ao_it ?_ ?_
    · refine ao_it ao_no ?_
      refine ao_it ao_no ?_
      exact ao_jTV F2 (av_cP_told_b64 (F2.cl) Cv0 (F2.cl.r (F2.cl.r Cv3)))
    · refine ao_it ao_no ?_
      refine ao_it ao_no ?_
      exact ao_jTV F2 (av_cP_told_b64 (F2.cl) Cv0 (F2.cl.r (F2.cl.r Cv3)))
theorem av_cP_told_b20 {C : Nat → Prop} {v0 : Nat} {v1 : Int} {v2 : Int} {v3 : Nat} {s0 : Int} {h : Hp} (c : Cl C h) (Cv0 : C v0) (Cv3 : C v3) : Ao (qTV C h) (f_cP_told_b20 v0 v1 v2 v3 s0 h) := by
  unfold f_cP_told_b20
  have F0 := Av.rf c
  refine ao_bt F0 (av_cP_need (F0.cl)) (fun a9 h10 F1 => ?_) (fun h7 F2 => ?_)
  · exact ao_so F1
  · refine ao_it ao_no ?_
    refine ao_it ?_ ?_
    · exact ao_jTV F2 (av_cP_told_b35 (F2.cl) Cv0 Cv3)
    · exact ao_jTV F2 (av_cP_told_b35 (F2.cl) Cv0 Cv3)
theorem av_cP_told {C : Nat → Prop} {v0 : Nat} {v1 : Int} {v2 : Int} {h : Hp} (c : Cl C h) (Cv0 : C v0) : Ao (qTV C h) (f_cP_told v0 v1 v2 h) := by
  unfold f_cP_told
  have F0 := Av.rf c
  refine ao_bt2R F0 (av_cP_of (F0.cl) Cv0) (fun a3 h4 F1 => ?_) (fun r6 h1 F2 Cr6 => ?_)
  · exact ao_so F1
  · refine ao_it ?_ ?_
    · exact ao_jTV F2 (av_cP_told_b20 (F2.cl) Cv0 Cr6)
    · exact ao_jTV F2 (av_cP_told_b20 (F2.cl) Cv0 Cr6)
theorem av_cP_key {C : Nat → Prop} {v0 : Nat} {v1 : Int} {h : Hp} (c : Cl C h) (Cv0 : C v0) : Ao (qTV C h) (f_cP_key v0 v1 h) := by
  unfold f_cP_key
  have F0 := Av.rf c
  refine ao_bt F0 (av_cP_told (F0.cl) Cv0) (fun a3 h4 F1 => ?_) (fun h1 F2 => ?_)
  · exact ao_so F1
  · exact ao_so F2
theorem av_cP_random {C : Nat → Prop} {v0 : Nat} {v1 : Int} {h : Hp} (c : Cl C h) (Cv0 : C v0) : Ao (qTV C h) (f_cP_random v0 v1 h) := by
  unfold f_cP_random
  have F0 := Av.rf c
  refine ao_bt F0 (av_cP_told (F0.cl) Cv0) (fun a3 h4 F1 => ?_) (fun h1 F2 => ?_)
  · exact ao_so F1
  · exact ao_so F2
theorem av_cP_parameter_b82 {C : Nat → Prop} {v0 : Nat} {v2 : Int} {v3 : Int} {v4 : Nat} {s0 : Int} {h : Hp} (c : Cl C h) (Cv4 : C v4) : Ao (qTV C h) (f_cP_parameter_b82 v0 v2 v3 v4 s0 h) := by
  unfold f_cP_parameter_b82
  have F0 := Av.rf c
  refine ao_bt F0 (av_cP_ready (F0.cl)) (fun a18 h19 F1 => ?_) (fun h16 F2 => ?_)
  · exact ao_so F1
  · refine ao_it ao_no ?_
    refine ao_it ao_no ?_
    refine ao_it ?_ ao_no
    refine ao_I F2 (F2.cl.r Cv4) (fun h24 F3 => ?_)
    refine ao_b1 F3 (av_cSide_grants (F3.cl) Cv4) (fun h25 F4 => ?_)
    exact ao_so F4
theorem av_cP_parameter_b66 {C : Nat → Prop} {v0 : Nat} {v2 : Int} {v3 : Int} {v4 : Nat} {s0 : Int} {h : Hp} (c : Cl C h) (Cv4 : C v4) : Ao (qTV C h) (f_cP_parameter_b66 v0 v2 v3 v4 s0 h) := by
  unfold f_cP_parameter_b66
  have F0 := Av.rf c
  refine ao_bt F0 (av_cP_need (F0.cl)) (fun a12 h13 F1 => ?_) (fun h10 F2 => ?_)
  · exact ao_so F1
  · refine ao_it ao_no ?_
    refine ao_it ?_ ?_
    · exact ao_jTV F2 (av_cP_parameter_b82 (F2.cl) Cv4)
    · exact ao_jTV F2 (av_cP_parameter_b82 (F2.cl) Cv4)
theorem av_cP_parameter_b65 {C : Nat → Prop} {v0 : Nat} {v2 : Int} {v3 : Int} {v4 : Nat} {h : Hp} (c : Cl C h) (Cv4 : C v4) : Ao (qTV C h) (f_cP_parameter_b65 v0 v2 v3 v4 h) := by
  unfold f_cP_parameter_b65
  have F0 := Av.rf c
  exact ao_jTV F0 (av_cP_parameter_b66 (F0.cl) Cv4)
theorem av_cP_parameter_b55 {C : Nat → Prop} {v0 : Nat} {v2 : Int} {v3 : Int} {v4 : Nat} {s0 : Int} {s1 : Int} {s2 : Int} {h : Hp} (c : Cl C h) (Cv4 : C v4) : Ao (qTV C h) (f_cP_parameter_b55 v0 v2 v3 v4 s0 s1 s2 h) := by
  unfold f_cP_parameter_b55
  have F0 := Av.rf c
  refine ao_b2 F0 (av_cP_in (F0.cl)) (fun r29 h27 F1 => ?_)
  refine ao_it ?_ ?_
  · exact ao_jTV F1 (av_cP_parameter_b65 (F1.cl) Cv4)
  · exact ao_jTV F1 (av_cP_parameter_b66 (F1.cl) Cv4)
theorem av_cP_parameter_b26 {C : Nat → Prop} {v0 : Nat} {v2 : Int} {v3 : Int} {v4 : Nat} {h : Hp} (c : Cl C h) (Cv4 : C v4) : Ao (qTV C h) (f_cP_parameter_b26 v0 v2 v3 v4 h) := by
  unfold f_cP_parameter_b26
  have F0 := Av.rf c
  refine ao_it ?_ ?_
  · refine ao_it ?_ ?_
    · exact ao_jTV F0 (av_cP_parameter_b55 (F0.cl) Cv4)
    · exact ao_jTV F0 (av_cP_parameter_b55 (F0.cl) Cv4)
  · exact ao_jTV F0 (av_cP_parameter_b55 (F0.cl) Cv4)
theorem av_cP_parameter {C : Nat → Prop} {v0 : Nat} {v1 : Int} {v2 : Int} {v3 : Int} {h : Hp} (c : Cl C h) (Cv0 : C v0) : Ao (qTV C h) (f_cP_parameter v0 v1 v2 v3 h) := by
  unfold f_cP_parameter
  have F0 := Av.rf c
  refine ao_bt2R F0 (av_cP_of (F0.cl) Cv0) (fun a3 h4 F1 => ?_) (fun r6 h1 F2 Cr6 => ?_)
  · exact ao_so F1
  · refine ao_it ?_ ?_
    · exact ao_jTV F2 (av_cP_parameter_b26 (F2.cl) Cr6)
    · refine ao_b2 F2 (av_cP_in (F2.cl)) (fun r9 h7 F3 => ?_)
      refine ao_it ?_ ?_
      · exact ao_jTV F3 (av_cP_parameter_b65 (F3.cl) Cr6)
      · exact ao_jTV F3 (av_cP_parameter_b26 (F3.cl) Cr6)
theorem av_cHash_begin {C : Nat → Prop} {v0 : Nat} {h : Hp} (c : Cl C h) (Cv0 : C v0) : Ao (qV C h) (f_cHash_begin v0 h) := by
  unfold f_cHash_begin
  have F0 := Av.rf c
  refine ao_it ao_no ?_
  refine ao_it ao_no ?_
  refine ao_it ?_ ao_no
  refine ao_cI F0 (F0.cl.r Cv0) (fun h4 F1 => ?_)
  refine ao_I F1 Cv0 (fun h5 F2 => ?_)
  refine ao_J F2 Cv0 (fun h6 F3 => ?_)
  exact ao_so F3
theorem av_jInteger_rotateRight {C : Nat → Prop} {v0 : Int} {v1 : Int} {h : Hp} (c : Cl C h) : Ao (qI C h) (f_jInteger_rotateRight v0 v1 h) := by
  unfold f_jInteger_rotateRight
  have F0 := Av.rf c
  exact ao_so F0
theorem av_cHash_spread_b89 {C : Nat → Prop} {k89 : Nat → Int → Hp → Option (Hp)} (hk89 : ∀ (v0 : Nat) (v1 : Int) (h : Hp), Cl C h → C v0 → Ao (qV C h) (k89 v0 v1 h)) {v0 : Nat} {v1 : Int} {h : Hp} (c : Cl C h) (Cv0 : C v0) : Ao (qV C h) (f_cHash_spread_b89 k89 v0 v1 h) := by
  unfold f_cHash_spread_b89
  have F0 := Av.rf c
  refine ao_it ?_ ?_
  · exact ao_so F0
  · refine ao_it ao_no ?_
    refine ao_it ?_ ao_no
    refine ao_v (fun y11 => ?_)
    refine ao_it ?_ ao_no
    refine ao_v (fun y13 => ?_)
    refine ao_b2 F0 (av_jInteger_rotateRight (F0.cl)) (fun r16 h14 F3 => ?_)
    refine ao_b2 F3 (av_jInteger_rotateRight (F3.cl)) (fun r19 h17 F4 => ?_)
    refine ao_v (fun y20 => ?_)
    refine ao_b2 F4 (av_jInteger_rotateRight (F4.cl)) (fun r23 h21 F6 => ?_)
    refine ao_b2 F6 (av_jInteger_rotateRight (F6.cl)) (fun r26 h24 F7 => ?_)
    refine ao_v (fun y27 => ?_)
    refine ao_it ao_no ?_
    refine ao_it ?_ ao_no
    refine ao_it ?_ ao_no
    refine ao_it ?_ ao_no
    refine ao_I F7 (F7.cl.r Cv0) (fun h32 F9 => ?_)
    exact ao_jV F9 (hk89 _ _ _ (F9.cl) Cv0)
theorem av_cHash_spread_b89_lp {C : Nat → Prop} (n : Nat) : ∀ {v0 : Nat} {v1 : Int} {h : Hp}, Cl C h → C v0 → Ao (qV C h) (f_cHash_spread_b89_lp n v0 v1 h) := by
  induction n with
  | zero => intros; exact ao_no
  | succ n ih => intro v0 v1 h c Cv0; exact av_cHash_spread_b89 (fun _ _ h => ih) c Cv0
theorem av_cHash_spread_b2 {C : Nat → Prop} {k2 : Nat → Int → Hp → Option (Hp)} (hk2 : ∀ (v0 : Nat) (v1 : Int) (h : Hp), Cl C h → C v0 → Ao (qV C h) (k2 v0 v1 h)) {v0 : Nat} {v1 : Int} {h : Hp} (c : Cl C h) (Cv0 : C v0) : Ao (qV C h) (f_cHash_spread_b2 k2 v0 v1 h) := by
  unfold f_cHash_spread_b2
  have F0 := Av.rf c
  refine ao_it ?_ ?_
  · exact ao_jV F0 (av_cHash_spread_b89_lp FU (F0.cl) Cv0)
  · refine ao_it ao_no ?_
    refine ao_it ?_ ao_no
    refine ao_it ?_ ao_no
    refine ao_it ?_ ao_no
    refine ao_it ?_ ao_no
    refine ao_it ao_no ?_
    refine ao_it ?_ ao_no
    refine ao_I F0 (F0.cl.r Cv0) (fun h8 F1 => ?_)
    exact ao_jV F1 (hk2 _ _ _ (F1.cl) Cv0)
theorem av_cHash_spread_b2_lp {C : Nat → Prop} (n : Nat) : ∀ {v0 : Nat} {v1 : Int} {h : Hp}, Cl C h → C v0 → Ao (qV C h) (f_cHash_spread_b2_lp n v0 v1 h) := by
  induction n with
  | zero => intros; exact ao_no
  | succ n ih => intro v0 v1 h c Cv0; exact av_cHash_spread_b2 (fun _ _ h => ih) c Cv0
theorem av_cHash_spread {C : Nat → Prop} {v0 : Nat} {h : Hp} (c : Cl C h) (Cv0 : C v0) : Ao (qV C h) (f_cHash_spread v0 h) := by
  unfold f_cHash_spread
  have F0 := Av.rf c
  exact ao_jV F0 (av_cHash_spread_b2_lp FU (F0.cl) Cv0)
theorem av_cHash_work_b70 {C : Nat → Prop} {k70 : Nat → Int → Int → Int → Int → Int → Int → Int → Int → Int → Hp → Option (Hp)} (hk70 : ∀ (v0 : Nat) (v1 : Int) (v2 : Int) (v3 : Int) (v4 : Int) (v5 : Int) (v6 : Int) (v7 : Int) (v8 : Int) (v9 : Int) (h : Hp), Cl C h → C v0 → Ao (qV C h) (k70 v0 v1 v2 v3 v4 v5 v6 v7 v8 v9 h)) {v0 : Nat} {v1 : Int} {v2 : Int} {v3 : Int} {v4 : Int} {v5 : Int} {v6 : Int} {v7 : Int} {v8 : Int} {v9 : Int} {h : Hp} (c : Cl C h) (Cv0 : C v0) : Ao (qV C h) (f_cHash_work_b70 k70 v0 v1 v2 v3 v4 v5 v6 v7 v8 v9 h) := by
  unfold f_cHash_work_b70
  have F0 := Av.rf c
  refine ao_it ?_ ?_
  · refine ao_it ao_no ?_
    refine ao_it ?_ ao_no
    refine ao_it ?_ ao_no
    refine ao_I F0 (F0.cl.r Cv0) (fun h23 F1 => ?_)
    refine ao_it ao_no ?_
    refine ao_it ?_ ao_no
    refine ao_it ?_ ao_no
    refine ao_I F1 (F1.cl.r Cv0) (fun h27 F2 => ?_)
    refine ao_it ao_no ?_
    refine ao_it ?_ ao_no
    refine ao_it ?_ ao_no
    refine ao_I F2 (F2.cl.r Cv0) (fun h31 F3 => ?_)
    refine ao_it ao_no ?_
    refine ao_it ?_ ao_no
    refine ao_it ?_ ao_no
    refine ao_I F3 (F3.cl.r Cv0) (fun h35 F4 => ?_)
    refine ao_it ao_no ?_
    refine ao_it ?_ ao_no
    refine ao_it ?_ ao_no
    refine ao_I F4 (F4.cl.r Cv0) (fun h39 F5 => ?_)
    refine ao_it ao_no ?_
    refine ao_it ?_ ao_no
    refine ao_it ?_ ao_no
    refine ao_I F5 (F5.cl.r Cv0) (fun h43 F6 => ?_)
    refine ao_it ao_no ?_
    refine ao_it ?_ ao_no
    refine ao_it ?_ ao_no
    refine ao_I F6 (F6.cl.r Cv0) (fun h47 F7 => ?_)
    refine ao_it ao_no ?_
    refine ao_it ?_ ao_no
    refine ao_it ?_ ao_no
    refine ao_I F7 (F7.cl.r Cv0) (fun h51 F8 => ?_)
    exact ao_so F8
  · refine ao_b2 F0 (av_jInteger_rotateRight (F0.cl)) (fun r54 h52 F9 => ?_)
    refine ao_b2 F9 (av_jInteger_rotateRight (F9.cl)) (fun r57 h55 F10 => ?_)
    refine ao_b2 F10 (av_jInteger_rotateRight (F10.cl)) (fun r60 h58 F11 => ?_)
    refine ao_it ao_no ?_
    refine ao_it ?_ ao_no
    refine ao_it ao_no ?_
    refine ao_it ?_ ao_no
    refine ao_v (fun y65 => ?_)
    refine ao_b2 F11 (av_jInteger_rotateRight (F11.cl)) (fun r68 h66 F13 => ?_)
    refine ao_b2 F13 (av_jInteger_rotateRight (F13.cl)) (fun r71 h69 F14 => ?_)
    refine ao_b2 F14 (av_jInteger_rotateRight (F14.cl)) (fun r74 h72 F15 => ?_)
    refine ao_v (fun y75 => ?_)
    refine ao_v (fun y76 => ?_)
    refine ao_v (fun y77 => ?_)
    exact ao_jV F15 (hk70 _ _ _ _ _ _ _ _ _ _ _ (F15.cl) Cv0)
theorem av_cHash_work_b70_lp {C : Nat → Prop} (n : Nat) : ∀ {v0 : Nat} {v1 : Int} {v2 : Int} {v3 : Int} {v4 : Int} {v5 : Int} {v6 : Int} {v7 : Int} {v8 : Int} {v9 : Int} {h : Hp}, Cl C h → C v0 → Ao (qV C h) (f_cHash_work_b70_lp n v0 v1 v2 v3 v4 v5 v6 v7 v8 v9 h) := by
  induction n with
  | zero => intros; exact ao_no
  | succ n ih => intro v0 v1 v2 v3 v4 v5 v6 v7 v8 v9 h c Cv0; exact av_cHash_work_b70 (fun _ _ _ _ _ _ _ _ _ _ h => ih) c Cv0
theorem av_cHash_work {C : Nat → Prop} {v0 : Nat} {h : Hp} (c : Cl C h) (Cv0 : C v0) : Ao (qV C h) (f_cHash_work v0 h) := by
  unfold f_cHash_work
  have F0 := Av.rf c
  refine ao_b1 F0 (av_cHash_spread (F0.cl) Cv0) (fun h1 F1 => ?_)
  refine ao_it ao_no ?_
  refine ao_it ?_ ao_no
  refine ao_v (fun y5 => ?_)
  refine ao_it ?_ ao_no
  refine ao_v (fun y7 => ?_)
  refine ao_it ?_ ao_no
  refine ao_v (fun y9 => ?_)
  refine ao_it ?_ ao_no
  refine ao_v (fun y11 => ?_)
  refine ao_it ?_ ao_no
  refine ao_v (fun y13 => ?_)
  refine ao_it ?_ ao_no
  refine ao_v (fun y15 => ?_)
  refine ao_it ?_ ao_no
  refine ao_v (fun y17 => ?_)
  refine ao_it ?_ ao_no
  refine ao_v (fun y19 => ?_)
  exact ao_jV F1 (av_cHash_work_b70_lp FU (F1.cl) Cv0)
theorem av_cHash_addByte {C : Nat → Prop} {v0 : Nat} {v1 : Int} {h : Hp} (c : Cl C h) (Cv0 : C v0) : Ao (qV C h) (f_cHash_addByte v0 v1 h) := by
  unfold f_cHash_addByte
  have F0 := Av.rf c
  refine ao_it ao_no ?_
  refine ao_it ?_ ao_no
  refine ao_I F0 (F0.cl.r Cv0) (fun h3 F1 => ?_)
  refine ao_I F1 Cv0 (fun h4 F2 => ?_)
  refine ao_it ?_ ?_
  · exact ao_so F2
  · refine ao_b1 F2 (av_cHash_work (F2.cl) Cv0) (fun h5 F3 => ?_)
    refine ao_I F3 Cv0 (fun h7 F4 => ?_)
    exact ao_so F4
theorem av_cHash_add_b3 {C : Nat → Prop} {k3 : Nat → Nat → Int → Int → Int → Hp → Option (Hp)} (hk3 : ∀ (v0 : Nat) (v1 : Nat) (v2 : Int) (v3 : Int) (v4 : Int) (h : Hp), Cl C h → C v0 → Ao (qV C h) (k3 v0 v1 v2 v3 v4 h)) {v0 : Nat} {v1 : Nat} {v2 : Int} {v3 : Int} {v4 : Int} {h : Hp} (c : Cl C h) (Cv0 : C v0) : Ao (qV C h) (f_cHash_add_b3 k3 v0 v1 v2 v3 v4 h) := by
  unfold f_cHash_add_b3
  have F0 := Av.rf c
  refine ao_it ?_ ?_
  · refine ao_J F0 Cv0 (fun h1 F1 => ?_)
    exact ao_so F1
  · refine ao_it ao_no ?_
    refine ao_it ?_ ao_no
    refine ao_b1 F0 (av_cHash_addByte (F0.cl) Cv0) (fun h4 F2 => ?_)
    exact ao_jV F2 (hk3 _ _ _ _ _ _ (F2.cl) Cv0)
theorem av_cHash_add_b3_lp {C : Nat → Prop} (n : Nat) : ∀ {v0 : Nat} {v1 : Nat} {v2 : Int} {v3 : Int} {v4 : Int} {h : Hp}, Cl C h → C v0 → Ao (qV C h) (f_cHash_add_b3_lp n v0 v1 v2 v3 v4 h) := by
  induction n with
  | zero => intros; exact ao_no
  | succ n ih => intro v0 v1 v2 v3 v4 h c Cv0; exact av_cHash_add_b3 (fun _ _ _ _ _ h => ih) c Cv0
theorem av_cHash_add {C : Nat → Prop} {v0 : Nat} {v1 : Nat} {v2 : Int} {v3 : Int} {h : Hp} (c : Cl C h) (Cv0 : C v0) : Ao (qV C h) (f_cHash_add v0 v1 v2 v3 h) := by
  unfold f_cHash_add
  have F0 := Av.rf c
  exact ao_jV F0 (av_cHash_add_b3_lp FU (F0.cl) Cv0)
theorem av_cHash_end_b57 {C : Nat → Prop} {k57 : Nat → Nat → Int → Int → Hp → Option (Hp)} (hk57 : ∀ (v0 : Nat) (v1 : Nat) (v2 : Int) (v3 : Int) (h : Hp), Cl C h → C v1 → Ao (qV C h) (k57 v0 v1 v2 v3 h)) {v0 : Nat} {v1 : Nat} {v2 : Int} {v3 : Int} {h : Hp} (c : Cl C h) (Cv1 : C v1) : Ao (qV C h) (f_cHash_end_b57 k57 v0 v1 v2 v3 h) := by
  unfold f_cHash_end_b57
  have F0 := Av.rf c
  refine ao_it ?_ ?_
  · exact ao_so F0
  · refine ao_it ao_no ?_
    refine ao_it ?_ ao_no
    refine ao_it ao_no ?_
    refine ao_it ?_ ao_no
    refine ao_I F0 Cv1 (fun h11 F1 => ?_)
    exact ao_jV F1 (hk57 _ _ _ _ _ (F1.cl) Cv1)
theorem av_cHash_end_b57_lp {C : Nat → Prop} (n : Nat) : ∀ {v0 : Nat} {v1 : Nat} {v2 : Int} {v3 : Int} {h : Hp}, Cl C h → C v1 → Ao (qV C h) (f_cHash_end_b57_lp n v0 v1 v2 v3 h) := by
  induction n with
  | zero => intros; exact ao_no
  | succ n ih => intro v0 v1 v2 v3 h c Cv1; exact av_cHash_end_b57 (fun _ _ _ _ h => ih) c Cv1
theorem av_cHash_end_b27 {C : Nat → Prop} {k27 : Nat → Nat → Int → Int → Hp → Option (Hp)} (hk27 : ∀ (v0 : Nat) (v1 : Nat) (v2 : Int) (v3 : Int) (h : Hp), Cl C h → C v0 → C v1 → Ao (qV C h) (k27 v0 v1 v2 v3 h)) {v0 : Nat} {v1 : Nat} {v2 : Int} {v3 : Int} {h : Hp} (c : Cl C h) (Cv0 : C v0) (Cv1 : C v1) : Ao (qV C h) (f_cHash_end_b27 k27 v0 v1 v2 v3 h) := by
  unfold f_cHash_end_b27
  have F0 := Av.rf c
  refine ao_it ?_ ?_
  · exact ao_jV F0 (av_cHash_end_b57_lp FU (F0.cl) Cv1)
  · refine ao_b1 F0 (av_cHash_addByte (F0.cl) Cv0) (fun h5 F1 => ?_)
    exact ao_jV F1 (hk27 _ _ _ _ _ (F1.cl) Cv0 Cv1)
theorem av_cHash_end_b27_lp {C : Nat → Prop} (n : Nat) : ∀ {v0 : Nat} {v1 : Nat} {v2 : Int} {v3 : Int} {h : Hp}, Cl C h → C v0 → C v1 → Ao (qV C h) (f_cHash_end_b27_lp n v0 v1 v2 v3 h) := by
  induction n with
  | zero => intros; exact ao_no
  | succ n ih => intro v0 v1 v2 v3 h c Cv0 Cv1; exact av_cHash_end_b27 (fun _ _ _ _ h => ih) c Cv0 Cv1
theorem av_cHash_end_b7 {C : Nat → Prop} {k7 : Nat → Nat → Int → Hp → Option (Hp)} (hk7 : ∀ (v0 : Nat) (v1 : Nat) (v2 : Int) (h : Hp), Cl C h → C v0 → C v1 → Ao (qV C h) (k7 v0 v1 v2 h)) {v0 : Nat} {v1 : Nat} {v2 : Int} {h : Hp} (c : Cl C h) (Cv0 : C v0) (Cv1 : C v1) : Ao (qV C h) (f_cHash_end_b7 k7 v0 v1 v2 h) := by
  unfold f_cHash_end_b7
  have F0 := Av.rf c
  refine ao_it ?_ ?_
  · exact ao_jV F0 (av_cHash_end_b27_lp FU (F0.cl) Cv0 Cv1)
  · refine ao_b1 F0 (av_cHash_addByte (F0.cl) Cv0) (fun h3 F1 => ?_)
    exact ao_jV F1 (hk7 _ _ _ _ (F1.cl) Cv0 Cv1)
theorem av_cHash_end_b7_lp {C : Nat → Prop} (n : Nat) : ∀ {v0 : Nat} {v1 : Nat} {v2 : Int} {h : Hp}, Cl C h → C v0 → C v1 → Ao (qV C h) (f_cHash_end_b7_lp n v0 v1 v2 h) := by
  induction n with
  | zero => intros; exact ao_no
  | succ n ih => intro v0 v1 v2 h c Cv0 Cv1; exact av_cHash_end_b7 (fun _ _ _ h => ih) c Cv0 Cv1
theorem av_cHash_end {C : Nat → Prop} {v0 : Nat} {v1 : Nat} {v2 : Int} {h : Hp} (c : Cl C h) (Cv0 : C v0) (Cv1 : C v1) : Ao (qV C h) (f_cHash_end v0 v1 v2 h) := by
  unfold f_cHash_end
  have F0 := Av.rf c
  refine ao_b1 F0 (av_cHash_addByte (F0.cl) Cv0) (fun h1 F1 => ?_)
  exact ao_jV F1 (av_cHash_end_b7_lp FU (F1.cl) Cv0 Cv1)
theorem av_cMac_turn_b2 {C : Nat → Prop} {k2 : Nat → Int → Int → Hp → Option (Hp)} (hk2 : ∀ (v0 : Nat) (v1 : Int) (v2 : Int) (h : Hp), Cl C h → C v0 → Ao (qV C h) (k2 v0 v1 v2 h)) {v0 : Nat} {v1 : Int} {v2 : Int} {h : Hp} (c : Cl C h) (Cv0 : C v0) : Ao (qV C h) (f_cMac_turn_b2 k2 v0 v1 v2 h) := by
  unfold f_cMac_turn_b2
  have F0 := Av.rf c
  refine ao_it ?_ ?_
  · exact ao_so F0
  · refine ao_it ao_no ?_
    refine ao_it ?_ ao_no
    refine ao_it ?_ ao_no
    refine ao_I F0 (F0.cl.r Cv0) (fun h4 F1 => ?_)
    exact ao_jV F1 (hk2 _ _ _ _ (F1.cl) Cv0)
theorem av_cMac_turn_b2_lp {C : Nat → Prop} (n : Nat) : ∀ {v0 : Nat} {v1 : Int} {v2 : Int} {h : Hp}, Cl C h → C v0 → Ao (qV C h) (f_cMac_turn_b2_lp n v0 v1 v2 h) := by
  induction n with
  | zero => intros; exact ao_no
  | succ n ih => intro v0 v1 v2 h c Cv0; exact av_cMac_turn_b2 (fun _ _ _ h => ih) c Cv0
theorem av_cMac_turn {C : Nat → Prop} {v0 : Nat} {v1 : Int} {h : Hp} (c : Cl C h) (Cv0 : C v0) : Ao (qV C h) (f_cMac_turn v0 v1 h) := by
  unfold f_cMac_turn
  have F0 := Av.rf c
  exact ao_jV F0 (av_cMac_turn_b2_lp FU (F0.cl) Cv0)
theorem av_cMac_begin_b73 {C : Nat → Prop} {v0 : Nat} {h : Hp} (c : Cl C h) (Cv0 : C v0) : Ao (qV C h) (f_cMac_begin_b73 v0 h) := by
  unfold f_cMac_begin_b73
  have F0 := Av.rf c
  refine ao_b1 F0 (av_cMac_turn (F0.cl) Cv0) (fun h15 F1 => ?_)
  refine ao_it ao_no ?_
  refine ao_b1 F1 (av_cHash_begin (F1.cl) (F1.cl.r Cv0)) (fun h18 F2 => ?_)
  refine ao_it ao_no ?_
  refine ao_b1 F2 (av_cHash_add (F2.cl) (F2.cl.r Cv0)) (fun h21 F3 => ?_)
  refine ao_b1 F3 (av_cMac_turn (F3.cl) Cv0) (fun h23 F4 => ?_)
  refine ao_it ao_no ?_
  refine ao_b1 F4 (av_cHash_begin (F4.cl) (F4.cl.r Cv0)) (fun h26 F5 => ?_)
  refine ao_it ao_no ?_
  refine ao_b1 F5 (av_cHash_add (F5.cl) (F5.cl.r Cv0)) (fun h29 F6 => ?_)
  exact ao_so F6
theorem av_cMac_begin_b31 {C : Nat → Prop} {k2 : Nat → Nat → Int → Int → Hp → Option (Hp)} (hk2 : ∀ (v0 : Nat) (v1 : Nat) (v2 : Int) (v3 : Int) (h : Hp), Cl C h → C v0 → Ao (qV C h) (k2 v0 v1 v2 v3 h)) {v0 : Nat} {v1 : Nat} {v2 : Int} {v3 : Int} {s0 : Nat} {s1 : Int} {s2 : Int} {h : Hp} (c : Cl C h) (Cv0 : C v0) (Cs0 : C s0) : Ao (qV C h) (f_cMac_begin_b31 k2 v0 v1 v2 v3 s0 s1 s2 h) := by
  unfold f_cMac_begin_b31
  have F0 := Av.rf c
  refine ao_it ao_no ?_
  refine ao_it ?_ ao_no
  refine ao_I F0 Cs0 (fun h14 F1 => ?_)
  exact ao_jV F1 (hk2 _ _ _ _ _ (F1.cl) Cv0)
theorem av_cMac_begin_b30 {C : Nat → Prop} {k2 : Nat → Nat → Int → Int → Hp → Option (Hp)} (hk2 : ∀ (v0 : Nat) (v1 : Nat) (v2 : Int) (v3 : Int) (h : Hp), Cl C h → C v0 → Ao (qV C h) (k2 v0 v1 v2 v3 h)) {v0 : Nat} {v1 : Nat} {v2 : Int} {v3 : Int} {s0 : Nat} {s1 : Int} {h : Hp} (c : Cl C h) (Cv0 : C v0) (Cs0 : C s0) : Ao (qV C h) (f_cMac_begin_b30 k2 v0 v1 v2 v3 s0 s1 h) := by
  unfold f_cMac_begin_b30
  have F0 := Av.rf c
  exact ao_jV F0 (av_cMac_begin_b31 hk2 (F0.cl) Cv0 Cs0)
theorem av_cMac_begin_b2 {C : Nat → Prop} {k2 : Nat → Nat → Int → Int → Hp → Option (Hp)} (hk2 : ∀ (v0 : Nat) (v1 : Nat) (v2 : Int) (v3 : Int) (h : Hp), Cl C h → C v0 → Ao (qV C h) (k2 v0 v1 v2 v3 h)) {v0 : Nat} {v1 : Nat} {v2 : Int} {v3 : Int} {h : Hp} (c : Cl C h) (Cv0 : C v0) : Ao (qV C h) (f_cMac_begin_b2 k2 v0 v1 v2 v3 h) := by
  unfold f_cMac_begin_b2
  have F0 := Av.rf c
  refine ao_it ?_ ?_
  · refine ao_it ?_ ?_
    · exact ao_jV F0 (av_cMac_begin_b73 (F0.cl) Cv0)
    · refine ao_it ao_no ?_
      refine ao_b1 F0 (av_cHash_begin (F0.cl) (F0.cl.r Cv0)) (fun h2 F1 => ?_)
      refine ao_it ao_no ?_
      refine ao_b1 F1 (av_cHash_add (F1.cl) (F1.cl.r Cv0)) (fun h5 F2 => ?_)
      refine ao_it ao_no ?_
      refine ao_b1 F2 (av_cHash_end (F2.cl) (F2.cl.r Cv0) (F2.cl.r Cv0)) (fun h8 F3 => ?_)
      exact ao_jV F3 (av_cMac_begin_b73 (F3.cl) Cv0)
  · refine ao_it ?_ ?_
    · exact ao_jV F0 (av_cMac_begin_b30 hk2 (F0.cl) Cv0 (F0.cl.r Cv0))
    · refine ao_it ?_ ?_
      · exact ao_jV F0 (av_cMac_begin_b30 hk2 (F0.cl) Cv0 (F0.cl.r Cv0))
      · refine ao_it ao_no ?_
        refine ao_it ?_ ao_no
        exact ao_jV F0 (av_cMac_begin_b31 hk2 (F0.cl) Cv0 (F0.cl.r Cv0))
theorem av_cMac_begin_b2_lp {C : Nat → Prop} (n : Nat) : ∀ {v0 : Nat} {v1 : Nat} {v2 : Int} {v3 : Int} {h : Hp}, Cl C h → C v0 → Ao (qV C h) (f_cMac_begin_b2_lp n v0 v1 v2 v3 h) := by
  induction n with
  | zero => intros; exact ao_no
  | succ n ih => intro v0 v1 v2 v3 h c Cv0; exact av_cMac_begin_b2 (fun _ _ _ _ h => ih) c Cv0
theorem av_cMac_begin {C : Nat → Prop} {v0 : Nat} {v1 : Nat} {v2 : Int} {h : Hp} (c : Cl C h) (Cv0 : C v0) : Ao (qV C h) (f_cMac_begin v0 v1 v2 h) := by
  unfold f_cMac_begin
  have F0 := Av.rf c
  exact ao_jV F0 (av_cMac_begin_b2_lp FU (F0.cl) Cv0)
theorem av_cMac_add {C : Nat → Prop} {v0 : Nat} {v1 : Nat} {v2 : Int} {v3 : Int} {h : Hp} (c : Cl C h) (Cv0 : C v0) : Ao (qV C h) (f_cMac_add v0 v1 v2 v3 h) := by
  unfold f_cMac_add
  have F0 := Av.rf c
  refine ao_it ao_no ?_
  refine ao_b1 F0 (av_cHash_add (F0.cl) (F0.cl.r Cv0)) (fun h2 F1 => ?_)
  exact ao_so F1
theorem av_cMac_end {C : Nat → Prop} {v0 : Nat} {v1 : Nat} {v2 : Int} {h : Hp} (c : Cl C h) (Cv0 : C v0) (Cv1 : C v1) : Ao (qV C h) (f_cMac_end v0 v1 v2 h) := by
  unfold f_cMac_end
  have F0 := Av.rf c
  refine ao_it ao_no ?_
  refine ao_b1 F0 (av_cHash_end (F0.cl) (F0.cl.r Cv0) (F0.cl.r Cv0)) (fun h2 F1 => ?_)
  refine ao_it ao_no ?_
  refine ao_b1 F1 (av_cHash_add (F1.cl) (F1.cl.r Cv0)) (fun h5 F2 => ?_)
  refine ao_it ao_no ?_
  refine ao_b1 F2 (av_cHash_end (F2.cl) (F2.cl.r Cv0) Cv1) (fun h8 F3 => ?_)
  exact ao_so F3
theorem av_cGreeting_mac {C : Nat → Prop} {v0 : Nat} {v1 : Nat} {v2 : Int} {v3 : Nat} {v4 : Int} {v5 : Int} {v6 : Nat} {h : Hp} (c : Cl C h) (Cv0 : C v0) (Cv6 : C v6) : Ao (qV C h) (f_cGreeting_mac v0 v1 v2 v3 v4 v5 v6 h) := by
  unfold f_cGreeting_mac
  have F0 := Av.rf c
  refine ao_it ao_no ?_
  refine ao_it ao_no ?_
  refine ao_b1 F0 (av_cMac_begin (F0.cl) (F0.cl.r (F0.cl.r Cv0))) (fun h3 F1 => ?_)
  refine ao_it ao_no ?_
  refine ao_it ao_no ?_
  refine ao_b1 F1 (av_cMac_add (F1.cl) (F1.cl.r (F1.cl.r Cv0))) (fun h7 F2 => ?_)
  refine ao_it ao_no ?_
  refine ao_it ao_no ?_
  refine ao_b1 F2 (av_cMac_end (F2.cl) (F2.cl.r (F2.cl.r Cv0)) Cv6) (fun h11 F3 => ?_)
  exact ao_so F3
theorem av_jString_coder {C : Nat → Prop} {v0 : Nat} {h : Hp} (c : Cl C h) : Ao (qI C h) (f_jString_coder v0 h) := by
  unfold f_jString_coder
  have F0 := Av.rf c
  refine ao_it ?_ ?_
  · refine ao_it ?_ ao_no
    exact ao_so F0
  · refine ao_it ?_ ao_no
    exact ao_so F0
theorem av_jString_length {C : Nat → Prop} {v0 : Nat} {h : Hp} (c : Cl C h) : Ao (qI C h) (f_jString_length v0 h) := by
  unfold f_jString_length
  have F0 := Av.rf c
  refine ao_it ao_no ?_
  refine ao_b2 F0 (av_jString_coder (F0.cl)) (fun r4 h2 F1 => ?_)
  exact ao_so F1
theorem av_jString_isLatin1 {C : Nat → Prop} {v0 : Nat} {h : Hp} (c : Cl C h) : Ao (qI C h) (f_jString_isLatin1 v0 h) := by
  unfold f_jString_isLatin1
  have F0 := Av.rf c
  refine ao_it ?_ ?_
  · exact ao_so F0
  · refine ao_it ?_ ?_
    · exact ao_so F0
    · exact ao_so F0
theorem av_jPreconditions_checkIndex_b9 {C : Nat → Prop} {v0 : Int} {v1 : Int} {v2 : Nat} {h : Hp} (c : Cl C h) : Ao (qI C h) (f_jPreconditions_checkIndex_b9 v0 v1 v2 h) := by
  unfold f_jPreconditions_checkIndex_b9
  exact ao_no
theorem av_jPreconditions_checkIndex {C : Nat → Prop} {v0 : Int} {v1 : Int} {v2 : Nat} {h : Hp} (c : Cl C h) : Ao (qI C h) (f_jPreconditions_checkIndex v0 v1 v2 h) := by
  unfold f_jPreconditions_checkIndex
  have F0 := Av.rf c
  refine ao_it ?_ ?_
  · exact ao_jI F0 (av_jPreconditions_checkIndex_b9 (F0.cl))
  · refine ao_it ?_ ?_
    · exact ao_so F0
    · exact ao_jI F0 (av_jPreconditions_checkIndex_b9 (F0.cl))
theorem av_jString_checkIndex {C : Nat → Prop} {v0 : Int} {v1 : Int} {h : Hp} (c : Cl C h) : Ao (qV C h) (f_jString_checkIndex v0 v1 h) := by
  unfold f_jString_checkIndex
  have F0 := Av.rf c
  refine ao_b2 F0 (av_jPreconditions_checkIndex (F0.cl)) (fun r3 h1 F1 => ?_)
  exact ao_so F1
theorem av_jStringLatin1_charAt {C : Nat → Prop} {v0 : Nat} {v1 : Int} {h : Hp} (c : Cl C h) : Ao (qI C h) (f_jStringLatin1_charAt v0 v1 h) := by
  unfold f_jStringLatin1_charAt
  have F0 := Av.rf c
  refine ao_it ao_no ?_
  refine ao_b1 F0 (av_jString_checkIndex (F0.cl)) (fun h2 F1 => ?_)
  refine ao_it ?_ ao_no
  refine ao_it ?_ ao_no
  exact ao_so F1
theorem av_jString_charAt {C : Nat → Prop} {v0 : Nat} {v1 : Int} {h : Hp} (c : Cl C h) : Ao (qI C h) (f_jString_charAt v0 v1 h) := by
  unfold f_jString_charAt
  have F0 := Av.rf c
  refine ao_b2 F0 (av_jString_isLatin1 (F0.cl)) (fun r3 h1 F1 => ?_)
  refine ao_it ?_ ?_
  · exact ao_no
  · refine ao_b2 F1 (av_jStringLatin1_charAt (F1.cl)) (fun r6 h4 F2 => ?_)
    refine ao_it ?_ ao_no
    exact ao_so F2
theorem av_cStretch_stretch_b42 {C : Nat → Prop} {k6 : Nat → Nat → Int → Nat → Int → Nat → Int → Int → Int → Hp → Option (Hp)} (hk6 : ∀ (v0 : Nat) (v1 : Nat) (v2 : Int) (v3 : Nat) (v4 : Int) (v5 : Nat) (v6 : Int) (v7 : Int) (v8 : Int) (h : Hp), Cl C h → C v0 → C v5 → Ao (qV C h) (k6 v0 v1 v2 v3 v4 v5 v6 v7 v8 h)) {v0 : Nat} {v1 : Nat} {v2 : Int} {v3 : Nat} {v4 : Int} {v5 : Nat} {v6 : Int} {v7 : Int} {v8 : Int} {h : Hp} (c : Cl C h) (Cv0 : C v0) (Cv5 : C v5) : Ao (qV C h) (f_cStretch_stretch_b42 k6 v0 v1 v2 v3 v4 v5 v6 v7 v8 h) := by
  unfold f_cStretch_stretch_b42
  have F0 := Av.rf c
  refine ao_it ao_no ?_
  refine ao_b1 F0 (av_cMac_add (F0.cl) (F0.cl.r Cv0)) (fun h8 F1 => ?_)
  refine ao_it ao_no ?_
  refine ao_it ?_ ao_no
  refine ao_I F1 (F1.cl.r Cv0) (fun h12 F2 => ?_)
  refine ao_it ao_no ?_
  refine ao_b1 F2 (av_cMac_add (F2.cl) (F2.cl.r Cv0)) (fun h14 F3 => ?_)
  refine ao_it ao_no ?_
  refine ao_b1 F3 (av_cMac_end (F3.cl) (F3.cl.r Cv0) (F3.cl.r Cv0)) (fun h17 F4 => ?_)
  refine ao_v (fun y19 => ?_)
  refine ao_it ao_no ?_
  refine ao_it ao_no ?_
  refine ao_it ?_ ao_no
  refine ao_cI F4 Cv5 (fun h23 F6 => ?_)
  refine ao_v (fun y24 => ?_)
  exact ao_jV F6 (hk6 _ _ _ _ _ _ _ _ _ _ (F6.cl) Cv0 Cv5)
theorem av_cStretch_stretch_b6 {C : Nat → Prop} {k6 : Nat → Nat → Int → Nat → Int → Nat → Int → Int → Int → Hp → Option (Hp)} (hk6 : ∀ (v0 : Nat) (v1 : Nat) (v2 : Int) (v3 : Nat) (v4 : Int) (v5 : Nat) (v6 : Int) (v7 : Int) (v8 : Int) (h : Hp), Cl C h → C v0 → C v5 → Ao (qV C h) (k6 v0 v1 v2 v3 v4 v5 v6 v7 v8 h)) {v0 : Nat} {v1 : Nat} {v2 : Int} {v3 : Nat} {v4 : Int} {v5 : Nat} {v6 : Int} {v7 : Int} {v8 : Int} {h : Hp} (c : Cl C h) (Cv0 : C v0) (Cv5 : C v5) : Ao (qV C h) (f_cStretch_stretch_b6 k6 v0 v1 v2 v3 v4 v5 v6 v7 v8 h) := by
  unfold f_cStretch_stretch_b6
  have F0 := Av.rf c
  refine ao_it ?_ ?_
  · exact ao_so F0
  · refine ao_it ao_no ?_
    refine ao_b1 F0 (av_cMac_begin (F0.cl) (F0.cl.r Cv0)) (fun h2 F1 => ?_)
    refine ao_it ?_ ?_
    · exact ao_jV F1 (av_cStretch_stretch_b42 hk6 (F1.cl) Cv0 Cv5)
    · refine ao_it ao_no ?_
      refine ao_b1 F1 (av_cMac_add (F1.cl) (F1.cl.r Cv0)) (fun h5 F2 => ?_)
      exact ao_jV F2 (av_cStretch_stretch_b42 hk6 (F2.cl) Cv0 Cv5)
theorem av_cStretch_stretch_b6_lp {C : Nat → Prop} (n : Nat) : ∀ {v0 : Nat} {v1 : Nat} {v2 : Int} {v3 : Nat} {v4 : Int} {v5 : Nat} {v6 : Int} {v7 : Int} {v8 : Int} {h : Hp}, Cl C h → C v0 → C v5 → Ao (qV C h) (f_cStretch_stretch_b6_lp n v0 v1 v2 v3 v4 v5 v6 v7 v8 h) := by
  induction n with
  | zero => intros; exact ao_no
  | succ n ih => intro v0 v1 v2 v3 v4 v5 v6 v7 v8 h c Cv0 Cv5; exact av_cStretch_stretch_b6 (fun _ _ _ _ _ _ _ _ _ h => ih) c Cv0 Cv5
theorem av_cStretch_stretch {C : Nat → Prop} {v0 : Nat} {v1 : Nat} {v2 : Int} {v3 : Nat} {v4 : Int} {v5 : Nat} {v6 : Int} {h : Hp} (c : Cl C h) (Cv0 : C v0) (Cv5 : C v5) : Ao (qV C h) (f_cStretch_stretch v0 v1 v2 v3 v4 v5 v6 h) := by
  unfold f_cStretch_stretch
  have F0 := Av.rf c
  exact ao_jV F0 (av_cStretch_stretch_b6_lp FU (F0.cl) Cv0 Cv5)
theorem av_cStretch_label_b42 {C : Nat → Prop} {k42 : Nat → Nat → Int → Nat → Nat → Int → Nat → Int → Int → Int → Hp → Option (Hp)} (hk42 : ∀ (v0 : Nat) (v1 : Nat) (v2 : Int) (v3 : Nat) (v4 : Nat) (v5 : Int) (v6 : Nat) (v7 : Int) (v8 : Int) (v9 : Int) (h : Hp), Cl C h → C v0 → C v6 → Ao (qV C h) (k42 v0 v1 v2 v3 v4 v5 v6 v7 v8 v9 h)) {v0 : Nat} {v1 : Nat} {v2 : Int} {v3 : Nat} {v4 : Nat} {v5 : Int} {v6 : Nat} {v7 : Int} {v8 : Int} {v9 : Int} {h : Hp} (c : Cl C h) (Cv0 : C v0) (Cv6 : C v6) : Ao (qV C h) (f_cStretch_label_b42 k42 v0 v1 v2 v3 v4 v5 v6 v7 v8 v9 h) := by
  unfold f_cStretch_label_b42
  have F0 := Av.rf c
  refine ao_it ?_ ?_
  · refine ao_it ao_no ?_
    refine ao_it ?_ ao_no
    refine ao_I F0 (F0.cl.r Cv0) (fun h17 F1 => ?_)
    refine ao_it ao_no ?_
    refine ao_it ao_no ?_
    refine ao_it ?_ ao_no
    refine ao_cI F1 (F1.cl.r Cv0) (fun h21 F2 => ?_)
    refine ao_b1 F2 (av_cStretch_stretch (F2.cl) Cv0 Cv6) (fun h22 F3 => ?_)
    exact ao_so F3
  · refine ao_it ao_no ?_
    refine ao_it ao_no ?_
    refine ao_b2 F0 (av_jString_charAt (F0.cl)) (fun r28 h26 F4 => ?_)
    refine ao_it ao_no ?_
    refine ao_it ?_ ao_no
    refine ao_I F4 (F0.cl.r Cv0) (fun h31 F5 => ?_)
    exact ao_jV F5 (hk42 _ _ _ _ _ _ _ _ _ _ _ (F5.cl) Cv0 Cv6)
theorem av_cStretch_label_b42_lp {C : Nat → Prop} (n : Nat) : ∀ {v0 : Nat} {v1 : Nat} {v2 : Int} {v3 : Nat} {v4 : Nat} {v5 : Int} {v6 : Nat} {v7 : Int} {v8 : Int} {v9 : Int} {h : Hp}, Cl C h → C v0 → C v6 → Ao (qV C h) (f_cStretch_label_b42_lp n v0 v1 v2 v3 v4 v5 v6 v7 v8 v9 h) := by
  induction n with
  | zero => intros; exact ao_no
  | succ n ih => intro v0 v1 v2 v3 v4 v5 v6 v7 v8 v9 h c Cv0 Cv6; exact av_cStretch_label_b42 (fun _ _ _ _ _ _ _ _ _ _ h => ih) c Cv0 Cv6
theorem av_cStretch_label {C : Nat → Prop} {v0 : Nat} {v1 : Nat} {v2 : Int} {v3 : Nat} {v4 : Nat} {v5 : Int} {v6 : Nat} {v7 : Int} {h : Hp} (c : Cl C h) (Cv0 : C v0) (Cv6 : C v6) : Ao (qV C h) (f_cStretch_label v0 v1 v2 v3 v4 v5 v6 v7 h) := by
  unfold f_cStretch_label
  have F0 := Av.rf c
  refine ao_it ao_no ?_
  refine ao_it ao_no ?_
  refine ao_b2 F0 (av_jString_length (F0.cl)) (fun r5 h3 F1 => ?_)
  refine ao_it ao_no ?_
  refine ao_it ?_ ao_no
  refine ao_I F1 (F1.cl.r Cv0) (fun h8 F2 => ?_)
  refine ao_it ao_no ?_
  refine ao_it ?_ ao_no
  refine ao_I F2 (F2.cl.r Cv0) (fun h11 F3 => ?_)
  refine ao_it ao_no ?_
  refine ao_it ?_ ao_no
  refine ao_I F3 (F3.cl.r Cv0) (fun h14 F4 => ?_)
  exact ao_jV F4 (av_cStretch_label_b42_lp FU (F4.cl) Cv0 Cv6)
theorem av_cGreeting_secrets {C : Nat → Prop} {v0 : Nat} {v1 : Int} {v2 : Nat} {v3 : Nat} {v4 : Nat} {v5 : Nat} {v6 : Int} {h : Hp} (c : Cl C h) (Cv0 : C v0) : Ao (qV C h) (f_cGreeting_secrets v0 v1 v2 v3 v4 v5 v6 h) := by
  unfold f_cGreeting_secrets
  have F0 := Av.rf c
  refine ao_it ao_no ?_
  refine ao_it ?_ ao_no
  refine ao_it ao_no ?_
  refine ao_b1 F0 (av_cStretch_label (F0.cl) (F0.cl.r Cv0) (F0.cl.r (F0.cl.r Cv0))) (fun h4 F1 => ?_)
  refine ao_it ao_no ?_
  refine ao_it ?_ ao_no
  refine ao_it ao_no ?_
  refine ao_b1 F1 (av_cStretch_label (F1.cl) (F1.cl.r Cv0) (F1.cl.r (F1.cl.r Cv0))) (fun h9 F2 => ?_)
  refine ao_it ao_no ?_
  refine ao_it ?_ ao_no
  refine ao_I F2 (F2.cl.r Cv0) (fun h13 F3 => ?_)
  exact ao_so F3
theorem av_cGreeting_first_b3 {C : Nat → Prop} {k3 : Nat → Nat → Int → Int → Int → Hp → Option (Hp)} (hk3 : ∀ (v0 : Nat) (v1 : Nat) (v2 : Int) (v3 : Int) (v4 : Int) (h : Hp), Cl C h → C v0 → Ao (qV C h) (k3 v0 v1 v2 v3 v4 h)) {v0 : Nat} {v1 : Nat} {v2 : Int} {v3 : Int} {v4 : Int} {h : Hp} (c : Cl C h) (Cv0 : C v0) : Ao (qV C h) (f_cGreeting_first_b3 k3 v0 v1 v2 v3 v4 h) := by
  unfold f_cGreeting_first_b3
  have F0 := Av.rf c
  refine ao_it ?_ ?_
  · refine ao_b1 F0 (av_cGreeting_mac (F0.cl) Cv0 (F0.cl.r Cv0)) (fun h1 F1 => ?_)
    refine ao_it ao_no ?_
    refine ao_it ao_no ?_
    refine ao_it ?_ ao_no
    refine ao_cI F1 (F1.cl.r Cv0) (fun h6 F2 => ?_)
    refine ao_b1 F2 (av_cGreeting_secrets (F2.cl) Cv0) (fun h7 F3 => ?_)
    exact ao_so F3
  · refine ao_it ao_no ?_
    refine ao_it ?_ ao_no
    refine ao_I F0 (F0.cl.r Cv0) (fun h11 F4 => ?_)
    exact ao_jV F4 (hk3 _ _ _ _ _ _ (F4.cl) Cv0)
theorem av_cGreeting_first_b3_lp {C : Nat → Prop} (n : Nat) : ∀ {v0 : Nat} {v1 : Nat} {v2 : Int} {v3 : Int} {v4 : Int} {h : Hp}, Cl C h → C v0 → Ao (qV C h) (f_cGreeting_first_b3_lp n v0 v1 v2 v3 v4 h) := by
  induction n with
  | zero => intros; exact ao_no
  | succ n ih => intro v0 v1 v2 v3 v4 h c Cv0; exact av_cGreeting_first_b3 (fun _ _ _ _ _ h => ih) c Cv0
theorem av_cGreeting_first {C : Nat → Prop} {v0 : Nat} {v1 : Nat} {v2 : Int} {v3 : Int} {h : Hp} (c : Cl C h) (Cv0 : C v0) : Ao (qV C h) (f_cGreeting_first v0 v1 v2 v3 h) := by
  unfold f_cGreeting_first
  have F0 := Av.rf c
  exact ao_jV F0 (av_cGreeting_first_b3_lp FU (F0.cl) Cv0)
theorem av_cGuard_makeKeys {C : Nat → Prop} {v0 : Nat} {v1 : Nat} {h : Hp} (c : Cl C h) (Cv0 : C v0) (Cv1 : C v1) : Ao (qV C h) (f_cGuard_makeKeys v0 v1 h) := by
  unfold f_cGuard_makeKeys
  have F0 := Av.rf c
  refine ao_it ao_no ?_
  refine ao_it ao_no ?_
  refine ao_b1 F0 (av_cStretch_label (F0.cl) (F0.cl.r Cv1) (F0.cl.r Cv0)) (fun h3 F1 => ?_)
  refine ao_it ao_no ?_
  refine ao_b1 F1 (av_cStretch_label (F1.cl) (F1.cl.r Cv1) (F1.cl.r Cv0)) (fun h6 F2 => ?_)
  exact ao_so F2
theorem av_cGuard_arm {C : Nat → Prop} {v0 : Nat} {v1 : Nat} {v2 : Nat} {h : Hp} (c : Cl C h) (Cv0 : C v0) (Cv2 : C v2) : Ao (qV C h) (f_cGuard_arm v0 v1 v2 h) := by
  unfold f_cGuard_arm
  have F0 := Av.rf c
  refine ao_it ao_no ?_
  refine ao_it ao_no ?_
  refine ao_it ?_ ao_no
  refine ao_cI F0 (F0.cl.r Cv0) (fun h4 F1 => ?_)
  refine ao_b1 F1 (av_cGuard_makeKeys (F1.cl) Cv0 Cv2) (fun h5 F2 => ?_)
  refine ao_it ao_no ?_
  refine ao_it ao_no ?_
  refine ao_b1 F2 (av_cStretch_label (F2.cl) (F2.cl.r Cv2) (F2.cl.r Cv0)) (fun h9 F3 => ?_)
  refine ao_I F3 Cv0 (fun h11 F4 => ?_)
  refine ao_I F4 Cv0 (fun h12 F5 => ?_)
  exact ao_so F5
theorem av_cSide_arm {C : Nat → Prop} {v0 : Nat} {v1 : Int} {h : Hp} (c : Cl C h) (Cv0 : C v0) : Ao (qV C h) (f_cSide_arm v0 v1 h) := by
  unfold f_cSide_arm
  have F0 := Av.rf c
  refine ao_it ao_no ?_
  refine ao_it ?_ ao_no
  refine ao_it ao_no ?_
  refine ao_it ao_no ?_
  refine ao_it ?_ ao_no
  refine ao_it ao_no ?_
  refine ao_b1 F0 (av_cGuard_arm (F0.cl) (F0.cl.r (F0.cl.r Cv0)) (F0.cl.r Cv0)) (fun h7 F1 => ?_)
  refine ao_it ao_no ?_
  refine ao_it ?_ ao_no
  refine ao_it ao_no ?_
  refine ao_it ao_no ?_
  refine ao_it ?_ ao_no
  refine ao_it ao_no ?_
  refine ao_b1 F1 (av_cGuard_arm (F1.cl) (F1.cl.r (F1.cl.r Cv0)) (F1.cl.r Cv0)) (fun h15 F2 => ?_)
  refine ao_it ao_no ?_
  refine ao_it ?_ ao_no
  refine ao_I F2 (F2.cl.r Cv0) (fun h19 F3 => ?_)
  exact ao_so F3
theorem av_cSide_name {C : Nat → Prop} {v0 : Nat} {v1 : Nat} {v2 : Int} {h : Hp} (c : Cl C h) (Cv0 : C v0) : Ao (qV C h) (f_cSide_name v0 v1 v2 h) := by
  unfold f_cSide_name
  have F0 := Av.rf c
  refine ao_it ao_no ?_
  refine ao_it ao_no ?_
  refine ao_it ?_ ao_no
  refine ao_cI F0 (F0.cl.r Cv0) (fun h4 F1 => ?_)
  refine ao_it ao_no ?_
  refine ao_it ao_no ?_
  refine ao_it ao_no ?_
  refine ao_it ?_ ao_no
  refine ao_cI F1 (F1.cl.r Cv0) (fun h9 F2 => ?_)
  refine ao_it ao_no ?_
  refine ao_b1 F2 (av_cGreeting_first (F2.cl) (F2.cl.r Cv0)) (fun h11 F3 => ?_)
  refine ao_b1 F3 (av_cSide_arm (F3.cl) Cv0) (fun h13 F4 => ?_)
  exact ao_so F4
theorem av_cBytes_over {C : Nat → Prop} {v0 : Nat} {v1 : Nat} {v2 : Int} {v3 : Int} {h : Hp} (c : Cl C h) (Cv0 : C v0) (Cv1 : C v1) : Ao (qV C h) (f_cBytes_over v0 v1 v2 v3 h) := by
  unfold f_cBytes_over
  have F0 := Av.rf c
  refine ao_R F0 Cv0 Cv1 (fun h1 F1 => ?_)
  refine ao_I F1 Cv0 (fun h2 F2 => ?_)
  refine ao_I F2 Cv0 (fun h3 F3 => ?_)
  refine ao_I F3 Cv0 (fun h4 F4 => ?_)
  exact ao_so F4
theorem av_cBytes_sizeOf {C : Nat → Prop} {v0 : Int} {h : Hp} (c : Cl C h) : Ao (qI C h) (f_cBytes_sizeOf v0 h) := by
  unfold f_cBytes_sizeOf
  have F0 := Av.rf c
  refine ao_it ?_ ?_
  · refine ao_it ?_ ?_
    · refine ao_it ?_ ?_
      · exact ao_so F0
      · exact ao_so F0
    · exact ao_so F0
  · exact ao_so F0
theorem av_cBytes_step_b30 {C : Nat → Prop} {v0 : Nat} {s0 : Nat} {s1 : Int} {h : Hp} (c : Cl C h) (Cs0 : C s0) : Ao (qI C h) (f_cBytes_step_b30 v0 s0 s1 h) := by
  unfold f_cBytes_step_b30
  have F0 := Av.rf c
  refine ao_it ao_no ?_
  refine ao_it ao_no ?_
  refine ao_I F0 Cs0 (fun h2 F1 => ?_)
  refine ao_it ?_ ?_
  · exact ao_so F1
  · exact ao_so F1
theorem av_cBytes_step_b25 {C : Nat → Prop} {v0 : Nat} {s0 : Nat} {h : Hp} (c : Cl C h) (Cs0 : C s0) : Ao (qI C h) (f_cBytes_step_b25 v0 s0 h) := by
  unfold f_cBytes_step_b25
  have F0 := Av.rf c
  exact ao_jI F0 (av_cBytes_step_b30 (F0.cl) Cs0)
theorem av_cBytes_step {C : Nat → Prop} {v0 : Nat} {v1 : Int} {h : Hp} (c : Cl C h) (Cv0 : C v0) : Ao (qI C h) (f_cBytes_step v0 v1 h) := by
  unfold f_cBytes_step
  have F0 := Av.rf c
  refine ao_it ?_ ?_
  · exact ao_jI F0 (av_cBytes_step_b25 (F0.cl) Cv0)
  · refine ao_it ?_ ?_
    · exact ao_jI F0 (av_cBytes_step_b25 (F0.cl) Cv0)
    · refine ao_it ?_ ?_
      · exact ao_jI F0 (av_cBytes_step_b30 (F0.cl) Cv0)
      · exact ao_jI F0 (av_cBytes_step_b25 (F0.cl) Cv0)
theorem av_cBytes_putMany_b13 {C : Nat → Prop} {k13 : Nat → Int → Int → Hp → Option (Hp)} (hk13 : ∀ (v0 : Nat) (v1 : Int) (v4 : Int) (h : Hp), Cl C h → C v0 → Ao (qV C h) (k13 v0 v1 v4 h)) {v0 : Nat} {v1 : Int} {v4 : Int} {h : Hp} (c : Cl C h) (Cv0 : C v0) : Ao (qV C h) (f_cBytes_putMany_b13 k13 v0 v1 v4 h) := by
  unfold f_cBytes_putMany_b13
  have F0 := Av.rf c
  refine ao_it ?_ ?_
  · exact ao_so F0
  · refine ao_I F0 Cv0 (fun h5 F1 => ?_)
    refine ao_it ao_no ?_
    refine ao_it ?_ ao_no
    refine ao_I F1 (F0.cl.r Cv0) (fun h8 F2 => ?_)
    exact ao_jV F2 (hk13 _ _ _ _ (F2.cl) Cv0)
theorem av_cBytes_putMany_b13_lp {C : Nat → Prop} (n : Nat) : ∀ {v0 : Nat} {v1 : Int} {v4 : Int} {h : Hp}, Cl C h → C v0 → Ao (qV C h) (f_cBytes_putMany_b13_lp n v0 v1 v4 h) := by
  induction n with
  | zero => intros; exact ao_no
  | succ n ih => intro v0 v1 v4 h c Cv0; exact av_cBytes_putMany_b13 (fun _ _ _ h => ih) c Cv0
theorem av_cBytes_putMany {C : Nat → Prop} {v0 : Nat} {v1 : Int} {v3 : Int} {h : Hp} (c : Cl C h) (Cv0 : C v0) : Ao (qV C h) (f_cBytes_putMany v0 v1 v3 h) := by
  unfold f_cBytes_putMany
  have F0 := Av.rf c
  refine ao_b2 F0 (av_cBytes_step (F0.cl) Cv0) (fun r3 h1 F1 => ?_)
  refine ao_it ?_ ?_
  · exact ao_so F1
  · refine ao_v (fun y4 => ?_)
    exact ao_jV F1 (av_cBytes_putMany_b13_lp FU (F1.cl) Cv0)
theorem av_cBytes_putSized_b28 {C : Nat → Prop} {v0 : Nat} {v1 : Int} {v3 : Int} {s0 : Int} {h : Hp} (c : Cl C h) (Cv0 : C v0) : Ao (qV C h) (f_cBytes_putSized_b28 v0 v1 v3 s0 h) := by
  unfold f_cBytes_putSized_b28
  have F0 := Av.rf c
  refine ao_b1 F0 (av_cBytes_putMany (F0.cl) Cv0) (fun h1 F1 => ?_)
  exact ao_so F1
theorem av_cBytes_putSized {C : Nat → Prop} {v0 : Nat} {v1 : Int} {v3 : Int} {h : Hp} (c : Cl C h) (Cv0 : C v0) : Ao (qV C h) (f_cBytes_putSized v0 v1 v3 h) := by
  unfold f_cBytes_putSized
  have F0 := Av.rf c
  refine ao_it ?_ ?_
  · refine ao_it ?_ ?_
    · refine ao_it ?_ ?_
      · exact ao_jV F0 (av_cBytes_putSized_b28 (F0.cl) Cv0)
      · exact ao_jV F0 (av_cBytes_putSized_b28 (F0.cl) Cv0)
    · exact ao_jV F0 (av_cBytes_putSized_b28 (F0.cl) Cv0)
  · exact ao_jV F0 (av_cBytes_putSized_b28 (F0.cl) Cv0)
theorem av_cBytes_putNumber {C : Nat → Prop} {v0 : Nat} {v1 : Int} {h : Hp} (c : Cl C h) (Cv0 : C v0) : Ao (qV C h) (f_cBytes_putNumber v0 v1 h) := by
  unfold f_cBytes_putNumber
  have F0 := Av.rf c
  refine ao_b2 F0 (av_cBytes_sizeOf (F0.cl)) (fun r3 h1 F1 => ?_)
  refine ao_b1 F1 (av_cBytes_putSized (F1.cl) Cv0) (fun h4 F2 => ?_)
  exact ao_so F2
theorem av_cBytes_putRow_b11 {C : Nat → Prop} {k11 : Nat → Nat → Int → Int → Int → Hp → Option (Hp)} (hk11 : ∀ (v0 : Nat) (v1 : Nat) (v2 : Int) (v3 : Int) (v4 : Int) (h : Hp), Cl C h → C v0 → Ao (qV C h) (k11 v0 v1 v2 v3 v4 h)) {v0 : Nat} {v1 : Nat} {v2 : Int} {v3 : Int} {v4 : Int} {h : Hp} (c : Cl C h) (Cv0 : C v0) : Ao (qV C h) (f_cBytes_putRow_b11 k11 v0 v1 v2 v3 v4 h) := by
  unfold f_cBytes_putRow_b11
  have F0 := Av.rf c
  refine ao_it ?_ ?_
  · exact ao_so F0
  · refine ao_I F0 Cv0 (fun h4 F1 => ?_)
    refine ao_it ao_no ?_
    refine ao_it ?_ ao_no
    refine ao_it ao_no ?_
    refine ao_it ?_ ao_no
    refine ao_I F1 (F0.cl.r Cv0) (fun h9 F2 => ?_)
    exact ao_jV F2 (hk11 _ _ _ _ _ _ (F2.cl) Cv0)
theorem av_cBytes_putRow_b11_lp {C : Nat → Prop} (n : Nat) : ∀ {v0 : Nat} {v1 : Nat} {v2 : Int} {v3 : Int} {v4 : Int} {h : Hp}, Cl C h → C v0 → Ao (qV C h) (f_cBytes_putRow_b11_lp n v0 v1 v2 v3 v4 h) := by
  induction n with
  | zero => intros; exact ao_no
  | succ n ih => intro v0 v1 v2 v3 v4 h c Cv0; exact av_cBytes_putRow_b11 (fun _ _ _ _ _ h => ih) c Cv0
theorem av_cBytes_putRow {C : Nat → Prop} {v0 : Nat} {v1 : Nat} {v2 : Int} {v3 : Int} {h : Hp} (c : Cl C h) (Cv0 : C v0) : Ao (qV C h) (f_cBytes_putRow v0 v1 v2 v3 h) := by
  unfold f_cBytes_putRow
  have F0 := Av.rf c
  refine ao_b2 F0 (av_cBytes_step (F0.cl) Cv0) (fun r3 h1 F1 => ?_)
  refine ao_it ?_ ?_
  · exact ao_so F1
  · exact ao_jV F1 (av_cBytes_putRow_b11_lp FU (F1.cl) Cv0)
theorem av_cSide_put_II {C : Nat → Prop} {v0 : Nat} {v1 : Int} {v2 : Int} {h : Hp} (c : Cl C h) (Cv0 : C v0) : Ao (qV C h) (f_cSide_put_II v0 v1 v2 h) := by
  unfold f_cSide_put_II
  have F0 := Av.rf c
  refine ao_it ao_no ?_
  refine ao_b1 F0 (av_cBytes_putNumber (F0.cl) (F0.cl.r Cv0)) (fun h2 F1 => ?_)
  refine ao_it ao_no ?_
  refine ao_b1 F1 (av_cBytes_putNumber (F1.cl) (F1.cl.r Cv0)) (fun h5 F2 => ?_)
  refine ao_it ao_no ?_
  refine ao_b1 F2 (av_cBytes_putRow (F2.cl) (F2.cl.r Cv0)) (fun h8 F3 => ?_)
  exact ao_so F3
theorem av_cSide_tell_b148 {C : Nat → Prop} {k34 : Nat → Int → Hp → Option (Hp)} (hk34 : ∀ (v0 : Nat) (v1 : Int) (h : Hp), Cl C h → C v0 → Ao (qV C h) (k34 v0 v1 h)) {v0 : Nat} {v1 : Int} {h : Hp} (c : Cl C h) (Cv0 : C v0) : Ao (qV C h) (f_cSide_tell_b148 k34 v0 v1 h) := by
  unfold f_cSide_tell_b148
  have F0 := Av.rf c
  exact ao_jV F0 (hk34 _ _ _ (F0.cl) Cv0)
theorem av_cSide_tell_b119 {C : Nat → Prop} {k34 : Nat → Int → Hp → Option (Hp)} (hk34 : ∀ (v0 : Nat) (v1 : Int) (h : Hp), Cl C h → C v0 → Ao (qV C h) (k34 v0 v1 h)) {v0 : Nat} {v1 : Int} {v2 : Int} {h : Hp} (c : Cl C h) (Cv0 : C v0) : Ao (qV C h) (f_cSide_tell_b119 k34 v0 v1 v2 h) := by
  unfold f_cSide_tell_b119
  have F0 := Av.rf c
  refine ao_it ao_no ?_
  refine ao_b1 F0 (av_cBytes_putNumber (F0.cl) (F0.cl.r Cv0)) (fun h15 F1 => ?_)
  refine ao_b2 F1 (av_cBytes_sizeOf (F1.cl)) (fun r19 h17 F2 => ?_)
  refine ao_it ao_no ?_
  refine ao_b1 F2 (av_cBytes_putNumber (F2.cl) (F1.cl.r Cv0)) (fun h21 F3 => ?_)
  refine ao_it ao_no ?_
  refine ao_b1 F3 (av_cBytes_putNumber (F3.cl) (F3.cl.r Cv0)) (fun h24 F4 => ?_)
  exact ao_jV F4 (av_cSide_tell_b148 hk34 (F4.cl) Cv0)
theorem av_cSide_tell_b97 {C : Nat → Prop} {k34 : Nat → Int → Hp → Option (Hp)} (hk34 : ∀ (v0 : Nat) (v1 : Int) (h : Hp), Cl C h → C v0 → Ao (qV C h) (k34 v0 v1 h)) {v0 : Nat} {v1 : Int} {s0 : Int} {h : Hp} (c : Cl C h) (Cv0 : C v0) : Ao (qV C h) (f_cSide_tell_b97 k34 v0 v1 s0 h) := by
  unfold f_cSide_tell_b97
  have F0 := Av.rf c
  refine ao_it ?_ ?_
  · exact ao_jV F0 (av_cSide_tell_b148 hk34 (F0.cl) Cv0)
  · refine ao_it ?_ ?_
    · exact ao_jV F0 (av_cSide_tell_b119 hk34 (F0.cl) Cv0)
    · refine ao_it ?_ ?_
      · exact ao_jV F0 (av_cSide_tell_b119 hk34 (F0.cl) Cv0)
      · exact ao_jV F0 (av_cSide_tell_b148 hk34 (F0.cl) Cv0)
theorem av_cSide_tell_b94 {C : Nat → Prop} {k34 : Nat → Int → Hp → Option (Hp)} (hk34 : ∀ (v0 : Nat) (v1 : Int) (h : Hp), Cl C h → C v0 → Ao (qV C h) (k34 v0 v1 h)) {v0 : Nat} {v1 : Int} {h : Hp} (c : Cl C h) (Cv0 : C v0) : Ao (qV C h) (f_cSide_tell_b94 k34 v0 v1 h) := by
  unfold f_cSide_tell_b94
  have F0 := Av.rf c
  exact ao_jV F0 (av_cSide_tell_b97 hk34 (F0.cl) Cv0)
theorem av_cSide_tell_b34 {C : Nat → Prop} {k34 : Nat → Int → Hp → Option (Hp)} (hk34 : ∀ (v0 : Nat) (v1 : Int) (h : Hp), Cl C h → C v0 → Ao (qV C h) (k34 v0 v1 h)) {v0 : Nat} {v1 : Int} {h : Hp} (c : Cl C h) (Cv0 : C v0) : Ao (qV C h) (f_cSide_tell_b34 k34 v0 v1 h) := by
  unfold f_cSide_tell_b34
  have F0 := Av.rf c
  refine ao_it ?_ ?_
  · refine ao_b1 F0 (av_cSide_put_II (F0.cl) Cv0) (fun h7 F1 => ?_)
    refine ao_it ao_no ?_
    refine ao_it ao_no ?_
    refine ao_I F1 (F1.cl.r Cv0) (fun h11 F2 => ?_)
    exact ao_so F2
  · refine ao_it ?_ ?_
    · refine ao_it ?_ ?_
      · refine ao_it ?_ ?_
        · refine ao_it ?_ ?_
          · exact ao_jV F0 (av_cSide_tell_b94 hk34 (F0.cl) Cv0)
          · refine ao_it ?_ ?_
            · exact ao_jV F0 (av_cSide_tell_b94 hk34 (F0.cl) Cv0)
            · refine ao_it ao_no ?_
              refine ao_it ?_ ao_no
              exact ao_jV F0 (av_cSide_tell_b97 hk34 (F0.cl) Cv0)
        · exact ao_jV F0 (av_cSide_tell_b97 hk34 (F0.cl) Cv0)
      · exact ao_jV F0 (av_cSide_tell_b97 hk34 (F0.cl) Cv0)
    · exact ao_jV F0 (av_cSide_tell_b97 hk34 (F0.cl) Cv0)
theorem av_cSide_tell_b34_lp {C : Nat → Prop} (n : Nat) : ∀ {v0 : Nat} {v1 : Int} {h : Hp}, Cl C h → C v0 → Ao (qV C h) (f_cSide_tell_b34_lp n v0 v1 h) := by
  induction n with
  | zero => intros; exact ao_no
  | succ n ih => intro v0 v1 h c Cv0; exact av_cSide_tell_b34 (fun _ _ h => ih) c Cv0
theorem av_cSide_tell_b32 {C : Nat → Prop} {v0 : Nat} {h : Hp} (c : Cl C h) (Cv0 : C v0) : Ao (qV C h) (f_cSide_tell_b32 v0 h) := by
  unfold f_cSide_tell_b32
  have F0 := Av.rf c
  exact ao_jV F0 (av_cSide_tell_b34_lp FU (F0.cl) Cv0)
theorem av_cSide_tell {C : Nat → Prop} {v0 : Nat} {h : Hp} (c : Cl C h) (Cv0 : C v0) : Ao (qV C h) (f_cSide_tell v0 h) := by
  unfold f_cSide_tell
  have F0 := Av.rf c
  refine ao_it ao_no ?_
  refine ao_it ao_no ?_
  refine ao_b1 F0 (av_cBytes_over (F0.cl) (F0.cl.r Cv0) (F0.cl.r (F0.cl.r Cv0))) (fun h3 F1 => ?_)
  refine ao_it ?_ ?_
  · exact ao_jV F1 (av_cSide_tell_b32 (F1.cl) Cv0)
  · refine ao_b1 F1 (av_cSide_put_II (F1.cl) Cv0) (fun h5 F2 => ?_)
    exact ao_jV F2 (av_cSide_tell_b32 (F2.cl) Cv0)
theorem av_cRow_put {C : Nat → Prop} {v0 : Nat} {v1 : Int} {h : Hp} (c : Cl C h) (Cv0 : C v0) : Ao (qV C h) (f_cRow_put v0 v1 h) := by
  unfold f_cRow_put
  have F0 := Av.rf c
  refine ao_I F0 Cv0 (fun h1 F1 => ?_)
  refine ao_it ao_no ?_
  refine ao_it ?_ ao_no
  refine ao_I F1 (F0.cl.r Cv0) (fun h4 F2 => ?_)
  exact ao_so F2
theorem av_cRow_add {C : Nat → Prop} {v0 : Nat} {v1 : Nat} {v2 : Int} {v3 : Int} {h : Hp} (c : Cl C h) (Cv0 : C v0) : Ao (qV C h) (f_cRow_add v0 v1 v2 v3 h) := by
  unfold f_cRow_add
  have F0 := Av.rf c
  refine ao_it ao_no ?_
  refine ao_it ao_no ?_
  refine ao_it ?_ ao_no
  refine ao_cI F0 (F0.cl.r Cv0) (fun h4 F1 => ?_)
  refine ao_I F1 Cv0 (fun h5 F2 => ?_)
  exact ao_so F2
theorem av_cGreeting_sends {C : Nat → Prop} {v0 : Nat} {v1 : Int} {v2 : Int} {v3 : Nat} {v4 : Int} {v5 : Nat} {v6 : Int} {h : Hp} (c : Cl C h) (Cv0 : C v0) : Ao (qV C h) (f_cGreeting_sends v0 v1 v2 v3 v4 v5 v6 h) := by
  unfold f_cGreeting_sends
  have F0 := Av.rf c
  refine ao_it ao_no ?_
  refine ao_it ?_ ao_no
  refine ao_m (F0.cl.r (F0.cl.r Cv0)) (fun y3 Cy3 => ?_)
  refine ao_it ao_no ?_
  refine ao_v (fun y5 => ?_)
  refine ao_b1 F0 (av_cRow_put (F0.cl) Cy3) (fun h6 F3 => ?_)
  refine ao_b1 F3 (av_cRow_put (F3.cl) Cy3) (fun h8 F4 => ?_)
  refine ao_b1 F4 (av_cRow_put (F4.cl) Cy3) (fun h10 F5 => ?_)
  refine ao_b1 F5 (av_cRow_put (F5.cl) Cy3) (fun h12 F6 => ?_)
  refine ao_b1 F6 (av_cRow_add (F6.cl) Cy3) (fun h14 F7 => ?_)
  refine ao_b1 F7 (av_cRow_add (F7.cl) Cy3) (fun h16 F8 => ?_)
  refine ao_it ao_no ?_
  refine ao_b1 F8 (av_cRow_add (F8.cl) (F8.cl.r Cv0)) (fun h19 F9 => ?_)
  exact ao_so F9
theorem av_cGreeting_begin_b18 {C : Nat → Prop} {v0 : Nat} {s0 : Nat} {s1 : Int} {h : Hp} (c : Cl C h) (Cv0 : C v0) (Cs0 : C s0) : Ao (qV C h) (f_cGreeting_begin_b18 v0 s0 s1 h) := by
  unfold f_cGreeting_begin_b18
  have F0 := Av.rf c
  refine ao_it ao_no ?_
  refine ao_I F0 Cs0 (fun h3 F1 => ?_)
  refine ao_it ?_ ?_
  · exact ao_so F1
  · refine ao_b1 F1 (av_cGreeting_sends (F1.cl) Cv0) (fun h4 F2 => ?_)
    exact ao_so F2
theorem av_cGreeting_begin {C : Nat → Prop} {v0 : Nat} {h : Hp} (c : Cl C h) (Cv0 : C v0) : Ao (qV C h) (f_cGreeting_begin v0 h) := by
  unfold f_cGreeting_begin
  have F0 := Av.rf c
  refine ao_I F0 Cv0 (fun h1 F1 => ?_)
  refine ao_it ?_ ?_
  · exact ao_jV F1 (av_cGreeting_begin_b18 (F1.cl) Cv0 Cv0)
  · exact ao_jV F1 (av_cGreeting_begin_b18 (F1.cl) Cv0 Cv0)
theorem av_cSide_begin {C : Nat → Prop} {v0 : Nat} {h : Hp} (c : Cl C h) (Cv0 : C v0) : Ao (qV C h) (f_cSide_begin v0 h) := by
  unfold f_cSide_begin
  have F0 := Av.rf c
  refine ao_I F0 Cv0 (fun h1 F1 => ?_)
  refine ao_it ao_no ?_
  refine ao_b1 F1 (av_cSide_name (F1.cl) Cv0) (fun h3 F2 => ?_)
  refine ao_it ao_no ?_
  refine ao_it ?_ ao_no
  refine ao_cI F2 (F2.cl.r Cv0) (fun h7 F3 => ?_)
  refine ao_b1 F3 (av_cSide_tell (F3.cl) Cv0) (fun h8 F4 => ?_)
  refine ao_it ao_no ?_
  refine ao_b1 F4 (av_cGreeting_begin (F4.cl) (F4.cl.r Cv0)) (fun h11 F5 => ?_)
  refine ao_it ao_no ?_
  refine ao_I F5 (F5.cl.r Cv0) (fun h14 F6 => ?_)
  refine ao_it ao_no ?_
  refine ao_I F6 Cv0 (fun h16 F7 => ?_)
  exact ao_so F7
theorem av_cP_begin_b61 {C : Nat → Prop} {v0 : Nat} {s0 : Int} {h : Hp} (c : Cl C h) (Cv0 : C v0) : Ao (qTV C h) (f_cP_begin_b61 v0 s0 h) := by
  unfold f_cP_begin_b61
  have F0 := Av.rf c
  refine ao_bt F0 (av_cP_ready (F0.cl)) (fun a17 h18 F1 => ?_) (fun h15 F2 => ?_)
  · exact ao_so F1
  · refine ao_it ao_no ?_
    refine ao_it ?_ ao_no
    refine ao_it ao_no ?_
    refine ao_b1 F2 (av_cSide_begin (F2.cl) (F2.cl.r (F2.cl.r Cv0))) (fun h23 F3 => ?_)
    exact ao_so F3
theorem av_cP_begin_b60 {C : Nat → Prop} {v0 : Nat} {h : Hp} (c : Cl C h) (Cv0 : C v0) : Ao (qTV C h) (f_cP_begin_b60 v0 h) := by
  unfold f_cP_begin_b60
  have F0 := Av.rf c
  exact ao_jTV F0 (av_cP_begin_b61 (F0.cl) Cv0)
theorem av_cP_begin {C : Nat → Prop} {v0 : Nat} {h : Hp} (c : Cl C h) (Cv0 : C v0) : Ao (qTV C h) (f_cP_begin v0 h) := by
  unfold f_cP_begin
  have F0 := Av.rf c
  refine ao_it ao_no ?_
  refine ao_it ?_ ao_no
  refine ao_it ao_no ?_
  refine ao_it ?_ ao_no
  refine ao_it ?_ ?_
  · exact ao_jTV F0 (av_cP_begin_b60 (F0.cl) Cv0)
  · refine ao_it ?_ ao_no
    refine ao_it ?_ ao_no
    refine ao_it ?_ ?_
    · exact ao_jTV F0 (av_cP_begin_b60 (F0.cl) Cv0)
    · refine ao_it ?_ ao_no
      refine ao_it ao_no ?_
      refine ao_it ?_ ao_no
      refine ao_it ?_ ?_
      · exact ao_jTV F0 (av_cP_begin_b60 (F0.cl) Cv0)
      · refine ao_it ?_ ao_no
        refine ao_it ?_ ao_no
        refine ao_it ?_ ?_
        · exact ao_jTV F0 (av_cP_begin_b60 (F0.cl) Cv0)
        · refine ao_it ao_no ?_
          refine ao_it ?_ ao_no
          refine ao_it ao_no ?_
          refine ao_it ?_ ?_
          · exact ao_jTV F0 (av_cP_begin_b60 (F0.cl) Cv0)
          · exact ao_jTV F0 (av_cP_begin_b61 (F0.cl) Cv0)
theorem av_cHall_isOneWay {C : Nat → Prop} {v0 : Int} {h : Hp} (c : Cl C h) : Ao (qI C h) (f_cHall_isOneWay v0 h) := by
  unfold f_cHall_isOneWay
  have F0 := Av.rf c
  refine ao_it ?_ ?_
  · exact ao_so F0
  · exact ao_so F0
theorem av_cHall_isOwn {C : Nat → Prop} {v0 : Nat} {v1 : Int} {h : Hp} (c : Cl C h) : Ao (qI C h) (f_cHall_isOwn v0 v1 h) := by
  unfold f_cHall_isOwn
  have F0 := Av.rf c
  refine ao_it ?_ ?_
  · exact ao_so F0
  · exact ao_so F0
theorem av_cHall_rule {C : Nat → Prop} {v0 : Nat} {v1 : Int} {v3 : Int} {h : Hp} (c : Cl C h) : Ao (qI C h) (f_cHall_rule v0 v1 v3 h) := by
  unfold f_cHall_rule
  have F0 := Av.rf c
  refine ao_b2 F0 (av_cHall_isOneWay (F0.cl)) (fun r3 h1 F1 => ?_)
  refine ao_it ?_ ?_
  · refine ao_b2 F1 (av_cHall_isOwn (F1.cl)) (fun r6 h4 F2 => ?_)
    refine ao_it ?_ ?_
    · exact ao_so F2
    · exact ao_so F2
  · exact ao_so F1
theorem av_cSending_init {C : Nat → Prop} {v0 : Nat} {v1 : Int} {h : Hp} (c : Cl C h) (Cv0 : C v0) : Ao (qV C h) (f_cSending_init v0 v1 h) := by
  unfold f_cSending_init
  have F0 := Av.rf c
  refine ao_I F0 Cv0 (fun h1 F1 => ?_)
  refine ao_I F1 Cv0 (fun h2 F2 => ?_)
  refine ao_I F2 Cv0 (fun h3 F3 => ?_)
  refine ao_I F3 Cv0 (fun h4 F4 => ?_)
  refine ao_J F4 Cv0 (fun h5 F5 => ?_)
  refine ao_J F5 Cv0 (fun h6 F6 => ?_)
  exact ao_so F6
theorem av_cReceiving_init {C : Nat → Prop} {v0 : Nat} {v1 : Int} {h : Hp} (c : Cl C h) (Cv0 : C v0) : Ao (qV C h) (f_cReceiving_init v0 v1 h) := by
  unfold f_cReceiving_init
  have F0 := Av.rf c
  refine ao_I F0 Cv0 (fun h1 F1 => ?_)
  refine ao_I F1 Cv0 (fun h2 F2 => ?_)
  refine ao_I F2 Cv0 (fun h3 F3 => ?_)
  refine ao_I F3 Cv0 (fun h4 F4 => ?_)
  exact ao_so F4
theorem av_cHall_begin_b59 {C : Nat → Prop} {v0 : Nat} {v1 : Int} {h : Hp} (c : Cl C h) (Cv0 : C v0) : Ao (qV C h) (f_cHall_begin_b59 v0 v1 h) := by
  unfold f_cHall_begin_b59
  have F0 := Av.rf c
  refine ao_it ?_ ao_no
  refine ao_nw F0 (fun h27 F1 => ?_)
  refine ao_b2 F1 (av_cHall_rule (F1.cl)) (fun r31 h29 F2 => ?_)
  refine ao_it ao_no ?_
  refine ao_it ?_ ao_no
  refine ao_b1 F2 (av_cReceiving_init (F2.cl) (F0.cl.n)) (fun h34 F3 => ?_)
  refine ao_it ao_no ?_
  refine ao_it ?_ ao_no
  refine ao_R F3 (F0.cl.r Cv0) (F0.cl.n) (fun h38 F4 => ?_)
  exact ao_so F4
theorem av_cHall_begin_b42 {C : Nat → Prop} {v0 : Nat} {v1 : Int} {h : Hp} (c : Cl C h) (Cv0 : C v0) : Ao (qV C h) (f_cHall_begin_b42 v0 v1 h) := by
  unfold f_cHall_begin_b42
  have F0 := Av.rf c
  refine ao_b2 F0 (av_cHall_isOneWay (F0.cl)) (fun r22 h20 F1 => ?_)
  refine ao_it ?_ ?_
  · exact ao_jV F1 (av_cHall_begin_b59 (F1.cl) Cv0)
  · refine ao_b2 F1 (av_cHall_isOwn (F1.cl)) (fun r25 h23 F2 => ?_)
    refine ao_it ?_ ?_
    · exact ao_so F2
    · exact ao_jV F2 (av_cHall_begin_b59 (F2.cl) Cv0)
theorem av_cHall_begin_b17 {C : Nat → Prop} {v0 : Nat} {v1 : Int} {h : Hp} (c : Cl C h) (Cv0 : C v0) : Ao (qV C h) (f_cHall_begin_b17 v0 v1 h) := by
  unfold f_cHall_begin_b17
  have F0 := Av.rf c
  refine ao_it ?_ ao_no
  refine ao_nw F0 (fun h8 F1 => ?_)
  refine ao_b2 F1 (av_cHall_rule (F1.cl)) (fun r12 h10 F2 => ?_)
  refine ao_it ao_no ?_
  refine ao_it ?_ ao_no
  refine ao_b1 F2 (av_cSending_init (F2.cl) (F0.cl.n)) (fun h15 F3 => ?_)
  refine ao_it ao_no ?_
  refine ao_it ?_ ao_no
  refine ao_R F3 (F0.cl.r Cv0) (F0.cl.n) (fun h19 F4 => ?_)
  exact ao_jV F4 (av_cHall_begin_b42 (F4.cl) Cv0)
theorem av_cHall_begin {C : Nat → Prop} {v0 : Nat} {v1 : Int} {h : Hp} (c : Cl C h) (Cv0 : C v0) : Ao (qV C h) (f_cHall_begin v0 v1 h) := by
  unfold f_cHall_begin
  have F0 := Av.rf c
  refine ao_b2 F0 (av_cHall_isOneWay (F0.cl)) (fun r3 h1 F1 => ?_)
  refine ao_it ?_ ?_
  · exact ao_jV F1 (av_cHall_begin_b17 (F1.cl) Cv0)
  · refine ao_b2 F1 (av_cHall_isOwn (F1.cl)) (fun r6 h4 F2 => ?_)
    refine ao_it ?_ ?_
    · exact ao_jV F2 (av_cHall_begin_b42 (F2.cl) Cv0)
    · exact ao_jV F2 (av_cHall_begin_b17 (F2.cl) Cv0)
theorem av_cHall_open_b53 {C : Nat → Prop} {v0 : Nat} {v2 : Nat} {s0 : Int} {s1 : Int} {h : Hp} (c : Cl C h) (Cv0 : C v0) (Cv2 : C v2) : Ao (qI C h) (f_cHall_open_b53 v0 v2 s0 s1 h) := by
  unfold f_cHall_open_b53
  have F0 := Av.rf c
  refine ao_v (fun y6 => ?_)
  refine ao_it ao_no ?_
  refine ao_I F0 Cv2 (fun h8 F2 => ?_)
  refine ao_b1 F2 (av_cHall_begin (F2.cl) Cv0) (fun h9 F3 => ?_)
  exact ao_so F3
theorem av_cHall_open_b13 {C : Nat → Prop} {v0 : Nat} {v1 : Int} {s0 : Nat} {s1 : Int} {h : Hp} (c : Cl C h) (Cv0 : C v0) (Cs0 : C s0) : Ao (qI C h) (f_cHall_open_b13 v0 v1 s0 s1 h) := by
  unfold f_cHall_open_b13
  have F0 := Av.rf c
  refine ao_it ao_no ?_
  refine ao_it ?_ ao_no
  refine ao_m (F0.cl.r Cs0) (fun y3 Cy3 => ?_)
  refine ao_it ao_no ?_
  refine ao_it ?_ ?_
  · refine ao_it ?_ ?_
    · exact ao_jI F0 (av_cHall_open_b53 (F0.cl) Cv0 Cy3)
    · exact ao_jI F0 (av_cHall_open_b53 (F0.cl) Cv0 Cy3)
  · refine ao_J F0 Cy3 (fun h5 F2 => ?_)
    exact ao_so F2
theorem av_cHall_open {C : Nat → Prop} {v0 : Nat} {v1 : Int} {h : Hp} (c : Cl C h) (Cv0 : C v0) : Ao (qI C h) (f_cHall_open v0 v1 h) := by
  unfold f_cHall_open
  have F0 := Av.rf c
  refine ao_it ?_ ?_
  · exact ao_jI F0 (av_cHall_open_b13 (F0.cl) Cv0 (F0.cl.r Cv0))
  · exact ao_jI F0 (av_cHall_open_b13 (F0.cl) Cv0 (F0.cl.r Cv0))
theorem av_cP_open {C : Nat → Prop} {v0 : Nat} {v1 : Int} {v2 : Int} {h : Hp} (c : Cl C h) (Cv0 : C v0) : Ao (qTI C h) (f_cP_open v0 v1 v2 h) := by
  unfold f_cP_open
  have F0 := Av.rf c
  refine ao_bt2R F0 (av_cP_of (F0.cl) Cv0) (fun a3 h4 F1 => ?_) (fun r6 h1 F2 Cr6 => ?_)
  · exact ao_so F1
  · refine ao_it ao_no ?_
    refine ao_it ao_no ?_
    refine ao_b2 F2 (av_cHall_open (F2.cl) (F2.cl.r Cr6)) (fun r11 h9 F3 => ?_)
    exact ao_so F3
theorem av_cHall_sending_b11 {C : Nat → Prop} {v0 : Nat} {h : Hp} (c : Cl C h) : Ao (qR C h) (f_cHall_sending_b11 v0 h) := by
  unfold f_cHall_sending_b11
  have F0 := Av.rf c
  exact ao_so ⟨F0, (F0.cl.1)⟩
theorem av_cHall_sending {C : Nat → Prop} {v0 : Nat} {v1 : Int} {h : Hp} (c : Cl C h) (Cv0 : C v0) : Ao (qR C h) (f_cHall_sending v0 v1 h) := by
  unfold f_cHall_sending
  have F0 := Av.rf c
  refine ao_it ?_ ?_
  · exact ao_jR F0 (av_cHall_sending_b11 (F0.cl))
  · refine ao_it ?_ ?_
    · refine ao_it ao_no ?_
      refine ao_it ?_ ao_no
      exact ao_so ⟨F0, (F0.cl.r (F0.cl.r Cv0))⟩
    · exact ao_jR F0 (av_cHall_sending_b11 (F0.cl))
theorem av_jArrays_copyOf_AII {C : Nat → Prop} {v0 : Nat} {v1 : Int} {h : Hp} (c : Cl C h) : Ao (qR C h) (f_jArrays_copyOf_AII v0 v1 h) := by
  unfold f_jArrays_copyOf_AII
  have F0 := Av.rf c
  refine ao_it ao_no ?_
  refine ao_it ?_ ?_
  · refine ao_it ?_ ao_no
    refine ao_nw F0 (fun h3 F1 => ?_)
    refine ao_m (F0.cl.n) (fun y5 Cy5 => ?_)
    refine ao_it ?_ ao_no
    refine ao_cI F1 Cy5 (fun h8 F3 => ?_)
    exact ao_so ⟨F3, Cy5⟩
  · exact ao_no
theorem av_cStore_piece_b63 {C : Nat → Prop} {v0 : Nat} {h : Hp} (c : Cl C h) (Cv0 : C v0) : Ao (qI C h) (f_cStore_piece_b63 v0 h) := by
  unfold f_cStore_piece_b63
  have F0 := Av.rf c
  refine ao_it ao_no ?_
  refine ao_it ?_ ao_no
  refine ao_I F0 (F0.cl.r Cv0) (fun h16 F1 => ?_)
  refine ao_it ao_no ?_
  refine ao_it ?_ ao_no
  refine ao_I F1 (F1.cl.r Cv0) (fun h19 F2 => ?_)
  refine ao_it ao_no ?_
  refine ao_it ?_ ao_no
  refine ao_I F2 (F2.cl.r Cv0) (fun h22 F3 => ?_)
  refine ao_I F3 Cv0 (fun h23 F4 => ?_)
  exact ao_so F4
theorem av_cStore_piece {C : Nat → Prop} {v0 : Nat} {h : Hp} (c : Cl C h) (Cv0 : C v0) : Ao (qI C h) (f_cStore_piece v0 h) := by
  unfold f_cStore_piece
  have F0 := Av.rf c
  refine ao_it ao_no ?_
  refine ao_it ?_ ?_
  · exact ao_jI F0 (av_cStore_piece_b63 (F0.cl) Cv0)
  · refine ao_b2R F0 (av_jArrays_copyOf_AII (F0.cl)) (fun r4 h2 F1 Cr4 => ?_)
    refine ao_R F1 Cv0 Cr4 (fun h5 F2 => ?_)
    refine ao_b2R F2 (av_jArrays_copyOf_AII (F2.cl)) (fun r8 h6 F3 Cr8 => ?_)
    refine ao_R F3 Cv0 Cr8 (fun h9 F4 => ?_)
    refine ao_b2R F4 (av_jArrays_copyOf_AII (F4.cl)) (fun r12 h10 F5 Cr12 => ?_)
    refine ao_R F5 Cv0 Cr12 (fun h13 F6 => ?_)
    exact ao_jI F6 (av_cStore_piece_b63 (F6.cl) Cv0)
theorem av_cStore_add_b95 {C : Nat → Prop} {v0 : Nat} {v1 : Nat} {v2 : Nat} {v3 : Int} {v5 : Int} {h : Hp} (c : Cl C h) (Cv0 : C v0) (Cv1 : C v1) : Ao (qI C h) (f_cStore_add_b95 v0 v1 v2 v3 v5 h) := by
  unfold f_cStore_add_b95
  have F0 := Av.rf c
  refine ao_it ao_no ?_
  refine ao_it ao_no ?_
  refine ao_it ?_ ao_no
  refine ao_cI F0 (F0.cl.r Cv0) (fun h20 F1 => ?_)
  refine ao_it ao_no ?_
  refine ao_it ao_no ?_
  refine ao_it ?_ ao_no
  refine ao_it ?_ ao_no
  refine ao_I F1 (F1.cl.r Cv0) (fun h25 F2 => ?_)
  refine ao_I F2 Cv0 (fun h26 F3 => ?_)
  refine ao_I F3 Cv1 (fun h27 F4 => ?_)
  exact ao_so F4
theorem av_cStore_add_b89 {C : Nat → Prop} {v0 : Nat} {v1 : Nat} {v2 : Nat} {v3 : Int} {v5 : Int} {v6 : Int} {h : Hp} (c : Cl C h) (Cv0 : C v0) (Cv1 : C v1) : Ao (qI C h) (f_cStore_add_b89 v0 v1 v2 v3 v5 v6 h) := by
  unfold f_cStore_add_b89
  have F0 := Av.rf c
  refine ao_it ao_no ?_
  refine ao_I F0 Cv1 (fun h16 F1 => ?_)
  exact ao_jI F1 (av_cStore_add_b95 (F1.cl) Cv0 Cv1)
theorem av_cStore_add_b55 {C : Nat → Prop} {v0 : Nat} {v1 : Nat} {v2 : Nat} {v3 : Int} {v5 : Int} {h : Hp} (c : Cl C h) (Cv0 : C v0) (Cv1 : C v1) : Ao (qI C h) (f_cStore_add_b55 v0 v1 v2 v3 v5 h) := by
  unfold f_cStore_add_b55
  have F0 := Av.rf c
  refine ao_b2 F0 (av_cStore_piece (F0.cl) Cv0) (fun r9 h7 F1 => ?_)
  refine ao_it ao_no ?_
  refine ao_it ?_ ?_
  · refine ao_it ao_no ?_
    refine ao_it ?_ ao_no
    refine ao_I F1 (F1.cl.r Cv0) (fun h13 F2 => ?_)
    exact ao_jI F2 (av_cStore_add_b89 (F2.cl) Cv0 Cv1)
  · refine ao_I F1 Cv1 (fun h14 F3 => ?_)
    exact ao_jI F3 (av_cStore_add_b89 (F3.cl) Cv0 Cv1)
theorem av_cStore_add {C : Nat → Prop} {v0 : Nat} {v1 : Nat} {v2 : Nat} {v3 : Int} {v4 : Int} {h : Hp} (c : Cl C h) (Cv0 : C v0) (Cv1 : C v1) : Ao (qI C h) (f_cStore_add v0 v1 v2 v3 v4 h) := by
  unfold f_cStore_add
  have F0 := Av.rf c
  refine ao_v (fun y1 => ?_)
  refine ao_it ?_ ?_
  · refine ao_it ao_no ?_
    refine ao_it ?_ ?_
    · exact ao_jI F0 (av_cStore_add_b55 (F0.cl) Cv0 Cv1)
    · refine ao_it ao_no ?_
      refine ao_it ?_ ao_no
      refine ao_it ao_no ?_
      refine ao_it ?_ ao_no
      refine ao_it ?_ ?_
      · exact ao_jI F0 (av_cStore_add_b95 (F0.cl) Cv0 Cv1)
      · exact ao_jI F0 (av_cStore_add_b55 (F0.cl) Cv0 Cv1)
  · exact ao_so F0
theorem av_cHall_write_b20 {C : Nat → Prop} {v0 : Nat} {h : Hp} (c : Cl C h) : Ao (qI C h) (f_cHall_write_b20 v0 h) := by
  unfold f_cHall_write_b20
  have F0 := Av.rf c
  exact ao_so F0
theorem av_cHall_write {C : Nat → Prop} {v0 : Nat} {v1 : Int} {v2 : Nat} {v3 : Int} {v4 : Int} {h : Hp} (c : Cl C h) (Cv0 : C v0) : Ao (qI C h) (f_cHall_write v0 v1 v2 v3 v4 h) := by
  unfold f_cHall_write
  have F0 := Av.rf c
  refine ao_b2R F0 (av_cHall_sending (F0.cl) Cv0) (fun r3 h1 F1 Cr3 => ?_)
  refine ao_it ?_ ?_
  · exact ao_jI F1 (av_cHall_write_b20 (F1.cl))
  · refine ao_it ao_no ?_
    refine ao_it ?_ ?_
    · refine ao_it ao_no ?_
      refine ao_b2 F1 (av_cStore_add (F1.cl) (F1.cl.r Cv0) Cr3) (fun r8 h6 F2 => ?_)
      exact ao_so F2
    · exact ao_jI F1 (av_cHall_write_b20 (F1.cl))
theorem av_cP_write {C : Nat → Prop} {v0 : Nat} {v1 : Int} {v2 : Int} {h : Hp} (c : Cl C h) (Cv0 : C v0) : Ao (qTI C h) (f_cP_write v0 v1 v2 h) := by
  unfold f_cP_write
  have F0 := Av.rf c
  refine ao_bt2R F0 (av_cP_of (F0.cl) Cv0) (fun a3 h4 F1 => ?_) (fun r6 h1 F2 Cr6 => ?_)
  · exact ao_so F1
  · refine ao_it ao_no ?_
    refine ao_b2 F2 (av_cP_used (F2.cl) Cv0) (fun r10 h8 F3 => ?_)
    refine ao_it ao_no ?_
    refine ao_b2 F3 (av_cHall_write (F3.cl) (F2.cl.r Cr6)) (fun r14 h12 F4 => ?_)
    exact ao_so F4
theorem av_cHall_finish {C : Nat → Prop} {v0 : Nat} {v1 : Int} {h : Hp} (c : Cl C h) (Cv0 : C v0) : Ao (qI C h) (f_cHall_finish v0 v1 h) := by
  unfold f_cHall_finish
  have F0 := Av.rf c
  refine ao_b2R F0 (av_cHall_sending (F0.cl) Cv0) (fun r3 h1 F1 Cr3 => ?_)
  refine ao_it ?_ ?_
  · exact ao_so F1
  · refine ao_it ao_no ?_
    refine ao_it ?_ ?_
    · refine ao_I F1 Cr3 (fun h5 F2 => ?_)
      refine ao_I F2 Cr3 (fun h6 F3 => ?_)
      exact ao_so F3
    · exact ao_so F1
theorem av_cP_finish {C : Nat → Prop} {v0 : Nat} {v1 : Int} {v2 : Int} {h : Hp} (c : Cl C h) (Cv0 : C v0) : Ao (qTI C h) (f_cP_finish v0 v1 v2 h) := by
  unfold f_cP_finish
  have F0 := Av.rf c
  refine ao_bt2R F0 (av_cP_of (F0.cl) Cv0) (fun a3 h4 F1 => ?_) (fun r6 h1 F2 Cr6 => ?_)
  · exact ao_so F1
  · refine ao_it ao_no ?_
    refine ao_it ao_no ?_
    refine ao_b2 F2 (av_cHall_finish (F2.cl) (F2.cl.r Cr6)) (fun r11 h9 F3 => ?_)
    refine ao_it ?_ ao_no
    exact ao_so F3
theorem av_cSending_isLive_b15 {C : Nat → Prop} {v0 : Nat} {h : Hp} (c : Cl C h) : Ao (qI C h) (f_cSending_isLive_b15 v0 h) := by
  unfold f_cSending_isLive_b15
  have F0 := Av.rf c
  exact ao_so F0
theorem av_cSending_isLive {C : Nat → Prop} {v0 : Nat} {h : Hp} (c : Cl C h) : Ao (qI C h) (f_cSending_isLive v0 h) := by
  unfold f_cSending_isLive
  have F0 := Av.rf c
  refine ao_it ?_ ?_
  · exact ao_jI F0 (av_cSending_isLive_b15 (F0.cl))
  · refine ao_it ?_ ?_
    · exact ao_so F0
    · exact ao_jI F0 (av_cSending_isLive_b15 (F0.cl))
theorem av_cSending_reset {C : Nat → Prop} {v0 : Nat} {v1 : Int} {h : Hp} (c : Cl C h) (Cv0 : C v0) : Ao (qV C h) (f_cSending_reset v0 v1 h) := by
  unfold f_cSending_reset
  have F0 := Av.rf c
  refine ao_I F0 Cv0 (fun h1 F1 => ?_)
  refine ao_J F1 Cv0 (fun h2 F2 => ?_)
  refine ao_I F2 Cv0 (fun h3 F3 => ?_)
  exact ao_so F3
theorem av_cHall_reset {C : Nat → Prop} {v0 : Nat} {v1 : Int} {v2 : Int} {h : Hp} (c : Cl C h) (Cv0 : C v0) : Ao (qI C h) (f_cHall_reset v0 v1 v2 h) := by
  unfold f_cHall_reset
  have F0 := Av.rf c
  refine ao_b2R F0 (av_cHall_sending (F0.cl) Cv0) (fun r3 h1 F1 Cr3 => ?_)
  refine ao_it ?_ ?_
  · exact ao_so F1
  · refine ao_it ao_no ?_
    refine ao_b2 F1 (av_cSending_isLive (F1.cl)) (fun r7 h5 F2 => ?_)
    refine ao_it ?_ ?_
    · refine ao_b1 F2 (av_cSending_reset (F2.cl) Cr3) (fun h8 F3 => ?_)
      exact ao_so F3
    · exact ao_so F2
theorem av_cP_reset_b16 {C : Nat → Prop} {v0 : Nat} {v2 : Int} {v3 : Int} {v4 : Nat} {s0 : Int} {h : Hp} (c : Cl C h) (Cv4 : C v4) : Ao (qTI C h) (f_cP_reset_b16 v0 v2 v3 v4 s0 h) := by
  unfold f_cP_reset_b16
  have F0 := Av.rf c
  refine ao_bt F0 (av_cP_need (F0.cl)) (fun a9 h10 F1 => ?_) (fun h7 F2 => ?_)
  · exact ao_so F1
  · refine ao_it ao_no ?_
    refine ao_it ao_no ?_
    refine ao_b2 F2 (av_cHall_reset (F2.cl) (F2.cl.r Cv4)) (fun r16 h14 F3 => ?_)
    refine ao_it ?_ ao_no
    exact ao_so F3
theorem av_cP_reset {C : Nat → Prop} {v0 : Nat} {v1 : Int} {v2 : Int} {v3 : Int} {h : Hp} (c : Cl C h) (Cv0 : C v0) : Ao (qTI C h) (f_cP_reset v0 v1 v2 v3 h) := by
  unfold f_cP_reset
  have F0 := Av.rf c
  refine ao_bt2R F0 (av_cP_of (F0.cl) Cv0) (fun a3 h4 F1 => ?_) (fun r6 h1 F2 Cr6 => ?_)
  · exact ao_so F1
  · refine ao_it ?_ ?_
    · exact ao_jTI F2 (av_cP_reset_b16 (F2.cl) Cr6)
    · exact ao_jTI F2 (av_cP_reset_b16 (F2.cl) Cr6)
theorem av_cHall_receiving_b11 {C : Nat → Prop} {v0 : Nat} {h : Hp} (c : Cl C h) : Ao (qR C h) (f_cHall_receiving_b11 v0 h) := by
  unfold f_cHall_receiving_b11
  have F0 := Av.rf c
  exact ao_so ⟨F0, (F0.cl.1)⟩
theorem av_cHall_receiving {C : Nat → Prop} {v0 : Nat} {v1 : Int} {h : Hp} (c : Cl C h) (Cv0 : C v0) : Ao (qR C h) (f_cHall_receiving v0 v1 h) := by
  unfold f_cHall_receiving
  have F0 := Av.rf c
  refine ao_it ?_ ?_
  · exact ao_jR F0 (av_cHall_receiving_b11 (F0.cl))
  · refine ao_it ?_ ?_
    · refine ao_it ao_no ?_
      refine ao_it ?_ ao_no
      exact ao_so ⟨F0, (F0.cl.r (F0.cl.r Cv0))⟩
    · exact ao_jR F0 (av_cHall_receiving_b11 (F0.cl))
theorem av_cReceiving_isLive_b15 {C : Nat → Prop} {v0 : Nat} {h : Hp} (c : Cl C h) : Ao (qI C h) (f_cReceiving_isLive_b15 v0 h) := by
  unfold f_cReceiving_isLive_b15
  have F0 := Av.rf c
  exact ao_so F0
theorem av_cReceiving_isLive {C : Nat → Prop} {v0 : Nat} {h : Hp} (c : Cl C h) : Ao (qI C h) (f_cReceiving_isLive v0 h) := by
  unfold f_cReceiving_isLive
  have F0 := Av.rf c
  refine ao_it ?_ ?_
  · exact ao_jI F0 (av_cReceiving_isLive_b15 (F0.cl))
  · refine ao_it ?_ ?_
    · exact ao_so F0
    · exact ao_jI F0 (av_cReceiving_isLive_b15 (F0.cl))
theorem av_cHall_stop {C : Nat → Prop} {v0 : Nat} {v1 : Int} {v2 : Int} {h : Hp} (c : Cl C h) (Cv0 : C v0) : Ao (qI C h) (f_cHall_stop v0 v1 v2 h) := by
  unfold f_cHall_stop
  have F0 := Av.rf c
  refine ao_b2R F0 (av_cHall_receiving (F0.cl) Cv0) (fun r3 h1 F1 Cr3 => ?_)
  refine ao_it ?_ ?_
  · exact ao_so F1
  · refine ao_it ao_no ?_
    refine ao_b2 F1 (av_cReceiving_isLive (F1.cl)) (fun r7 h5 F2 => ?_)
    refine ao_it ?_ ?_
    · exact ao_so F2
    · refine ao_it ?_ ?_
      · refine ao_I F2 Cr3 (fun h8 F3 => ?_)
        refine ao_I F3 Cr3 (fun h9 F4 => ?_)
        refine ao_J F4 Cr3 (fun h10 F5 => ?_)
        exact ao_so F5
      · exact ao_so F2
theorem av_cP_stop_b16 {C : Nat → Prop} {v0 : Nat} {v2 : Int} {v3 : Int} {v4 : Nat} {s0 : Int} {h : Hp} (c : Cl C h) (Cv4 : C v4) : Ao (qTI C h) (f_cP_stop_b16 v0 v2 v3 v4 s0 h) := by
  unfold f_cP_stop_b16
  have F0 := Av.rf c
  refine ao_bt F0 (av_cP_need (F0.cl)) (fun a9 h10 F1 => ?_) (fun h7 F2 => ?_)
  · exact ao_so F1
  · refine ao_it ao_no ?_
    refine ao_it ao_no ?_
    refine ao_b2 F2 (av_cHall_stop (F2.cl) (F2.cl.r Cv4)) (fun r16 h14 F3 => ?_)
    refine ao_it ?_ ao_no
    exact ao_so F3
theorem av_cP_stop {C : Nat → Prop} {v0 : Nat} {v1 : Int} {v2 : Int} {v3 : Int} {h : Hp} (c : Cl C h) (Cv0 : C v0) : Ao (qTI C h) (f_cP_stop v0 v1 v2 v3 h) := by
  unfold f_cP_stop
  have F0 := Av.rf c
  refine ao_bt2R F0 (av_cP_of (F0.cl) Cv0) (fun a3 h4 F1 => ?_) (fun r6 h1 F2 Cr6 => ?_)
  · exact ao_so F1
  · refine ao_it ?_ ?_
    · exact ao_jTI F2 (av_cP_stop_b16 (F2.cl) Cr6)
    · exact ao_jTI F2 (av_cP_stop_b16 (F2.cl) Cr6)
theorem av_cBlocks_drop {C : Nat → Prop} {v0 : Nat} {v1 : Nat} {h : Hp} (c : Cl C h) (Cv0 : C v0) (Cv1 : C v1) : Ao (qV C h) (f_cBlocks_drop v0 v1 h) := by
  unfold f_cBlocks_drop
  have F0 := Av.rf c
  refine ao_it ao_no ?_
  refine ao_v (fun y2 => ?_)
  refine ao_it ao_no ?_
  refine ao_it ?_ ao_no
  refine ao_I F0 Cv1 (fun h5 F2 => ?_)
  refine ao_it ao_no ?_
  refine ao_it ?_ ao_no
  refine ao_I F2 (F2.cl.r Cv0) (fun h8 F3 => ?_)
  refine ao_I F3 Cv0 (fun h9 F4 => ?_)
  exact ao_so F4
theorem av_cBlocks_take_b61 {C : Nat → Prop} {k3 : Nat → Nat → Nat → Int → Int → Int → Hp → Option (Hp)} (hk3 : ∀ (v0 : Nat) (v1 : Nat) (v2 : Nat) (v3 : Int) (v4 : Int) (v5 : Int) (h : Hp), Cl C h → C v0 → C v1 → C v2 → Ao (qV C h) (k3 v0 v1 v2 v3 v4 v5 h)) {v0 : Nat} {v1 : Nat} {v2 : Nat} {v3 : Int} {v4 : Int} {v5 : Int} {h : Hp} (c : Cl C h) (Cv0 : C v0) (Cv1 : C v1) (Cv2 : C v2) : Ao (qV C h) (f_cBlocks_take_b61 k3 v0 v1 v2 v3 v4 v5 h) := by
  unfold f_cBlocks_take_b61
  have F0 := Av.rf c
  exact ao_jV F0 (hk3 _ _ _ _ _ _ _ (F0.cl) Cv0 Cv1 Cv2)
theorem av_cBlocks_take_b3 {C : Nat → Prop} {k3 : Nat → Nat → Nat → Int → Int → Int → Hp → Option (Hp)} (hk3 : ∀ (v0 : Nat) (v1 : Nat) (v2 : Nat) (v3 : Int) (v4 : Int) (v5 : Int) (h : Hp), Cl C h → C v0 → C v1 → C v2 → Ao (qV C h) (k3 v0 v1 v2 v3 v4 v5 h)) {v0 : Nat} {v1 : Nat} {v2 : Nat} {v3 : Int} {v4 : Int} {v5 : Int} {h : Hp} (c : Cl C h) (Cv0 : C v0) (Cv1 : C v1) (Cv2 : C v2) : Ao (qV C h) (f_cBlocks_take_b3 k3 v0 v1 v2 v3 v4 v5 h) := by
  unfold f_cBlocks_take_b3
  have F0 := Av.rf c
  refine ao_it ?_ ?_
  · exact ao_so F0
  · refine ao_it ao_no ?_
    refine ao_it ao_no ?_
    refine ao_it ?_ ao_no
    refine ao_it ao_no ?_
    refine ao_it ?_ ao_no
    refine ao_I F0 Cv2 (fun h6 F1 => ?_)
    refine ao_I F1 Cv1 (fun h7 F2 => ?_)
    refine ao_it ?_ ?_
    · exact ao_jV F2 (av_cBlocks_take_b61 hk3 (F2.cl) Cv0 Cv1 Cv2)
    · refine ao_b1 F2 (av_cBlocks_drop (F2.cl) Cv0 Cv1) (fun h8 F3 => ?_)
      exact ao_jV F3 (av_cBlocks_take_b61 hk3 (F3.cl) Cv0 Cv1 Cv2)
theorem av_cBlocks_take_b3_lp {C : Nat → Prop} (n : Nat) : ∀ {v0 : Nat} {v1 : Nat} {v2 : Nat} {v3 : Int} {v4 : Int} {v5 : Int} {h : Hp}, Cl C h → C v0 → C v1 → C v2 → Ao (qV C h) (f_cBlocks_take_b3_lp n v0 v1 v2 v3 v4 v5 h) := by
  induction n with
  | zero => intros; exact ao_no
  | succ n ih => intro v0 v1 v2 v3 v4 v5 h c Cv0 Cv1 Cv2; exact av_cBlocks_take_b3 (fun _ _ _ _ _ _ h => ih) c Cv0 Cv1 Cv2
theorem av_cBlocks_take {C : Nat → Prop} {v0 : Nat} {v1 : Nat} {v2 : Nat} {v3 : Int} {v4 : Int} {h : Hp} (c : Cl C h) (Cv0 : C v0) (Cv1 : C v1) (Cv2 : C v2) : Ao (qV C h) (f_cBlocks_take v0 v1 v2 v3 v4 h) := by
  unfold f_cBlocks_take
  have F0 := Av.rf c
  exact ao_jV F0 (av_cBlocks_take_b3_lp FU (F0.cl) Cv0 Cv1 Cv2)
theorem av_cHall_grow_ {C : Nat → Prop} {v0 : Nat} {h : Hp} (c : Cl C h) (Cv0 : C v0) : Ao (qV C h) (f_cHall_grow_ v0 h) := by
  unfold f_cHall_grow_
  have F0 := Av.rf c
  refine ao_it ao_no ?_
  refine ao_it ?_ ao_no
  refine ao_v (fun y3 => ?_)
  refine ao_it ?_ ao_no
  refine ao_it ?_ ao_no
  refine ao_it ?_ ?_
  · exact ao_so F0
  · refine ao_it ?_ ?_
    · refine ao_I F0 Cv0 (fun h6 F2 => ?_)
      refine ao_I F2 Cv0 (fun h7 F3 => ?_)
      exact ao_so F3
    · exact ao_so F0
theorem av_cHall_grow_Receiving {C : Nat → Prop} {v0 : Nat} {v1 : Nat} {h : Hp} (c : Cl C h) (Cv1 : C v1) : Ao (qV C h) (f_cHall_grow_Receiving v0 v1 h) := by
  unfold f_cHall_grow_Receiving
  have F0 := Av.rf c
  refine ao_it ao_no ?_
  refine ao_v (fun y2 => ?_)
  refine ao_it ?_ ?_
  · exact ao_so F0
  · refine ao_it ?_ ?_
    · refine ao_I F0 Cv1 (fun h3 F2 => ?_)
      refine ao_I F2 Cv1 (fun h4 F3 => ?_)
      exact ao_so F3
    · exact ao_so F0
theorem av_cSending_isOver_b16 {C : Nat → Prop} {v0 : Nat} {h : Hp} (c : Cl C h) : Ao (qI C h) (f_cSending_isOver_b16 v0 h) := by
  unfold f_cSending_isOver_b16
  have F0 := Av.rf c
  exact ao_so F0
theorem av_cSending_isOver {C : Nat → Prop} {v0 : Nat} {h : Hp} (c : Cl C h) : Ao (qI C h) (f_cSending_isOver v0 h) := by
  unfold f_cSending_isOver
  have F0 := Av.rf c
  refine ao_it ?_ ?_
  · exact ao_jI F0 (av_cSending_isOver_b16 (F0.cl))
  · refine ao_it ?_ ?_
    · exact ao_so F0
    · exact ao_jI F0 (av_cSending_isOver_b16 (F0.cl))
theorem av_cReceiving_isOver_b16 {C : Nat → Prop} {v0 : Nat} {h : Hp} (c : Cl C h) : Ao (qI C h) (f_cReceiving_isOver_b16 v0 h) := by
  unfold f_cReceiving_isOver_b16
  have F0 := Av.rf c
  exact ao_so F0
theorem av_cReceiving_isOver {C : Nat → Prop} {v0 : Nat} {h : Hp} (c : Cl C h) : Ao (qI C h) (f_cReceiving_isOver v0 h) := by
  unfold f_cReceiving_isOver
  have F0 := Av.rf c
  refine ao_it ?_ ?_
  · exact ao_jI F0 (av_cReceiving_isOver_b16 (F0.cl))
  · refine ao_it ?_ ?_
    · exact ao_so F0
    · exact ao_jI F0 (av_cReceiving_isOver_b16 (F0.cl))
theorem av_cHall_isOver_b42 {C : Nat → Prop} {v0 : Nat} {h : Hp} (c : Cl C h) : Ao (qI C h) (f_cHall_isOver_b42 v0 h) := by
  unfold f_cHall_isOver_b42
  have F0 := Av.rf c
  exact ao_so F0
theorem av_cHall_isOver_b21 {C : Nat → Prop} {v0 : Nat} {v1 : Int} {h : Hp} (c : Cl C h) : Ao (qI C h) (f_cHall_isOver_b21 v0 v1 h) := by
  unfold f_cHall_isOver_b21
  have F0 := Av.rf c
  refine ao_it ao_no ?_
  refine ao_it ?_ ao_no
  refine ao_it ?_ ?_
  · exact ao_jI F0 (av_cHall_isOver_b42 (F0.cl))
  · refine ao_it ?_ ao_no
    refine ao_it ao_no ?_
    refine ao_b2 F0 (av_cReceiving_isOver (F0.cl)) (fun r14 h12 F1 => ?_)
    refine ao_it ?_ ?_
    · exact ao_so F1
    · exact ao_jI F1 (av_cHall_isOver_b42 (F1.cl))
theorem av_cHall_isOver {C : Nat → Prop} {v0 : Nat} {v1 : Int} {h : Hp} (c : Cl C h) : Ao (qI C h) (f_cHall_isOver v0 v1 h) := by
  unfold f_cHall_isOver
  have F0 := Av.rf c
  refine ao_it ao_no ?_
  refine ao_it ?_ ao_no
  refine ao_it ?_ ?_
  · exact ao_jI F0 (av_cHall_isOver_b21 (F0.cl))
  · refine ao_it ?_ ao_no
    refine ao_it ao_no ?_
    refine ao_b2 F0 (av_cSending_isOver (F0.cl)) (fun r7 h5 F1 => ?_)
    refine ao_it ?_ ?_
    · exact ao_so F1
    · exact ao_jI F1 (av_cHall_isOver_b21 (F1.cl))
theorem av_cReceiving_settle_b43 {C : Nat → Prop} {v0 : Nat} {h : Hp} (c : Cl C h) (Cv0 : C v0) : Ao (qV C h) (f_cReceiving_settle_b43 v0 h) := by
  unfold f_cReceiving_settle_b43
  have F0 := Av.rf c
  refine ao_it ?_ ?_
  · exact ao_so F0
  · refine ao_it ?_ ?_
    · exact ao_so F0
    · refine ao_I F0 Cv0 (fun h3 F1 => ?_)
      exact ao_so F1
theorem av_cReceiving_settle_b19 {C : Nat → Prop} {v0 : Nat} {h : Hp} (c : Cl C h) (Cv0 : C v0) : Ao (qV C h) (f_cReceiving_settle_b19 v0 h) := by
  unfold f_cReceiving_settle_b19
  have F0 := Av.rf c
  refine ao_it ?_ ?_
  · exact ao_jV F0 (av_cReceiving_settle_b43 (F0.cl) Cv0)
  · refine ao_it ?_ ?_
    · exact ao_jV F0 (av_cReceiving_settle_b43 (F0.cl) Cv0)
    · refine ao_I F0 Cv0 (fun h2 F1 => ?_)
      exact ao_jV F1 (av_cReceiving_settle_b43 (F1.cl) Cv0)
theorem av_cReceiving_settle {C : Nat → Prop} {v0 : Nat} {h : Hp} (c : Cl C h) (Cv0 : C v0) : Ao (qV C h) (f_cReceiving_settle v0 h) := by
  unfold f_cReceiving_settle
  have F0 := Av.rf c
  refine ao_it ?_ ?_
  · exact ao_jV F0 (av_cReceiving_settle_b19 (F0.cl) Cv0)
  · refine ao_it ?_ ?_
    · exact ao_jV F0 (av_cReceiving_settle_b19 (F0.cl) Cv0)
    · refine ao_I F0 Cv0 (fun h1 F1 => ?_)
      exact ao_jV F1 (av_cReceiving_settle_b19 (F1.cl) Cv0)
theorem av_cHall_way_b16 {C : Nat → Prop} {v0 : Nat} {s0 : Nat} {s1 : Int} {h : Hp} (c : Cl C h) (Cs0 : C s0) : Ao (qR C h) (f_cHall_way_b16 v0 s0 s1 h) := by
  unfold f_cHall_way_b16
  have F0 := Av.rf c
  refine ao_it ao_no ?_
  refine ao_it ?_ ao_no
  exact ao_so ⟨F0, (F0.cl.r Cs0)⟩
theorem av_cHall_way {C : Nat → Prop} {v0 : Nat} {v1 : Int} {h : Hp} (c : Cl C h) (Cv0 : C v0) : Ao (qR C h) (f_cHall_way v0 v1 h) := by
  unfold f_cHall_way
  have F0 := Av.rf c
  refine ao_b2 F0 (av_cHall_isOneWay (F0.cl)) (fun r3 h1 F1 => ?_)
  refine ao_it ?_ ?_
  · exact ao_jR F1 (av_cHall_way_b16 (F1.cl) (F0.cl.r Cv0))
  · exact ao_jR F1 (av_cHall_way_b16 (F1.cl) (F0.cl.r Cv0))
theorem av_cHall_mayBeOver_b51 {C : Nat → Prop} {v0 : Nat} {v3 : Nat} {s0 : Nat} {s1 : Int} {h : Hp} (c : Cl C h) (Cv3 : C v3) (Cs0 : C s0) : Ao (qV C h) (f_cHall_mayBeOver_b51 v0 v3 s0 s1 h) := by
  unfold f_cHall_mayBeOver_b51
  have F0 := Av.rf c
  refine ao_it ao_no ?_
  refine ao_it ao_no ?_
  refine ao_I F0 Cs0 (fun h12 F1 => ?_)
  refine ao_it ao_no ?_
  refine ao_I F1 Cv3 (fun h15 F2 => ?_)
  exact ao_so F2
theorem av_cHall_mayBeOver_b46 {C : Nat → Prop} {v0 : Nat} {v3 : Nat} {s0 : Nat} {h : Hp} (c : Cl C h) (Cv3 : C v3) (Cs0 : C s0) : Ao (qV C h) (f_cHall_mayBeOver_b46 v0 v3 s0 h) := by
  unfold f_cHall_mayBeOver_b46
  have F0 := Av.rf c
  exact ao_jV F0 (av_cHall_mayBeOver_b51 (F0.cl) Cv3 Cs0)
theorem av_cHall_mayBeOver {C : Nat → Prop} {v0 : Nat} {v1 : Int} {v2 : Int} {h : Hp} (c : Cl C h) (Cv0 : C v0) : Ao (qV C h) (f_cHall_mayBeOver v0 v1 v2 h) := by
  unfold f_cHall_mayBeOver
  have F0 := Av.rf c
  refine ao_it ?_ ?_
  · exact ao_so F0
  · refine ao_b2 F0 (av_cHall_isOwn (F0.cl)) (fun r3 h1 F1 => ?_)
    refine ao_it ?_ ?_
    · exact ao_so F1
    · refine ao_b2 F1 (av_cHall_isOver (F1.cl)) (fun r6 h4 F2 => ?_)
      refine ao_it ?_ ?_
      · refine ao_b2R F2 (av_cHall_way (F2.cl) Cv0) (fun r9 h7 F3 Cr9 => ?_)
        refine ao_it ao_no ?_
        refine ao_it ?_ ?_
        · exact ao_jV F3 (av_cHall_mayBeOver_b46 (F3.cl) Cr9 Cr9)
        · refine ao_it ?_ ?_
          · exact ao_jV F3 (av_cHall_mayBeOver_b51 (F3.cl) Cr9 Cr9)
          · exact ao_jV F3 (av_cHall_mayBeOver_b46 (F3.cl) Cr9 Cr9)
      · exact ao_so F2
theorem av_cHall_read_b91 {C : Nat → Prop} {v0 : Nat} {v1 : Int} {v5 : Nat} {v6 : Int} {h : Hp} (c : Cl C h) (Cv0 : C v0) (Cv5 : C v5) : Ao (qI C h) (f_cHall_read_b91 v0 v1 v5 v6 h) := by
  unfold f_cHall_read_b91
  have F0 := Av.rf c
  refine ao_b2 F0 (av_cHall_isOver (F0.cl)) (fun r16 h14 F1 => ?_)
  refine ao_it ao_no ?_
  refine ao_b1 F1 (av_cReceiving_settle (F1.cl) Cv5) (fun h18 F2 => ?_)
  refine ao_b1 F2 (av_cHall_mayBeOver (F2.cl) Cv0) (fun h20 F3 => ?_)
  exact ao_so F3
theorem av_cHall_read {C : Nat → Prop} {v0 : Nat} {v1 : Int} {v2 : Nat} {v3 : Int} {v4 : Int} {h : Hp} (c : Cl C h) (Cv0 : C v0) (Cv2 : C v2) : Ao (qI C h) (f_cHall_read v0 v1 v2 v3 v4 h) := by
  unfold f_cHall_read
  have F0 := Av.rf c
  refine ao_b2R F0 (av_cHall_receiving (F0.cl) Cv0) (fun r3 h1 F1 Cr3 => ?_)
  refine ao_it ?_ ?_
  · refine ao_it ao_no ?_
    refine ao_it ?_ ?_
    · refine ao_v (fun y5 => ?_)
      refine ao_it ?_ ?_
      · exact ao_jI F1 (av_cHall_read_b91 (F1.cl) Cv0 Cr3)
      · refine ao_it ao_no ?_
        refine ao_b1 F1 (av_cBlocks_take (F1.cl) (F1.cl.r Cv0) Cr3 Cv2) (fun h7 F3 => ?_)
        refine ao_I F3 Cv0 (fun h9 F4 => ?_)
        refine ao_b1 F4 (av_cHall_grow_ (F4.cl) Cv0) (fun h10 F5 => ?_)
        refine ao_it ?_ ?_
        · exact ao_jI F5 (av_cHall_read_b91 (F5.cl) Cv0 Cr3)
        · refine ao_b1 F5 (av_cHall_grow_Receiving (F5.cl) Cr3) (fun h12 F6 => ?_)
          exact ao_jI F6 (av_cHall_read_b91 (F6.cl) Cv0 Cr3)
    · exact ao_so F1
  · exact ao_so F1
theorem av_cP_read {C : Nat → Prop} {v0 : Nat} {v1 : Int} {v2 : Int} {v3 : Int} {h : Hp} (c : Cl C h) (Cv0 : C v0) : Ao (qTI C h) (f_cP_read v0 v1 v2 v3 h) := by
  unfold f_cP_read
  have F0 := Av.rf c
  refine ao_bt2R F0 (av_cP_of (F0.cl) Cv0) (fun a3 h4 F1 => ?_) (fun r6 h1 F2 Cr6 => ?_)
  · exact ao_so F1
  · refine ao_b2 F2 (av_cP_in (F2.cl)) (fun r9 h7 F3 => ?_)
    refine ao_bt F3 (av_cP_need (F3.cl)) (fun a12 h13 F4 => ?_) (fun h10 F5 => ?_)
    · exact ao_so F4
    · refine ao_it ao_no ?_
      refine ao_it ao_no ?_
      refine ao_b2 F5 (av_cHall_read (F5.cl) (F5.cl.r Cr6) (F5.cl.r Cv0)) (fun r19 h17 F6 => ?_)
      refine ao_I F6 Cv0 (fun h20 F7 => ?_)
      exact ao_so F7
theorem av_cP_outs_b33 {C : Nat → Prop} {k33 : Nat → Int → Int → Int → Hp → Option ((Int × Hp) ⊕ (Nat × Hp))} (hk33 : ∀ (v0 : Nat) (v1 : Int) (v2 : Int) (v4 : Int) (h : Hp), Cl C h → Ao (qTI C h) (k33 v0 v1 v2 v4 h)) {v0 : Nat} {v1 : Int} {v2 : Int} {v4 : Int} {h : Hp} (c : Cl C h) : Ao (qTI C h) (f_cP_outs_b33 k33 v0 v1 v2 v4 h) := by
  unfold f_cP_outs_b33
  have F0 := Av.rf c
  refine ao_it ?_ ?_
  · exact ao_so F0
  · refine ao_it ao_no ?_
    refine ao_it ?_ ao_no
    refine ao_v (fun y12 => ?_)
    exact ao_jTI F0 (hk33 _ _ _ _ _ (F0.cl))
theorem av_cP_outs_b33_lp {C : Nat → Prop} (n : Nat) : ∀ {v0 : Nat} {v1 : Int} {v2 : Int} {v4 : Int} {h : Hp}, Cl C h → Ao (qTI C h) (f_cP_outs_b33_lp n v0 v1 v2 v4 h) := by
  induction n with
  | zero => intros; exact ao_no
  | succ n ih => intro v0 v1 v2 v4 h c; exact av_cP_outs_b33 (fun _ _ _ _ h => ih) c
theorem av_cP_outs {C : Nat → Prop} {v0 : Nat} {v1 : Int} {h : Hp} (c : Cl C h) : Ao (qTI C h) (f_cP_outs v0 v1 h) := by
  unfold f_cP_outs
  have F0 := Av.rf c
  refine ao_b2 F0 (av_cP_in (F0.cl)) (fun r3 h1 F1 => ?_)
  refine ao_bt F1 (av_cP_there (F1.cl)) (fun a6 h7 F2 => ?_) (fun h4 F3 => ?_)
  · exact ao_so F2
  · refine ao_v (fun y9 => ?_)
    exact ao_jTI F3 (av_cP_outs_b33_lp FU (F3.cl))
theorem av_cSide_isLive_b16 {C : Nat → Prop} {v0 : Nat} {h : Hp} (c : Cl C h) : Ao (qI C h) (f_cSide_isLive_b16 v0 h) := by
  unfold f_cSide_isLive_b16
  have F0 := Av.rf c
  exact ao_so F0
theorem av_cSide_isLive {C : Nat → Prop} {v0 : Nat} {h : Hp} (c : Cl C h) : Ao (qI C h) (f_cSide_isLive v0 h) := by
  unfold f_cSide_isLive
  have F0 := Av.rf c
  refine ao_it ?_ ?_
  · exact ao_jI F0 (av_cSide_isLive_b16 (F0.cl))
  · refine ao_it ?_ ?_
    · exact ao_so F0
    · exact ao_jI F0 (av_cSide_isLive_b16 (F0.cl))
theorem av_cTrip_patience {C : Nat → Prop} {v0 : Nat} {v1 : Int} {h : Hp} (c : Cl C h) : Ao (qI C h) (f_cTrip_patience v0 v1 h) := by
  unfold f_cTrip_patience
  have F0 := Av.rf c
  refine ao_it ?_ ?_
  · exact ao_so F0
  · exact ao_so F0
theorem av_cSide_patience {C : Nat → Prop} {v0 : Nat} {h : Hp} (c : Cl C h) : Ao (qI C h) (f_cSide_patience v0 h) := by
  unfold f_cSide_patience
  have F0 := Av.rf c
  refine ao_it ao_no ?_
  refine ao_it ao_no ?_
  refine ao_b2 F0 (av_cTrip_patience (F0.cl)) (fun r5 h3 F1 => ?_)
  exact ao_so F1
theorem av_cSide_close {C : Nat → Prop} {v0 : Nat} {v1 : Int} {v2 : Int} {v3 : Int} {h : Hp} (c : Cl C h) (Cv0 : C v0) : Ao (qV C h) (f_cSide_close v0 v1 v2 v3 h) := by
  unfold f_cSide_close
  have F0 := Av.rf c
  refine ao_b2 F0 (av_cSide_isLive (F0.cl)) (fun r3 h1 F1 => ?_)
  refine ao_it ?_ ?_
  · refine ao_I F1 Cv0 (fun h4 F2 => ?_)
    refine ao_I F2 Cv0 (fun h5 F3 => ?_)
    refine ao_I F3 Cv0 (fun h6 F4 => ?_)
    refine ao_I F4 Cv0 (fun h7 F5 => ?_)
    refine ao_I F5 Cv0 (fun h8 F6 => ?_)
    refine ao_it ao_no ?_
    refine ao_b2 F6 (av_cSide_patience (F6.cl)) (fun r12 h10 F7 => ?_)
    refine ao_I F7 Cv0 (fun h13 F8 => ?_)
    exact ao_so F8
  · exact ao_so F1
theorem av_cP_close {C : Nat → Prop} {v0 : Nat} {v1 : Int} {v2 : Int} {h : Hp} (c : Cl C h) (Cv0 : C v0) : Ao (qTI C h) (f_cP_close v0 v1 v2 h) := by
  unfold f_cP_close
  have F0 := Av.rf c
  refine ao_bt2R F0 (av_cP_of (F0.cl) Cv0) (fun a3 h4 F1 => ?_) (fun r6 h1 F2 Cr6 => ?_)
  · exact ao_so F1
  · refine ao_b2 F2 (av_cP_in (F2.cl)) (fun r9 h7 F3 => ?_)
    refine ao_bt F3 (av_cP_need (F3.cl)) (fun a12 h13 F4 => ?_) (fun h10 F5 => ?_)
    · exact ao_so F4
    · refine ao_it ao_no ?_
      refine ao_b2 F5 (av_cSide_isLive (F5.cl)) (fun r18 h16 F6 => ?_)
      refine ao_b1 F6 (av_cSide_close (F6.cl) Cr6) (fun h19 F7 => ?_)
      refine ao_it ?_ ao_no
      exact ao_so F7
theorem av_cP_raw_b34 {C : Nat → Prop} {v0 : Nat} {v2 : Nat} {s0 : Int} {h : Hp} (c : Cl C h) (Cv0 : C v0) (Cv2 : C v2) : Ao (qTV C h) (f_cP_raw_b34 v0 v2 s0 h) := by
  unfold f_cP_raw_b34
  have F0 := Av.rf c
  refine ao_bt F0 (av_cP_ready (F0.cl)) (fun a18 h19 F1 => ?_) (fun h16 F2 => ?_)
  · exact ao_so F1
  · refine ao_it ao_no ?_
    refine ao_it ao_no ?_
    refine ao_it ao_no ?_
    refine ao_it ?_ ao_no
    refine ao_cI F2 (F2.cl.r Cv2) (fun h25 F3 => ?_)
    refine ao_b2 F3 (av_cP_used (F3.cl) Cv0) (fun r28 h26 F4 => ?_)
    refine ao_I F4 Cv2 (fun h29 F5 => ?_)
    exact ao_so F5
theorem av_cP_raw {C : Nat → Prop} {v0 : Nat} {v1 : Int} {h : Hp} (c : Cl C h) (Cv0 : C v0) : Ao (qTV C h) (f_cP_raw v0 v1 h) := by
  unfold f_cP_raw
  have F0 := Av.rf c
  refine ao_bt2R F0 (av_cP_of (F0.cl) Cv0) (fun a3 h4 F1 => ?_) (fun r6 h1 F2 Cr6 => ?_)
  · exact ao_so F1
  · refine ao_b2 F2 (av_cP_in (F2.cl)) (fun r9 h7 F3 => ?_)
    refine ao_bt F3 (av_cP_need (F3.cl)) (fun a12 h13 F4 => ?_) (fun h10 F5 => ?_)
    · exact ao_so F4
    · refine ao_it ao_no ?_
      refine ao_it ?_ ?_
      · exact ao_jTV F5 (av_cP_raw_b34 (F5.cl) Cv0 Cr6)
      · exact ao_jTV F5 (av_cP_raw_b34 (F5.cl) Cv0 Cr6)
theorem av_cLine_remove_b19 {C : Nat → Prop} {k19 : Nat → Nat → Int → Hp → Option (Hp)} (hk19 : ∀ (v0 : Nat) (v2 : Nat) (v3 : Int) (h : Hp), Cl C h → C v0 → C v2 → Ao (qV C h) (k19 v0 v2 v3 h)) {v0 : Nat} {v2 : Nat} {v3 : Int} {h : Hp} (c : Cl C h) (Cv0 : C v0) (Cv2 : C v2) : Ao (qV C h) (f_cLine_remove_b19 k19 v0 v2 v3 h) := by
  unfold f_cLine_remove_b19
  have F0 := Av.rf c
  refine ao_it ?_ ?_
  · refine ao_it ao_no ?_
    refine ao_it ao_no ?_
    refine ao_it ?_ ao_no
    refine ao_R F0 (F0.cl.r Cv0) Cv2 (fun h8 F1 => ?_)
    exact ao_so F1
  · refine ao_it ao_no ?_
    refine ao_it ?_ ao_no
    refine ao_it ao_no ?_
    refine ao_it ?_ ao_no
    refine ao_R F0 (F0.cl.r Cv0) (F0.cl.r (F0.cl.r Cv0)) (fun h13 F2 => ?_)
    refine ao_it ao_no ?_
    refine ao_it ?_ ao_no
    refine ao_it ?_ ao_no
    refine ao_I F2 (F2.cl.r Cv0) (fun h17 F3 => ?_)
    refine ao_it ao_no ?_
    refine ao_it ?_ ao_no
    refine ao_it ?_ ao_no
    refine ao_I F3 (F3.cl.r Cv0) (fun h21 F4 => ?_)
    exact ao_jV F4 (hk19 _ _ _ _ (F4.cl) Cv0 Cv2)
theorem av_cLine_remove_b19_lp {C : Nat → Prop} (n : Nat) : ∀ {v0 : Nat} {v2 : Nat} {v3 : Int} {h : Hp}, Cl C h → C v0 → C v2 → Ao (qV C h) (f_cLine_remove_b19_lp n v0 v2 v3 h) := by
  induction n with
  | zero => intros; exact ao_no
  | succ n ih => intro v0 v2 v3 h c Cv0 Cv2; exact av_cLine_remove_b19 (fun _ _ _ h => ih) c Cv0 Cv2
theorem av_cLine_remove {C : Nat → Prop} {v0 : Nat} {v1 : Int} {h : Hp} (c : Cl C h) (Cv0 : C v0) : Ao (qV C h) (f_cLine_remove v0 v1 h) := by
  unfold f_cLine_remove
  have F0 := Av.rf c
  refine ao_it ao_no ?_
  refine ao_it ?_ ao_no
  refine ao_m (F0.cl.r (F0.cl.r Cv0)) (fun y3 Cy3 => ?_)
  refine ao_I F0 Cv0 (fun h4 F2 => ?_)
  exact ao_jV F2 (av_cLine_remove_b19_lp FU (F2.cl) Cv0 Cy3)
theorem av_cBytes_one {C : Nat → Prop} {v0 : Nat} {h : Hp} (c : Cl C h) (Cv0 : C v0) : Ao (qI C h) (f_cBytes_one v0 h) := by
  unfold f_cBytes_one
  have F0 := Av.rf c
  refine ao_b2 F0 (av_cBytes_step (F0.cl) Cv0) (fun r3 h1 F1 => ?_)
  refine ao_it ?_ ?_
  · exact ao_so F1
  · refine ao_I F1 Cv0 (fun h4 F2 => ?_)
    refine ao_it ao_no ?_
    refine ao_it ?_ ao_no
    exact ao_so F2
theorem av_cHeader_fails {C : Nat → Prop} {v0 : Nat} {v1 : Int} {h : Hp} (c : Cl C h) (Cv0 : C v0) : Ao (qI C h) (f_cHeader_fails v0 v1 h) := by
  unfold f_cHeader_fails
  have F0 := Av.rf c
  refine ao_I F0 Cv0 (fun h1 F1 => ?_)
  exact ao_so F1
theorem av_cBytes_pass {C : Nat → Prop} {v0 : Nat} {v1 : Int} {h : Hp} (c : Cl C h) (Cv0 : C v0) : Ao (qI C h) (f_cBytes_pass v0 v1 h) := by
  unfold f_cBytes_pass
  have F0 := Av.rf c
  refine ao_v (fun y1 => ?_)
  refine ao_b2 F0 (av_cBytes_step (F0.cl) Cv0) (fun r4 h2 F2 => ?_)
  refine ao_it ?_ ?_
  · exact ao_so F2
  · refine ao_I F2 Cv0 (fun h5 F3 => ?_)
    exact ao_so F3
theorem av_cBytes_left {C : Nat → Prop} {v0 : Nat} {h : Hp} (c : Cl C h) : Ao (qI C h) (f_cBytes_left v0 h) := by
  unfold f_cBytes_left
  have F0 := Av.rf c
  refine ao_it ?_ ?_
  · exact ao_so F0
  · exact ao_so F0
theorem av_cHeader_readShort_b59 {C : Nat → Prop} {v0 : Nat} {h : Hp} (c : Cl C h) (Cv0 : C v0) : Ao (qI C h) (f_cHeader_readShort_b59 v0 h) := by
  unfold f_cHeader_readShort_b59
  have F0 := Av.rf c
  refine ao_b2 F0 (av_cHeader_fails (F0.cl) Cv0) (fun r16 h14 F1 => ?_)
  exact ao_so F1
theorem av_cHeader_readShort {C : Nat → Prop} {v0 : Nat} {v1 : Nat} {v2 : Int} {v3 : Int} {h : Hp} (c : Cl C h) (Cv0 : C v0) (Cv1 : C v1) : Ao (qI C h) (f_cHeader_readShort v0 v1 v2 v3 h) := by
  unfold f_cHeader_readShort
  have F0 := Av.rf c
  refine ao_I F0 Cv0 (fun h1 F1 => ?_)
  refine ao_I F1 Cv0 (fun h2 F2 => ?_)
  refine ao_I F2 Cv0 (fun h3 F3 => ?_)
  refine ao_it ao_no ?_
  refine ao_b2 F3 (av_cBytes_pass (F3.cl) Cv1) (fun r7 h5 F4 => ?_)
  refine ao_I F4 Cv0 (fun h8 F5 => ?_)
  refine ao_I F5 Cv0 (fun h9 F6 => ?_)
  refine ao_I F6 Cv0 (fun h10 F7 => ?_)
  refine ao_it ?_ ?_
  · exact ao_jI F7 (av_cHeader_readShort_b59 (F7.cl) Cv0)
  · refine ao_b2 F7 (av_cBytes_left (F7.cl)) (fun r13 h11 F8 => ?_)
    refine ao_it ?_ ?_
    · exact ao_so F8
    · exact ao_jI F8 (av_cHeader_readShort_b59 (F8.cl) Cv0)
theorem av_cBytes_many_b13 {C : Nat → Prop} {k13 : Nat → Int → Int → Int → Hp → Option (Int × Hp)} (hk13 : ∀ (v0 : Nat) (v1 : Int) (v2 : Int) (v4 : Int) (h : Hp), Cl C h → C v0 → Ao (qI C h) (k13 v0 v1 v2 v4 h)) {v0 : Nat} {v1 : Int} {v2 : Int} {v4 : Int} {h : Hp} (c : Cl C h) (Cv0 : C v0) : Ao (qI C h) (f_cBytes_many_b13 k13 v0 v1 v2 v4 h) := by
  unfold f_cBytes_many_b13
  have F0 := Av.rf c
  refine ao_it ?_ ?_
  · exact ao_so F0
  · refine ao_I F0 Cv0 (fun h4 F1 => ?_)
    refine ao_it ao_no ?_
    refine ao_it ?_ ao_no
    refine ao_v (fun y7 => ?_)
    exact ao_jI F1 (hk13 _ _ _ _ _ (F1.cl) Cv0)
theorem av_cBytes_many_b13_lp {C : Nat → Prop} (n : Nat) : ∀ {v0 : Nat} {v1 : Int} {v2 : Int} {v4 : Int} {h : Hp}, Cl C h → C v0 → Ao (qI C h) (f_cBytes_many_b13_lp n v0 v1 v2 v4 h) := by
  induction n with
  | zero => intros; exact ao_no
  | succ n ih => intro v0 v1 v2 v4 h c Cv0; exact av_cBytes_many_b13 (fun _ _ _ _ h => ih) c Cv0
theorem av_cBytes_many {C : Nat → Prop} {v0 : Nat} {v1 : Int} {h : Hp} (c : Cl C h) (Cv0 : C v0) : Ao (qI C h) (f_cBytes_many v0 v1 h) := by
  unfold f_cBytes_many
  have F0 := Av.rf c
  refine ao_b2 F0 (av_cBytes_step (F0.cl) Cv0) (fun r3 h1 F1 => ?_)
  refine ao_it ?_ ?_
  · exact ao_so F1
  · exact ao_jI F1 (av_cBytes_many_b13_lp FU (F1.cl) Cv0)
theorem av_cBytes_number {C : Nat → Prop} {v0 : Nat} {h : Hp} (c : Cl C h) (Cv0 : C v0) : Ao (qI C h) (f_cBytes_number v0 h) := by
  unfold f_cBytes_number
  have F0 := Av.rf c
  refine ao_b2 F0 (av_cBytes_step (F0.cl) Cv0) (fun r3 h1 F1 => ?_)
  refine ao_it ?_ ?_
  · refine ao_it ao_no ?_
    refine ao_it ?_ ao_no
    refine ao_v (fun y6 => ?_)
    refine ao_b2 F1 (av_cBytes_many (F1.cl) Cv0) (fun r9 h7 F3 => ?_)
    refine ao_it ?_ ?_
    · exact ao_so F3
    · exact ao_so F3
  · exact ao_so F1
theorem av_cHeader_readRest_b94 {C : Nat → Prop} {v0 : Nat} {h : Hp} (c : Cl C h) (Cv0 : C v0) : Ao (qI C h) (f_cHeader_readRest_b94 v0 h) := by
  unfold f_cHeader_readRest_b94
  have F0 := Av.rf c
  refine ao_b2 F0 (av_cHeader_fails (F0.cl) Cv0) (fun r28 h26 F1 => ?_)
  exact ao_so F1
theorem av_cHeader_readRest_b56 {C : Nat → Prop} {v0 : Nat} {v1 : Nat} {h : Hp} (c : Cl C h) (Cv0 : C v0) (Cv1 : C v1) : Ao (qI C h) (f_cHeader_readRest_b56 v0 v1 h) := by
  unfold f_cHeader_readRest_b56
  have F0 := Av.rf c
  refine ao_it ao_no ?_
  refine ao_b2 F0 (av_cBytes_number (F0.cl) Cv1) (fun r20 h18 F1 => ?_)
  refine ao_I F1 Cv0 (fun h21 F2 => ?_)
  refine ao_it ?_ ?_
  · exact ao_jI F2 (av_cHeader_readRest_b94 (F2.cl) Cv0)
  · refine ao_it ?_ ?_
    · exact ao_jI F2 (av_cHeader_readRest_b94 (F2.cl) Cv0)
    · refine ao_b2 F2 (av_cBytes_left (F2.cl)) (fun r24 h22 F3 => ?_)
      refine ao_it ?_ ?_
      · refine ao_I F3 Cv0 (fun h25 F4 => ?_)
        exact ao_so F4
      · exact ao_jI F3 (av_cHeader_readRest_b94 (F3.cl) Cv0)
theorem av_cHeader_readRest_b41 {C : Nat → Prop} {v0 : Nat} {v1 : Nat} {s0 : Nat} {s1 : Int} {h : Hp} (c : Cl C h) (Cv0 : C v0) (Cv1 : C v1) (Cs0 : C s0) : Ao (qI C h) (f_cHeader_readRest_b41 v0 v1 s0 s1 h) := by
  unfold f_cHeader_readRest_b41
  have F0 := Av.rf c
  refine ao_it ao_no ?_
  refine ao_I F0 Cs0 (fun h11 F1 => ?_)
  refine ao_it ao_no ?_
  refine ao_b2 F1 (av_cBytes_pass (F1.cl) Cv1) (fun r15 h13 F2 => ?_)
  refine ao_I F2 Cv0 (fun h16 F3 => ?_)
  exact ao_jI F3 (av_cHeader_readRest_b56 (F3.cl) Cv0 Cv1)
theorem av_cHeader_readRest_b27 {C : Nat → Prop} {v0 : Nat} {v1 : Nat} {v2 : Int} {h : Hp} (c : Cl C h) (Cv0 : C v0) (Cv1 : C v1) : Ao (qI C h) (f_cHeader_readRest_b27 v0 v1 v2 h) := by
  unfold f_cHeader_readRest_b27
  have F0 := Av.rf c
  refine ao_it ao_no ?_
  refine ao_it ?_ ?_
  · exact ao_jI F0 (av_cHeader_readRest_b41 (F0.cl) Cv0 Cv1 Cv0)
  · exact ao_jI F0 (av_cHeader_readRest_b41 (F0.cl) Cv0 Cv1 Cv0)
theorem av_cHeader_readRest {C : Nat → Prop} {v0 : Nat} {v1 : Nat} {h : Hp} (c : Cl C h) (Cv0 : C v0) (Cv1 : C v1) : Ao (qI C h) (f_cHeader_readRest v0 v1 h) := by
  unfold f_cHeader_readRest
  have F0 := Av.rf c
  refine ao_it ?_ ?_
  · exact ao_jI F0 (av_cHeader_readRest_b56 (F0.cl) Cv0 Cv1)
  · refine ao_it ao_no ?_
    refine ao_b2 F0 (av_cBytes_number (F0.cl) Cv1) (fun r4 h2 F1 => ?_)
    refine ao_b2 F1 (av_cBytes_left (F1.cl)) (fun r7 h5 F2 => ?_)
    refine ao_it ?_ ?_
    · exact ao_jI F2 (av_cHeader_readRest_b27 (F2.cl) Cv0 Cv1)
    · refine ao_I F2 Cv1 (fun h8 F3 => ?_)
      exact ao_jI F3 (av_cHeader_readRest_b27 (F3.cl) Cv0 Cv1)
theorem av_cHeader_readLong_b165 {C : Nat → Prop} {v0 : Nat} {v1 : Nat} {h : Hp} (c : Cl C h) (Cv0 : C v0) (Cv1 : C v1) : Ao (qI C h) (f_cHeader_readLong_b165 v0 v1 h) := by
  unfold f_cHeader_readLong_b165
  have F0 := Av.rf c
  refine ao_b2 F0 (av_cHeader_readRest (F0.cl) Cv0 Cv1) (fun r47 h45 F1 => ?_)
  exact ao_so F1
theorem av_cHeader_readLong {C : Nat → Prop} {v0 : Nat} {v1 : Nat} {v2 : Int} {h : Hp} (c : Cl C h) (Cv0 : C v0) (Cv1 : C v1) : Ao (qI C h) (f_cHeader_readLong v0 v1 v2 h) := by
  unfold f_cHeader_readLong
  have F0 := Av.rf c
  refine ao_I F0 Cv0 (fun h1 F1 => ?_)
  refine ao_I F1 Cv0 (fun h2 F2 => ?_)
  refine ao_it ao_no ?_
  refine ao_b2 F2 (av_cBytes_many (F2.cl) Cv1) (fun r6 h4 F3 => ?_)
  refine ao_J F3 Cv0 (fun h7 F4 => ?_)
  refine ao_b2 F4 (av_cBytes_one (F4.cl) Cv1) (fun r10 h8 F5 => ?_)
  refine ao_I F5 Cv0 (fun h11 F6 => ?_)
  refine ao_it ?_ ?_
  · refine ao_it ?_ ?_
    · refine ao_it ?_ ?_
      · refine ao_b2 F6 (av_cBytes_pass (F6.cl) Cv1) (fun r14 h12 F7 => ?_)
        refine ao_I F7 Cv0 (fun h15 F8 => ?_)
        refine ao_b2 F8 (av_cBytes_one (F8.cl) Cv1) (fun r18 h16 F9 => ?_)
        refine ao_I F9 Cv0 (fun h19 F10 => ?_)
        refine ao_it ?_ ?_
        · refine ao_it ?_ ?_
          · refine ao_b2 F10 (av_cBytes_pass (F10.cl) Cv1) (fun r22 h20 F11 => ?_)
            refine ao_I F11 Cv0 (fun h23 F12 => ?_)
            refine ao_it ?_ ?_
            · refine ao_it ?_ ?_
              · exact ao_jI F12 (av_cHeader_readLong_b165 (F12.cl) Cv0 Cv1)
              · refine ao_it ?_ ?_
                · refine ao_b2 F12 (av_cHeader_fails (F12.cl) Cv0) (fun r26 h24 F13 => ?_)
                  exact ao_so F13
                · exact ao_jI F12 (av_cHeader_readLong_b165 (F12.cl) Cv0 Cv1)
            · refine ao_b2 F12 (av_cHeader_fails (F12.cl) Cv0) (fun r29 h27 F14 => ?_)
              exact ao_so F14
          · refine ao_b2 F10 (av_cHeader_fails (F10.cl) Cv0) (fun r32 h30 F15 => ?_)
            exact ao_so F15
        · refine ao_b2 F10 (av_cHeader_fails (F10.cl) Cv0) (fun r35 h33 F16 => ?_)
          exact ao_so F16
      · refine ao_b2 F6 (av_cHeader_fails (F6.cl) Cv0) (fun r38 h36 F17 => ?_)
        exact ao_so F17
    · refine ao_b2 F6 (av_cHeader_fails (F6.cl) Cv0) (fun r41 h39 F18 => ?_)
      exact ao_so F18
  · refine ao_b2 F6 (av_cHeader_fails (F6.cl) Cv0) (fun r44 h42 F19 => ?_)
    exact ao_so F19
theorem av_cHeader_read {C : Nat → Prop} {v0 : Nat} {v1 : Nat} {v2 : Int} {h : Hp} (c : Cl C h) (Cv0 : C v0) (Cv1 : C v1) : Ao (qI C h) (f_cHeader_read v0 v1 v2 h) := by
  unfold f_cHeader_read
  have F0 := Av.rf c
  refine ao_I F0 Cv0 (fun h1 F1 => ?_)
  refine ao_J F1 Cv0 (fun h2 F2 => ?_)
  refine ao_I F2 Cv0 (fun h3 F3 => ?_)
  refine ao_I F3 Cv0 (fun h4 F4 => ?_)
  refine ao_I F4 Cv0 (fun h5 F5 => ?_)
  refine ao_I F5 Cv0 (fun h6 F6 => ?_)
  refine ao_it ao_no ?_
  refine ao_I F6 Cv0 (fun h8 F7 => ?_)
  refine ao_b2 F7 (av_cBytes_one (F7.cl) Cv1) (fun r11 h9 F8 => ?_)
  refine ao_it ?_ ?_
  · refine ao_it ?_ ?_
    · refine ao_it ?_ ?_
      · refine ao_b2 F8 (av_cHeader_readLong (F8.cl) Cv0 Cv1) (fun r14 h12 F9 => ?_)
        exact ao_so F9
      · refine ao_b2 F8 (av_cHeader_readShort (F8.cl) Cv0 Cv1) (fun r17 h15 F10 => ?_)
        exact ao_so F10
    · refine ao_b2 F8 (av_cHeader_fails (F8.cl) Cv0) (fun r20 h18 F11 => ?_)
      exact ao_so F11
  · refine ao_b2 F8 (av_cHeader_fails (F8.cl) Cv0) (fun r23 h21 F12 => ?_)
    exact ao_so F12
theorem av_cSide_sameTo_b63 {C : Nat → Prop} {k22 : Nat → Nat → Int → Int → Hp → Option (Int × Hp)} (hk22 : ∀ (v0 : Nat) (v1 : Nat) (v2 : Int) (v3 : Int) (h : Hp), Cl C h → Ao (qI C h) (k22 v0 v1 v2 v3 h)) {v0 : Nat} {v1 : Nat} {v3 : Int} {s0 : Int} {h : Hp} (c : Cl C h) : Ao (qI C h) (f_cSide_sameTo_b63 k22 v0 v1 v3 s0 h) := by
  unfold f_cSide_sameTo_b63
  have F0 := Av.rf c
  exact ao_jI F0 (hk22 _ _ _ _ _ (F0.cl))
theorem av_cSide_sameTo_b22 {C : Nat → Prop} {k22 : Nat → Nat → Int → Int → Hp → Option (Int × Hp)} (hk22 : ∀ (v0 : Nat) (v1 : Nat) (v2 : Int) (v3 : Int) (h : Hp), Cl C h → Ao (qI C h) (k22 v0 v1 v2 v3 h)) {v0 : Nat} {v1 : Nat} {v2 : Int} {v3 : Int} {h : Hp} (c : Cl C h) : Ao (qI C h) (f_cSide_sameTo_b22 k22 v0 v1 v2 v3 h) := by
  unfold f_cSide_sameTo_b22
  have F0 := Av.rf c
  refine ao_it ?_ ?_
  · refine ao_it ?_ ao_no
    exact ao_so F0
  · refine ao_it ?_ ?_
    · refine ao_it ?_ ao_no
      exact ao_so F0
    · refine ao_it ao_no ?_
      refine ao_it ao_no ?_
      refine ao_it ?_ ao_no
      refine ao_it ao_no ?_
      refine ao_it ?_ ao_no
      refine ao_it ?_ ?_
      · exact ao_jI F0 (av_cSide_sameTo_b63 hk22 (F0.cl))
      · exact ao_jI F0 (av_cSide_sameTo_b63 hk22 (F0.cl))
theorem av_cSide_sameTo_b22_lp {C : Nat → Prop} (n : Nat) : ∀ {v0 : Nat} {v1 : Nat} {v2 : Int} {v3 : Int} {h : Hp}, Cl C h → Ao (qI C h) (f_cSide_sameTo_b22_lp n v0 v1 v2 v3 h) := by
  induction n with
  | zero => intros; exact ao_no
  | succ n ih => intro v0 v1 v2 v3 h c; exact av_cSide_sameTo_b22 (fun _ _ _ _ h => ih) c
theorem av_cSide_sameTo_b19 {C : Nat → Prop} {v0 : Nat} {v1 : Nat} {s0 : Int} {h : Hp} (c : Cl C h) : Ao (qI C h) (f_cSide_sameTo_b19 v0 v1 s0 h) := by
  unfold f_cSide_sameTo_b19
  have F0 := Av.rf c
  exact ao_jI F0 (av_cSide_sameTo_b22_lp FU (F0.cl))
theorem av_cSide_sameTo {C : Nat → Prop} {v0 : Nat} {v1 : Nat} {h : Hp} (c : Cl C h) : Ao (qI C h) (f_cSide_sameTo v0 v1 h) := by
  unfold f_cSide_sameTo
  have F0 := Av.rf c
  refine ao_it ao_no ?_
  refine ao_it ?_ ?_
  · exact ao_jI F0 (av_cSide_sameTo_b19 (F0.cl))
  · exact ao_jI F0 (av_cSide_sameTo_b19 (F0.cl))
theorem av_cSide_isTo_b64 {C : Nat → Prop} {k21 : Nat → Nat → Int → Int → Int → Hp → Option (Int × Hp)} (hk21 : ∀ (v0 : Nat) (v1 : Nat) (v2 : Int) (v3 : Int) (v4 : Int) (h : Hp), Cl C h → Ao (qI C h) (k21 v0 v1 v2 v3 v4 h)) {v0 : Nat} {v1 : Nat} {v2 : Int} {v4 : Int} {s0 : Int} {h : Hp} (c : Cl C h) : Ao (qI C h) (f_cSide_isTo_b64 k21 v0 v1 v2 v4 s0 h) := by
  unfold f_cSide_isTo_b64
  have F0 := Av.rf c
  exact ao_jI F0 (hk21 _ _ _ _ _ _ (F0.cl))
theorem av_cSide_isTo_b21 {C : Nat → Prop} {k21 : Nat → Nat → Int → Int → Int → Hp → Option (Int × Hp)} (hk21 : ∀ (v0 : Nat) (v1 : Nat) (v2 : Int) (v3 : Int) (v4 : Int) (h : Hp), Cl C h → Ao (qI C h) (k21 v0 v1 v2 v3 v4 h)) {v0 : Nat} {v1 : Nat} {v2 : Int} {v3 : Int} {v4 : Int} {h : Hp} (c : Cl C h) : Ao (qI C h) (f_cSide_isTo_b21 k21 v0 v1 v2 v3 v4 h) := by
  unfold f_cSide_isTo_b21
  have F0 := Av.rf c
  refine ao_it ?_ ?_
  · refine ao_it ?_ ao_no
    exact ao_so F0
  · refine ao_it ?_ ?_
    · refine ao_it ?_ ao_no
      exact ao_so F0
    · refine ao_it ao_no ?_
      refine ao_it ao_no ?_
      refine ao_it ?_ ao_no
      refine ao_it ao_no ?_
      refine ao_it ?_ ao_no
      refine ao_it ?_ ?_
      · exact ao_jI F0 (av_cSide_isTo_b64 hk21 (F0.cl))
      · exact ao_jI F0 (av_cSide_isTo_b64 hk21 (F0.cl))
theorem av_cSide_isTo_b21_lp {C : Nat → Prop} (n : Nat) : ∀ {v0 : Nat} {v1 : Nat} {v2 : Int} {v3 : Int} {v4 : Int} {h : Hp}, Cl C h → Ao (qI C h) (f_cSide_isTo_b21_lp n v0 v1 v2 v3 v4 h) := by
  induction n with
  | zero => intros; exact ao_no
  | succ n ih => intro v0 v1 v2 v3 v4 h c; exact av_cSide_isTo_b21 (fun _ _ _ _ _ h => ih) c
theorem av_cSide_isTo_b17 {C : Nat → Prop} {v0 : Nat} {v1 : Nat} {v2 : Int} {s0 : Int} {h : Hp} (c : Cl C h) : Ao (qI C h) (f_cSide_isTo_b17 v0 v1 v2 s0 h) := by
  unfold f_cSide_isTo_b17
  have F0 := Av.rf c
  exact ao_jI F0 (av_cSide_isTo_b21_lp FU (F0.cl))
theorem av_cSide_isTo {C : Nat → Prop} {v0 : Nat} {v1 : Nat} {v2 : Int} {h : Hp} (c : Cl C h) : Ao (qI C h) (f_cSide_isTo v0 v1 v2 h) := by
  unfold f_cSide_isTo
  have F0 := Av.rf c
  refine ao_it ao_no ?_
  refine ao_it ?_ ?_
  · exact ao_jI F0 (av_cSide_isTo_b17 (F0.cl))
  · exact ao_jI F0 (av_cSide_isTo_b17 (F0.cl))
theorem av_cKeystream_begin_b77 {C : Nat → Prop} {k77 : Nat → Nat → Int → Int → Hp → Option (Hp)} (hk77 : ∀ (v0 : Nat) (v2 : Nat) (v3 : Int) (v5 : Int) (h : Hp), Cl C h → C v0 → Ao (qV C h) (k77 v0 v2 v3 v5 h)) {v0 : Nat} {v2 : Nat} {v3 : Int} {v5 : Int} {h : Hp} (c : Cl C h) (Cv0 : C v0) : Ao (qV C h) (f_cKeystream_begin_b77 k77 v0 v2 v3 v5 h) := by
  unfold f_cKeystream_begin_b77
  have F0 := Av.rf c
  refine ao_it ?_ ?_
  · exact ao_so F0
  · refine ao_b2 F0 (av_cP_word (F0.cl)) (fun r24 h22 F1 => ?_)
    refine ao_it ao_no ?_
    refine ao_it ?_ ao_no
    refine ao_I F1 (F0.cl.r Cv0) (fun h27 F2 => ?_)
    exact ao_jV F2 (hk77 _ _ _ _ _ (F2.cl) Cv0)
theorem av_cKeystream_begin_b77_lp {C : Nat → Prop} (n : Nat) : ∀ {v0 : Nat} {v2 : Nat} {v3 : Int} {v5 : Int} {h : Hp}, Cl C h → C v0 → Ao (qV C h) (f_cKeystream_begin_b77_lp n v0 v2 v3 v5 h) := by
  induction n with
  | zero => intros; exact ao_no
  | succ n ih => intro v0 v2 v3 v5 h c Cv0; exact av_cKeystream_begin_b77 (fun _ _ _ _ h => ih) c Cv0
theorem av_cKeystream_begin_b35 {C : Nat → Prop} {k35 : Nat → Nat → Nat → Int → Int → Int → Hp → Option (Hp)} (hk35 : ∀ (v0 : Nat) (v1 : Nat) (v2 : Nat) (v3 : Int) (v4 : Int) (v5 : Int) (h : Hp), Cl C h → C v0 → Ao (qV C h) (k35 v0 v1 v2 v3 v4 v5 h)) {v0 : Nat} {v1 : Nat} {v2 : Nat} {v3 : Int} {v4 : Int} {v5 : Int} {h : Hp} (c : Cl C h) (Cv0 : C v0) : Ao (qV C h) (f_cKeystream_begin_b35 k35 v0 v1 v2 v3 v4 v5 h) := by
  unfold f_cKeystream_begin_b35
  have F0 := Av.rf c
  refine ao_it ?_ ?_
  · refine ao_it ao_no ?_
    refine ao_it ?_ ao_no
    refine ao_I F0 (F0.cl.r Cv0) (fun h15 F1 => ?_)
    exact ao_jV F1 (av_cKeystream_begin_b77_lp FU (F1.cl) Cv0)
  · refine ao_b2 F0 (av_cP_word (F0.cl)) (fun r18 h16 F2 => ?_)
    refine ao_it ao_no ?_
    refine ao_it ?_ ao_no
    refine ao_I F2 (F0.cl.r Cv0) (fun h21 F3 => ?_)
    exact ao_jV F3 (hk35 _ _ _ _ _ _ _ (F3.cl) Cv0)
theorem av_cKeystream_begin_b35_lp {C : Nat → Prop} (n : Nat) : ∀ {v0 : Nat} {v1 : Nat} {v2 : Nat} {v3 : Int} {v4 : Int} {v5 : Int} {h : Hp}, Cl C h → C v0 → Ao (qV C h) (f_cKeystream_begin_b35_lp n v0 v1 v2 v3 v4 v5 h) := by
  induction n with
  | zero => intros; exact ao_no
  | succ n ih => intro v0 v1 v2 v3 v4 v5 h c Cv0; exact av_cKeystream_begin_b35 (fun _ _ _ _ _ _ h => ih) c Cv0
theorem av_cKeystream_begin {C : Nat → Prop} {v0 : Nat} {v1 : Nat} {v2 : Nat} {v3 : Int} {v4 : Int} {h : Hp} (c : Cl C h) (Cv0 : C v0) : Ao (qV C h) (f_cKeystream_begin v0 v1 v2 v3 v4 h) := by
  unfold f_cKeystream_begin
  have F0 := Av.rf c
  refine ao_it ao_no ?_
  refine ao_it ?_ ao_no
  refine ao_I F0 (F0.cl.r Cv0) (fun h3 F1 => ?_)
  refine ao_it ao_no ?_
  refine ao_it ?_ ao_no
  refine ao_I F1 (F1.cl.r Cv0) (fun h6 F2 => ?_)
  refine ao_it ao_no ?_
  refine ao_it ?_ ao_no
  refine ao_I F2 (F2.cl.r Cv0) (fun h9 F3 => ?_)
  refine ao_it ao_no ?_
  refine ao_it ?_ ao_no
  refine ao_I F3 (F3.cl.r Cv0) (fun h12 F4 => ?_)
  exact ao_jV F4 (av_cKeystream_begin_b35_lp FU (F4.cl) Cv0)
theorem av_jInteger_rotateLeft {C : Nat → Prop} {v0 : Int} {v1 : Int} {h : Hp} (c : Cl C h) : Ao (qI C h) (f_jInteger_rotateLeft v0 v1 h) := by
  unfold f_jInteger_rotateLeft
  have F0 := Av.rf c
  exact ao_so F0
theorem av_cKeystream_mix {C : Nat → Prop} {v0 : Nat} {v1 : Int} {v2 : Int} {v3 : Int} {v4 : Int} {h : Hp} (c : Cl C h) (Cv0 : C v0) : Ao (qV C h) (f_cKeystream_mix v0 v1 v2 v3 v4 h) := by
  unfold f_cKeystream_mix
  have F0 := Av.rf c
  refine ao_it ao_no ?_
  refine ao_it ?_ ao_no
  refine ao_it ?_ ao_no
  refine ao_it ?_ ao_no
  refine ao_I F0 (F0.cl.r Cv0) (fun h5 F1 => ?_)
  refine ao_it ao_no ?_
  refine ao_it ?_ ao_no
  refine ao_it ?_ ao_no
  refine ao_b2 F1 (av_jInteger_rotateLeft (F1.cl)) (fun r11 h9 F2 => ?_)
  refine ao_it ?_ ao_no
  refine ao_I F2 (F1.cl.r Cv0) (fun h13 F3 => ?_)
  refine ao_it ao_no ?_
  refine ao_it ?_ ao_no
  refine ao_it ?_ ao_no
  refine ao_it ?_ ao_no
  refine ao_I F3 (F3.cl.r Cv0) (fun h18 F4 => ?_)
  refine ao_it ao_no ?_
  refine ao_it ?_ ao_no
  refine ao_it ?_ ao_no
  refine ao_b2 F4 (av_jInteger_rotateLeft (F4.cl)) (fun r24 h22 F5 => ?_)
  refine ao_it ?_ ao_no
  refine ao_I F5 (F4.cl.r Cv0) (fun h26 F6 => ?_)
  refine ao_it ao_no ?_
  refine ao_it ?_ ao_no
  refine ao_it ?_ ao_no
  refine ao_it ?_ ao_no
  refine ao_I F6 (F6.cl.r Cv0) (fun h31 F7 => ?_)
  refine ao_it ao_no ?_
  refine ao_it ?_ ao_no
  refine ao_it ?_ ao_no
  refine ao_b2 F7 (av_jInteger_rotateLeft (F7.cl)) (fun r37 h35 F8 => ?_)
  refine ao_it ?_ ao_no
  refine ao_I F8 (F7.cl.r Cv0) (fun h39 F9 => ?_)
  refine ao_it ao_no ?_
  refine ao_it ?_ ao_no
  refine ao_it ?_ ao_no
  refine ao_it ?_ ao_no
  refine ao_I F9 (F9.cl.r Cv0) (fun h44 F10 => ?_)
  refine ao_it ao_no ?_
  refine ao_it ?_ ao_no
  refine ao_it ?_ ao_no
  refine ao_b2 F10 (av_jInteger_rotateLeft (F10.cl)) (fun r50 h48 F11 => ?_)
  refine ao_it ?_ ao_no
  refine ao_I F11 (F10.cl.r Cv0) (fun h52 F12 => ?_)
  exact ao_so F12
theorem av_cKeystream_next_b101 {C : Nat → Prop} {k101 : Nat → Int → Hp → Option (Hp)} (hk101 : ∀ (v0 : Nat) (v1 : Int) (h : Hp), Cl C h → C v0 → Ao (qV C h) (k101 v0 v1 h)) {v0 : Nat} {v1 : Int} {h : Hp} (c : Cl C h) (Cv0 : C v0) : Ao (qV C h) (f_cKeystream_next_b101 k101 v0 v1 h) := by
  unfold f_cKeystream_next_b101
  have F0 := Av.rf c
  refine ao_it ?_ ?_
  · refine ao_it ao_no ?_
    refine ao_it ?_ ao_no
    refine ao_it ?_ ao_no
    refine ao_I F0 (F0.cl.r Cv0) (fun h12 F1 => ?_)
    exact ao_so F1
  · refine ao_it ao_no ?_
    refine ao_it ?_ ao_no
    refine ao_it ao_no ?_
    refine ao_it ?_ ao_no
    refine ao_it ao_no ?_
    refine ao_it ?_ ao_no
    refine ao_I F0 (F0.cl.r Cv0) (fun h19 F2 => ?_)
    exact ao_jV F2 (hk101 _ _ _ (F2.cl) Cv0)
theorem av_cKeystream_next_b101_lp {C : Nat → Prop} (n : Nat) : ∀ {v0 : Nat} {v1 : Int} {h : Hp}, Cl C h → C v0 → Ao (qV C h) (f_cKeystream_next_b101_lp n v0 v1 h) := by
  induction n with
  | zero => intros; exact ao_no
  | succ n ih => intro v0 v1 h c Cv0; exact av_cKeystream_next_b101 (fun _ _ h => ih) c Cv0
theorem av_cKeystream_next_b54 {C : Nat → Prop} {k17 : Nat → Int → Hp → Option (Hp)} (hk17 : ∀ (v0 : Nat) (v1 : Int) (h : Hp), Cl C h → C v0 → Ao (qV C h) (k17 v0 v1 h)) {k54 : Nat → Int → Int → Hp → Option (Hp)} (hk54 : ∀ (v0 : Nat) (v1 : Int) (v2 : Int) (h : Hp), Cl C h → C v0 → Ao (qV C h) (k54 v0 v1 v2 h)) {v0 : Nat} {v1 : Int} {v2 : Int} {h : Hp} (c : Cl C h) (Cv0 : C v0) : Ao (qV C h) (f_cKeystream_next_b54 k17 k54 v0 v1 v2 h) := by
  unfold f_cKeystream_next_b54
  have F0 := Av.rf c
  refine ao_it ?_ ?_
  · exact ao_jV F0 (hk17 _ _ _ (F0.cl) Cv0)
  · refine ao_b1 F0 (av_cKeystream_mix (F0.cl) Cv0) (fun h7 F1 => ?_)
    exact ao_jV F1 (hk54 _ _ _ _ (F1.cl) Cv0)
theorem av_cKeystream_next_b54_lp {C : Nat → Prop} {k17 : Nat → Int → Hp → Option (Hp)} (hk17 : ∀ (v0 : Nat) (v1 : Int) (h : Hp), Cl C h → C v0 → Ao (qV C h) (k17 v0 v1 h)) (n : Nat) : ∀ {v0 : Nat} {v1 : Int} {v2 : Int} {h : Hp}, Cl C h → C v0 → Ao (qV C h) (f_cKeystream_next_b54_lp k17 n v0 v1 v2 h) := by
  induction n with
  | zero => intros; exact ao_no
  | succ n ih => intro v0 v1 v2 h c Cv0; exact av_cKeystream_next_b54 hk17 (fun _ _ _ h => ih) c Cv0
theorem av_cKeystream_next_b25 {C : Nat → Prop} {k17 : Nat → Int → Hp → Option (Hp)} (hk17 : ∀ (v0 : Nat) (v1 : Int) (h : Hp), Cl C h → C v0 → Ao (qV C h) (k17 v0 v1 h)) {k25 : Nat → Int → Int → Hp → Option (Hp)} (hk25 : ∀ (v0 : Nat) (v1 : Int) (v2 : Int) (h : Hp), Cl C h → C v0 → Ao (qV C h) (k25 v0 v1 v2 h)) {v0 : Nat} {v1 : Int} {v2 : Int} {h : Hp} (c : Cl C h) (Cv0 : C v0) : Ao (qV C h) (f_cKeystream_next_b25 k17 k25 v0 v1 v2 h) := by
  unfold f_cKeystream_next_b25
  have F0 := Av.rf c
  refine ao_it ?_ ?_
  · exact ao_jV F0 (av_cKeystream_next_b54_lp hk17 FU (F0.cl) Cv0)
  · refine ao_b1 F0 (av_cKeystream_mix (F0.cl) Cv0) (fun h5 F1 => ?_)
    exact ao_jV F1 (hk25 _ _ _ _ (F1.cl) Cv0)
theorem av_cKeystream_next_b25_lp {C : Nat → Prop} {k17 : Nat → Int → Hp → Option (Hp)} (hk17 : ∀ (v0 : Nat) (v1 : Int) (h : Hp), Cl C h → C v0 → Ao (qV C h) (k17 v0 v1 h)) (n : Nat) : ∀ {v0 : Nat} {v1 : Int} {v2 : Int} {h : Hp}, Cl C h → C v0 → Ao (qV C h) (f_cKeystream_next_b25_lp k17 n v0 v1 v2 h) := by
  induction n with
  | zero => intros; exact ao_no
  | succ n ih => intro v0 v1 v2 h c Cv0; exact av_cKeystream_next_b25 hk17 (fun _ _ _ h => ih) c Cv0
theorem av_cKeystream_next_b17 {C : Nat → Prop} {k17 : Nat → Int → Hp → Option (Hp)} (hk17 : ∀ (v0 : Nat) (v1 : Int) (h : Hp), Cl C h → C v0 → Ao (qV C h) (k17 v0 v1 h)) {v0 : Nat} {v1 : Int} {h : Hp} (c : Cl C h) (Cv0 : C v0) : Ao (qV C h) (f_cKeystream_next_b17 k17 v0 v1 h) := by
  unfold f_cKeystream_next_b17
  have F0 := Av.rf c
  refine ao_it ?_ ?_
  · exact ao_jV F0 (av_cKeystream_next_b101_lp FU (F0.cl) Cv0)
  · exact ao_jV F0 (av_cKeystream_next_b25_lp hk17 FU (F0.cl) Cv0)
theorem av_cKeystream_next_b17_lp {C : Nat → Prop} (n : Nat) : ∀ {v0 : Nat} {v1 : Int} {h : Hp}, Cl C h → C v0 → Ao (qV C h) (f_cKeystream_next_b17_lp n v0 v1 h) := by
  induction n with
  | zero => intros; exact ao_no
  | succ n ih => intro v0 v1 h c Cv0; exact av_cKeystream_next_b17 (fun _ _ h => ih) c Cv0
theorem av_cKeystream_next {C : Nat → Prop} {v0 : Nat} {h : Hp} (c : Cl C h) (Cv0 : C v0) : Ao (qV C h) (f_cKeystream_next v0 h) := by
  unfold f_cKeystream_next
  have F0 := Av.rf c
  refine ao_it ao_no ?_
  refine ao_it ao_no ?_
  refine ao_it ?_ ao_no
  refine ao_cI F0 (F0.cl.r Cv0) (fun h4 F1 => ?_)
  exact ao_jV F1 (av_cKeystream_next_b17_lp FU (F1.cl) Cv0)
theorem av_cGuard_shield_b98 {C : Nat → Prop} {k98 : Nat → Nat → Int → Int → Nat → Int → Int → Hp → Option (Int × Hp)} (hk98 : ∀ (v0 : Nat) (v2 : Nat) (v3 : Int) (v4 : Int) (v7 : Nat) (v8 : Int) (v9 : Int) (h : Hp), Cl C h → C v2 → Ao (qI C h) (k98 v0 v2 v3 v4 v7 v8 v9 h)) {v0 : Nat} {v2 : Nat} {v3 : Int} {v4 : Int} {v7 : Nat} {v8 : Int} {v9 : Int} {h : Hp} (c : Cl C h) (Cv2 : C v2) : Ao (qI C h) (f_cGuard_shield_b98 k98 v0 v2 v3 v4 v7 v8 v9 h) := by
  unfold f_cGuard_shield_b98
  have F0 := Av.rf c
  refine ao_it ?_ ?_
  · exact ao_so F0
  · refine ao_it ao_no ?_
    refine ao_it ?_ ao_no
    refine ao_it ao_no ?_
    refine ao_it ?_ ao_no
    refine ao_it ?_ ao_no
    refine ao_I F0 Cv2 (fun h32 F1 => ?_)
    exact ao_jI F1 (hk98 _ _ _ _ _ _ _ _ (F1.cl) Cv2)
theorem av_cGuard_shield_b98_lp {C : Nat → Prop} (n : Nat) : ∀ {v0 : Nat} {v2 : Nat} {v3 : Int} {v4 : Int} {v7 : Nat} {v8 : Int} {v9 : Int} {h : Hp}, Cl C h → C v2 → Ao (qI C h) (f_cGuard_shield_b98_lp n v0 v2 v3 v4 v7 v8 v9 h) := by
  induction n with
  | zero => intros; exact ao_no
  | succ n ih => intro v0 v2 v3 v4 v7 v8 v9 h c Cv2; exact av_cGuard_shield_b98 (fun _ _ _ _ _ _ _ h => ih) c Cv2
theorem av_cGuard_shield_b95 {C : Nat → Prop} {v0 : Nat} {v2 : Nat} {v3 : Int} {v4 : Int} {v7 : Nat} {v8 : Int} {h : Hp} (c : Cl C h) (Cv2 : C v2) : Ao (qI C h) (f_cGuard_shield_b95 v0 v2 v3 v4 v7 v8 h) := by
  unfold f_cGuard_shield_b95
  have F0 := Av.rf c
  exact ao_jI F0 (av_cGuard_shield_b98_lp FU (F0.cl) Cv2)
theorem av_cGuard_shield_b76 {C : Nat → Prop} {v0 : Nat} {v2 : Nat} {v3 : Int} {v4 : Int} {v5 : Int} {v7 : Nat} {v8 : Int} {s0 : Nat} {s1 : Int} {s2 : Int} {s3 : Int} {s4 : Int} {h : Hp} (c : Cl C h) (Cv2 : C v2) (Cs0 : C s0) : Ao (qI C h) (f_cGuard_shield_b76 v0 v2 v3 v4 v5 v7 v8 s0 s1 s2 s3 s4 h) := by
  unfold f_cGuard_shield_b76
  have F0 := Av.rf c
  refine ao_it ao_no ?_
  refine ao_it ?_ ao_no
  refine ao_I F0 Cs0 (fun h23 F1 => ?_)
  refine ao_it ?_ ?_
  · exact ao_jI F1 (av_cGuard_shield_b95 (F1.cl) Cv2)
  · refine ao_it ao_no ?_
    refine ao_it ?_ ao_no
    refine ao_v (fun y26 => ?_)
    exact ao_jI F1 (av_cGuard_shield_b95 (F1.cl) Cv2)
theorem av_cGuard_shield {C : Nat → Prop} {v0 : Nat} {v1 : Nat} {v2 : Nat} {v3 : Int} {v4 : Int} {v5 : Int} {h : Hp} (c : Cl C h) (Cv1 : C v1) (Cv2 : C v2) : Ao (qI C h) (f_cGuard_shield v0 v1 v2 v3 v4 v5 h) := by
  unfold f_cGuard_shield
  have F0 := Av.rf c
  refine ao_v (fun y1 => ?_)
  refine ao_it ao_no ?_
  refine ao_b2 F0 (av_cP_word (F0.cl)) (fun r5 h3 F2 => ?_)
  refine ao_it ao_no ?_
  refine ao_b1 F2 (av_cKeystream_begin (F2.cl) (F0.cl.r Cv1)) (fun h7 F3 => ?_)
  refine ao_it ao_no ?_
  refine ao_b1 F3 (av_cKeystream_next (F3.cl) (F3.cl.r Cv1)) (fun h10 F4 => ?_)
  refine ao_it ao_no ?_
  refine ao_m (F4.cl.r (F4.cl.r Cv1)) (fun y13 Cy13 => ?_)
  refine ao_it ao_no ?_
  refine ao_it ?_ ao_no
  refine ao_v (fun y16 => ?_)
  refine ao_it ?_ ao_no
  refine ao_it ao_no ?_
  refine ao_it ?_ ao_no
  refine ao_it ?_ ao_no
  refine ao_it ?_ ?_
  · exact ao_jI F4 (av_cGuard_shield_b76 (F4.cl) Cv2 Cv2)
  · exact ao_jI F4 (av_cGuard_shield_b76 (F4.cl) Cv2 Cv2)
theorem av_cCounting_grow_b91 {C : Nat → Prop} {v5 : Int} {v11 : Int} {h : Hp} (c : Cl C h) : Ao (qI C h) (f_cCounting_grow_b91 v5 v11 h) := by
  unfold f_cCounting_grow_b91
  have F0 := Av.rf c
  refine ao_it ?_ ?_
  · exact ao_so F0
  · exact ao_so F0
theorem av_cCounting_grow_b65 {C : Nat → Prop} {v5 : Int} {v7 : Int} {v9 : Int} {v11 : Int} {h : Hp} (c : Cl C h) : Ao (qI C h) (f_cCounting_grow_b65 v5 v7 v9 v11 h) := by
  unfold f_cCounting_grow_b65
  have F0 := Av.rf c
  refine ao_it ?_ ?_
  · exact ao_jI F0 (av_cCounting_grow_b91 (F0.cl))
  · refine ao_it ?_ ?_
    · exact ao_jI F0 (av_cCounting_grow_b91 (F0.cl))
    · refine ao_v (fun y6 => ?_)
      exact ao_jI F0 (av_cCounting_grow_b91 (F0.cl))
theorem av_cCounting_grow {C : Nat → Prop} {v0 : Int} {v2 : Int} {v4 : Int} {h : Hp} (c : Cl C h) : Ao (qI C h) (f_cCounting_grow v0 v2 v4 h) := by
  unfold f_cCounting_grow
  have F0 := Av.rf c
  refine ao_v (fun y1 => ?_)
  refine ao_v (fun y2 => ?_)
  refine ao_v (fun y3 => ?_)
  refine ao_v (fun y4 => ?_)
  refine ao_it ?_ ?_
  · exact ao_jI F0 (av_cCounting_grow_b65 (F0.cl))
  · refine ao_it ?_ ?_
    · exact ao_jI F0 (av_cCounting_grow_b65 (F0.cl))
    · refine ao_v (fun y5 => ?_)
      exact ao_jI F0 (av_cCounting_grow_b91 (F0.cl))
theorem av_cRanges_place_b2 {C : Nat → Prop} {k2 : Nat → Int → Int → Hp → Option (Int × Hp)} (hk2 : ∀ (v0 : Nat) (v1 : Int) (v3 : Int) (h : Hp), Cl C h → Ao (qI C h) (k2 v0 v1 v3 h)) {v0 : Nat} {v1 : Int} {v3 : Int} {h : Hp} (c : Cl C h) : Ao (qI C h) (f_cRanges_place_b2 k2 v0 v1 v3 h) := by
  unfold f_cRanges_place_b2
  have F0 := Av.rf c
  refine ao_it ?_ ?_
  · exact ao_so F0
  · refine ao_it ao_no ?_
    refine ao_it ?_ ao_no
    refine ao_it ?_ ?_
    · exact ao_so F0
    · exact ao_jI F0 (hk2 _ _ _ _ (F0.cl))
theorem av_cRanges_place_b2_lp {C : Nat → Prop} (n : Nat) : ∀ {v0 : Nat} {v1 : Int} {v3 : Int} {h : Hp}, Cl C h → Ao (qI C h) (f_cRanges_place_b2_lp n v0 v1 v3 h) := by
  induction n with
  | zero => intros; exact ao_no
  | succ n ih => intro v0 v1 v3 h c; exact av_cRanges_place_b2 (fun _ _ _ h => ih) c
theorem av_cRanges_place {C : Nat → Prop} {v0 : Nat} {v1 : Int} {h : Hp} (c : Cl C h) : Ao (qI C h) (f_cRanges_place v0 v1 h) := by
  unfold f_cRanges_place
  have F0 := Av.rf c
  exact ao_jI F0 (av_cRanges_place_b2_lp FU (F0.cl))
theorem av_cRanges_has_b34 {C : Nat → Prop} {v0 : Nat} {h : Hp} (c : Cl C h) : Ao (qI C h) (f_cRanges_has_b34 v0 h) := by
  unfold f_cRanges_has_b34
  have F0 := Av.rf c
  exact ao_so F0
theorem av_cRanges_has {C : Nat → Prop} {v0 : Nat} {v1 : Int} {h : Hp} (c : Cl C h) : Ao (qI C h) (f_cRanges_has v0 v1 h) := by
  unfold f_cRanges_has
  have F0 := Av.rf c
  refine ao_b2 F0 (av_cRanges_place (F0.cl)) (fun r3 h1 F1 => ?_)
  refine ao_it ?_ ?_
  · exact ao_jI F1 (av_cRanges_has_b34 (F1.cl))
  · refine ao_it ?_ ?_
    · exact ao_so F1
    · refine ao_it ao_no ?_
      refine ao_it ?_ ao_no
      refine ao_it ?_ ?_
      · exact ao_so F1
      · exact ao_jI F1 (av_cRanges_has_b34 (F1.cl))
theorem av_cGuard_begin_b44 {C : Nat → Prop} {k3 : Nat → Nat → Int → Int → Int → Hp → Option (Hp)} (hk3 : ∀ (v0 : Nat) (v1 : Nat) (v2 : Int) (v4 : Int) (v5 : Int) (h : Hp), Cl C h → C v1 → Ao (qV C h) (k3 v0 v1 v2 v4 v5 h)) {v0 : Nat} {v1 : Nat} {v2 : Int} {v4 : Int} {v5 : Int} {s0 : Nat} {s1 : Int} {s2 : Int} {s3 : Int} {h : Hp} (c : Cl C h) (Cv1 : C v1) (Cs0 : C s0) : Ao (qV C h) (f_cGuard_begin_b44 k3 v0 v1 v2 v4 v5 s0 s1 s2 s3 h) := by
  unfold f_cGuard_begin_b44
  have F0 := Av.rf c
  refine ao_it ao_no ?_
  refine ao_it ?_ ao_no
  refine ao_I F0 Cs0 (fun h10 F1 => ?_)
  exact ao_jV F1 (hk3 _ _ _ _ _ _ (F1.cl) Cv1)
theorem av_cGuard_begin_b3 {C : Nat → Prop} {k3 : Nat → Nat → Int → Int → Int → Hp → Option (Hp)} (hk3 : ∀ (v0 : Nat) (v1 : Nat) (v2 : Int) (v4 : Int) (v5 : Int) (h : Hp), Cl C h → C v1 → Ao (qV C h) (k3 v0 v1 v2 v4 v5 h)) {v0 : Nat} {v1 : Nat} {v2 : Int} {v4 : Int} {v5 : Int} {h : Hp} (c : Cl C h) (Cv1 : C v1) : Ao (qV C h) (f_cGuard_begin_b3 k3 v0 v1 v2 v4 v5 h) := by
  unfold f_cGuard_begin_b3
  have F0 := Av.rf c
  refine ao_it ?_ ?_
  · refine ao_it ao_no ?_
    refine ao_it ao_no ?_
    refine ao_b1 F0 (av_cKeystream_begin (F0.cl) (F0.cl.r Cv1)) (fun h3 F1 => ?_)
    exact ao_so F1
  · refine ao_it ao_no ?_
    refine ao_it ao_no ?_
    refine ao_it ?_ ao_no
    refine ao_it ?_ ?_
    · exact ao_jV F0 (av_cGuard_begin_b44 hk3 (F0.cl) Cv1 (F0.cl.r Cv1))
    · exact ao_jV F0 (av_cGuard_begin_b44 hk3 (F0.cl) Cv1 (F0.cl.r Cv1))
theorem av_cGuard_begin_b3_lp {C : Nat → Prop} (n : Nat) : ∀ {v0 : Nat} {v1 : Nat} {v2 : Int} {v4 : Int} {v5 : Int} {h : Hp}, Cl C h → C v1 → Ao (qV C h) (f_cGuard_begin_b3_lp n v0 v1 v2 v4 v5 h) := by
  induction n with
  | zero => intros; exact ao_no
  | succ n ih => intro v0 v1 v2 v4 v5 h c Cv1; exact av_cGuard_begin_b3 (fun _ _ _ _ _ h => ih) c Cv1
theorem av_cGuard_begin {C : Nat → Prop} {v0 : Nat} {v1 : Nat} {v2 : Int} {v4 : Int} {h : Hp} (c : Cl C h) (Cv1 : C v1) : Ao (qV C h) (f_cGuard_begin v0 v1 v2 v4 h) := by
  unfold f_cGuard_begin
  have F0 := Av.rf c
  exact ao_jV F0 (av_cGuard_begin_b3_lp FU (F0.cl) Cv1)
theorem av_cTally_eight {C : Nat → Prop} {v0 : Nat} {v1 : Int} {h : Hp} (c : Cl C h) : Ao (qI C h) (f_cTally_eight v0 v1 h) := by
  unfold f_cTally_eight
  have F0 := Av.rf c
  refine ao_b2 F0 (av_cP_word (F0.cl)) (fun r3 h1 F1 => ?_)
  refine ao_b2 F1 (av_cP_word (F1.cl)) (fun r6 h4 F2 => ?_)
  exact ao_so F2
theorem av_cTally_split {C : Nat → Prop} {v0 : Int} {v2 : Int} {v4 : Nat} {h : Hp} (c : Cl C h) (Cv4 : C v4) : Ao (qV C h) (f_cTally_split v0 v2 v4 h) := by
  unfold f_cTally_split
  have F0 := Av.rf c
  refine ao_it ao_no ?_
  refine ao_it ?_ ao_no
  refine ao_J F0 Cv4 (fun h3 F1 => ?_)
  refine ao_it ?_ ao_no
  refine ao_J F1 Cv4 (fun h5 F2 => ?_)
  refine ao_it ?_ ao_no
  refine ao_J F2 Cv4 (fun h7 F3 => ?_)
  refine ao_it ?_ ao_no
  refine ao_J F3 Cv4 (fun h9 F4 => ?_)
  refine ao_it ?_ ao_no
  refine ao_J F4 Cv4 (fun h11 F5 => ?_)
  exact ao_so F5
theorem av_cTally_begin_b35 {C : Nat → Prop} {k35 : Nat → Nat → Int → Hp → Option (Hp)} (hk35 : ∀ (v0 : Nat) (v1 : Nat) (v6 : Int) (h : Hp), Cl C h → C v0 → Ao (qV C h) (k35 v0 v1 v6 h)) {v0 : Nat} {v1 : Nat} {v6 : Int} {h : Hp} (c : Cl C h) (Cv0 : C v0) : Ao (qV C h) (f_cTally_begin_b35 k35 v0 v1 v6 h) := by
  unfold f_cTally_begin_b35
  have F0 := Av.rf c
  refine ao_it ?_ ?_
  · refine ao_b2 F0 (av_cTally_eight (F0.cl)) (fun r13 h11 F1 => ?_)
    refine ao_J F1 Cv0 (fun h14 F2 => ?_)
    refine ao_b2 F2 (av_cTally_eight (F2.cl)) (fun r17 h15 F3 => ?_)
    refine ao_J F3 Cv0 (fun h18 F4 => ?_)
    refine ao_I F4 Cv0 (fun h19 F5 => ?_)
    exact ao_so F5
  · refine ao_it ao_no ?_
    refine ao_it ?_ ao_no
    refine ao_J F0 (F0.cl.r Cv0) (fun h22 F6 => ?_)
    exact ao_jV F6 (hk35 _ _ _ _ (F6.cl) Cv0)
theorem av_cTally_begin_b35_lp {C : Nat → Prop} (n : Nat) : ∀ {v0 : Nat} {v1 : Nat} {v6 : Int} {h : Hp}, Cl C h → C v0 → Ao (qV C h) (f_cTally_begin_b35_lp n v0 v1 v6 h) := by
  induction n with
  | zero => intros; exact ao_no
  | succ n ih => intro v0 v1 v6 h c Cv0; exact av_cTally_begin_b35 (fun _ _ _ h => ih) c Cv0
theorem av_cTally_begin {C : Nat → Prop} {v0 : Nat} {v1 : Nat} {h : Hp} (c : Cl C h) (Cv0 : C v0) : Ao (qV C h) (f_cTally_begin v0 v1 h) := by
  unfold f_cTally_begin
  have F0 := Av.rf c
  refine ao_b2 F0 (av_cTally_eight (F0.cl)) (fun r3 h1 F1 => ?_)
  refine ao_v (fun y4 => ?_)
  refine ao_b2 F1 (av_cTally_eight (F1.cl)) (fun r7 h5 F3 => ?_)
  refine ao_v (fun y8 => ?_)
  refine ao_b1 F3 (av_cTally_split (F3.cl) (F3.cl.r Cv0)) (fun h9 F5 => ?_)
  exact ao_jV F5 (av_cTally_begin_b35_lp FU (F5.cl) Cv0)
theorem av_cTally_carry_b2 {C : Nat → Prop} {k2 : Nat → Int → Hp → Option (Hp)} (hk2 : ∀ (v0 : Nat) (v1 : Int) (h : Hp), Cl C h → C v0 → Ao (qV C h) (k2 v0 v1 h)) {v0 : Nat} {v1 : Int} {h : Hp} (c : Cl C h) (Cv0 : C v0) : Ao (qV C h) (f_cTally_carry_b2 k2 v0 v1 h) := by
  unfold f_cTally_carry_b2
  have F0 := Av.rf c
  refine ao_it ?_ ?_
  · refine ao_it ao_no ?_
    refine ao_it ?_ ao_no
    refine ao_it ?_ ao_no
    refine ao_it ?_ ao_no
    refine ao_J F0 (F0.cl.r Cv0) (fun h5 F1 => ?_)
    refine ao_it ao_no ?_
    refine ao_it ?_ ao_no
    refine ao_it ?_ ao_no
    refine ao_J F1 (F1.cl.r Cv0) (fun h9 F2 => ?_)
    exact ao_so F2
  · refine ao_it ao_no ?_
    refine ao_it ?_ ao_no
    refine ao_it ?_ ao_no
    refine ao_it ?_ ao_no
    refine ao_J F0 (F0.cl.r Cv0) (fun h14 F3 => ?_)
    refine ao_it ao_no ?_
    refine ao_it ?_ ao_no
    refine ao_it ?_ ao_no
    refine ao_J F3 (F3.cl.r Cv0) (fun h18 F4 => ?_)
    exact ao_jV F4 (hk2 _ _ _ (F4.cl) Cv0)
theorem av_cTally_carry_b2_lp {C : Nat → Prop} (n : Nat) : ∀ {v0 : Nat} {v1 : Int} {h : Hp}, Cl C h → C v0 → Ao (qV C h) (f_cTally_carry_b2_lp n v0 v1 h) := by
  induction n with
  | zero => intros; exact ao_no
  | succ n ih => intro v0 v1 h c Cv0; exact av_cTally_carry_b2 (fun _ _ h => ih) c Cv0
theorem av_cTally_carry {C : Nat → Prop} {v0 : Nat} {h : Hp} (c : Cl C h) (Cv0 : C v0) : Ao (qV C h) (f_cTally_carry v0 h) := by
  unfold f_cTally_carry
  have F0 := Av.rf c
  exact ao_jV F0 (av_cTally_carry_b2_lp FU (F0.cl) Cv0)
theorem av_cTally_take_b132 {C : Nat → Prop} {k64 : Nat → Int → Hp → Option (Hp)} (hk64 : ∀ (v0 : Nat) (v3 : Int) (h : Hp), Cl C h → C v0 → Ao (qV C h) (k64 v0 v3 h)) {k79 : Nat → Int → Int → Hp → Option (Hp)} (hk79 : ∀ (v0 : Nat) (v3 : Int) (v4 : Int) (h : Hp), Cl C h → C v0 → Ao (qV C h) (k79 v0 v3 v4 h)) {v0 : Nat} {v3 : Int} {v4 : Int} {s0 : Nat} {s1 : Int} {s2 : Int} {s3 : Int} {s4 : Int} {h : Hp} (c : Cl C h) (Cv0 : C v0) (Cs0 : C s0) : Ao (qV C h) (f_cTally_take_b132 k64 k79 v0 v3 v4 s0 s1 s2 s3 s4 h) := by
  unfold f_cTally_take_b132
  have F0 := Av.rf c
  refine ao_it ao_no ?_
  refine ao_it ?_ ao_no
  refine ao_J F0 Cs0 (fun h41 F1 => ?_)
  exact ao_jV F1 (hk79 _ _ _ _ (F1.cl) Cv0)
theorem av_cTally_take_b79 {C : Nat → Prop} {k64 : Nat → Int → Hp → Option (Hp)} (hk64 : ∀ (v0 : Nat) (v3 : Int) (h : Hp), Cl C h → C v0 → Ao (qV C h) (k64 v0 v3 h)) {k79 : Nat → Int → Int → Hp → Option (Hp)} (hk79 : ∀ (v0 : Nat) (v3 : Int) (v4 : Int) (h : Hp), Cl C h → C v0 → Ao (qV C h) (k79 v0 v3 v4 h)) {v0 : Nat} {v3 : Int} {v4 : Int} {h : Hp} (c : Cl C h) (Cv0 : C v0) : Ao (qV C h) (f_cTally_take_b79 k64 k79 v0 v3 v4 h) := by
  unfold f_cTally_take_b79
  have F0 := Av.rf c
  refine ao_it ?_ ?_
  · exact ao_jV F0 (hk64 _ _ _ (F0.cl) Cv0)
  · refine ao_it ao_no ?_
    refine ao_it ?_ ao_no
    refine ao_it ao_no ?_
    refine ao_it ?_ ao_no
    refine ao_it ?_ ?_
    · refine ao_it ao_no ?_
      refine ao_it ?_ ao_no
      exact ao_jV F0 (av_cTally_take_b132 hk64 hk79 (F0.cl) Cv0 (F0.cl.r Cv0))
    · refine ao_it ao_no ?_
      refine ao_it ?_ ao_no
      exact ao_jV F0 (av_cTally_take_b132 hk64 hk79 (F0.cl) Cv0 (F0.cl.r Cv0))
theorem av_cTally_take_b79_lp {C : Nat → Prop} {k64 : Nat → Int → Hp → Option (Hp)} (hk64 : ∀ (v0 : Nat) (v3 : Int) (h : Hp), Cl C h → C v0 → Ao (qV C h) (k64 v0 v3 h)) (n : Nat) : ∀ {v0 : Nat} {v3 : Int} {v4 : Int} {h : Hp}, Cl C h → C v0 → Ao (qV C h) (f_cTally_take_b79_lp k64 n v0 v3 v4 h) := by
  induction n with
  | zero => intros; exact ao_no
  | succ n ih => intro v0 v3 v4 h c Cv0; exact av_cTally_take_b79 hk64 (fun _ _ _ h => ih) c Cv0
theorem av_cTally_take_b64 {C : Nat → Prop} {k64 : Nat → Int → Hp → Option (Hp)} (hk64 : ∀ (v0 : Nat) (v3 : Int) (h : Hp), Cl C h → C v0 → Ao (qV C h) (k64 v0 v3 h)) {v0 : Nat} {v3 : Int} {h : Hp} (c : Cl C h) (Cv0 : C v0) : Ao (qV C h) (f_cTally_take_b64 k64 v0 v3 h) := by
  unfold f_cTally_take_b64
  have F0 := Av.rf c
  refine ao_it ?_ ?_
  · refine ao_it ao_no ?_
    refine ao_it ao_no ?_
    refine ao_it ?_ ao_no
    refine ao_cJ F0 (F0.cl.r Cv0) (fun h22 F1 => ?_)
    refine ao_b1 F1 (av_cTally_carry (F1.cl) Cv0) (fun h23 F2 => ?_)
    refine ao_b1 F2 (av_cTally_carry (F2.cl) Cv0) (fun h25 F3 => ?_)
    refine ao_I F3 Cv0 (fun h27 F4 => ?_)
    exact ao_so F4
  · refine ao_it ao_no ?_
    refine ao_it ?_ ao_no
    refine ao_J F0 (F0.cl.r Cv0) (fun h30 F5 => ?_)
    exact ao_jV F5 (av_cTally_take_b79_lp hk64 FU (F5.cl) Cv0)
theorem av_cTally_take_b64_lp {C : Nat → Prop} (n : Nat) : ∀ {v0 : Nat} {v3 : Int} {h : Hp}, Cl C h → C v0 → Ao (qV C h) (f_cTally_take_b64_lp n v0 v3 h) := by
  induction n with
  | zero => intros; exact ao_no
  | succ n ih => intro v0 v3 h c Cv0; exact av_cTally_take_b64 (fun _ _ h => ih) c Cv0
theorem av_cTally_take_b26 {C : Nat → Prop} {k26 : Nat → Int → Int → Hp → Option (Hp)} (hk26 : ∀ (v0 : Nat) (v1 : Int) (v3 : Int) (h : Hp), Cl C h → C v0 → Ao (qV C h) (k26 v0 v1 v3 h)) {v0 : Nat} {v1 : Int} {v3 : Int} {h : Hp} (c : Cl C h) (Cv0 : C v0) : Ao (qV C h) (f_cTally_take_b26 k26 v0 v1 v3 h) := by
  unfold f_cTally_take_b26
  have F0 := Av.rf c
  refine ao_it ?_ ?_
  · refine ao_it ao_no ?_
    refine ao_it ?_ ao_no
    refine ao_it ?_ ao_no
    refine ao_J F0 (F0.cl.r Cv0) (fun h12 F1 => ?_)
    exact ao_jV F1 (av_cTally_take_b64_lp FU (F1.cl) Cv0)
  · refine ao_it ao_no ?_
    refine ao_it ?_ ao_no
    refine ao_it ao_no ?_
    refine ao_it ?_ ao_no
    refine ao_it ?_ ao_no
    refine ao_J F0 (F0.cl.r Cv0) (fun h18 F2 => ?_)
    exact ao_jV F2 (hk26 _ _ _ _ (F2.cl) Cv0)
theorem av_cTally_take_b26_lp {C : Nat → Prop} (n : Nat) : ∀ {v0 : Nat} {v1 : Int} {v3 : Int} {h : Hp}, Cl C h → C v0 → Ao (qV C h) (f_cTally_take_b26_lp n v0 v1 v3 h) := by
  induction n with
  | zero => intros; exact ao_no
  | succ n ih => intro v0 v1 v3 h c Cv0; exact av_cTally_take_b26 (fun _ _ _ h => ih) c Cv0
theorem av_cTally_take {C : Nat → Prop} {v0 : Nat} {v1 : Int} {h : Hp} (c : Cl C h) (Cv0 : C v0) : Ao (qV C h) (f_cTally_take v0 v1 h) := by
  unfold f_cTally_take
  have F0 := Av.rf c
  refine ao_b2 F0 (av_cTally_eight (F0.cl)) (fun r3 h1 F1 => ?_)
  refine ao_b2 F1 (av_cTally_eight (F1.cl)) (fun r6 h4 F2 => ?_)
  refine ao_b1 F2 (av_cTally_split (F2.cl) (F2.cl.r Cv0)) (fun h7 F3 => ?_)
  exact ao_jV F3 (av_cTally_take_b26_lp FU (F3.cl) Cv0)
theorem av_cTally_add_b50 {C : Nat → Prop} {k3 : Nat → Nat → Int → Int → Int → Hp → Option (Hp)} (hk3 : ∀ (v0 : Nat) (v1 : Nat) (v2 : Int) (v3 : Int) (v4 : Int) (h : Hp), Cl C h → C v0 → Ao (qV C h) (k3 v0 v1 v2 v3 v4 h)) {v0 : Nat} {v1 : Nat} {v2 : Int} {v3 : Int} {v4 : Int} {h : Hp} (c : Cl C h) (Cv0 : C v0) : Ao (qV C h) (f_cTally_add_b50 k3 v0 v1 v2 v3 v4 h) := by
  unfold f_cTally_add_b50
  have F0 := Av.rf c
  exact ao_jV F0 (hk3 _ _ _ _ _ _ (F0.cl) Cv0)
theorem av_cTally_add_b3 {C : Nat → Prop} {k3 : Nat → Nat → Int → Int → Int → Hp → Option (Hp)} (hk3 : ∀ (v0 : Nat) (v1 : Nat) (v2 : Int) (v3 : Int) (v4 : Int) (h : Hp), Cl C h → C v0 → Ao (qV C h) (k3 v0 v1 v2 v3 v4 h)) {v0 : Nat} {v1 : Nat} {v2 : Int} {v3 : Int} {v4 : Int} {h : Hp} (c : Cl C h) (Cv0 : C v0) : Ao (qV C h) (f_cTally_add_b3 k3 v0 v1 v2 v3 v4 h) := by
  unfold f_cTally_add_b3
  have F0 := Av.rf c
  refine ao_it ?_ ?_
  · exact ao_so F0
  · refine ao_it ao_no ?_
    refine ao_it ?_ ao_no
    refine ao_it ao_no ?_
    refine ao_it ?_ ao_no
    refine ao_I F0 (F0.cl.r Cv0) (fun h5 F1 => ?_)
    refine ao_I F1 Cv0 (fun h6 F2 => ?_)
    refine ao_it ?_ ?_
    · exact ao_jV F2 (av_cTally_add_b50 hk3 (F2.cl) Cv0)
    · refine ao_b1 F2 (av_cTally_take (F2.cl) Cv0) (fun h7 F3 => ?_)
      exact ao_jV F3 (av_cTally_add_b50 hk3 (F3.cl) Cv0)
theorem av_cTally_add_b3_lp {C : Nat → Prop} (n : Nat) : ∀ {v0 : Nat} {v1 : Nat} {v2 : Int} {v3 : Int} {v4 : Int} {h : Hp}, Cl C h → C v0 → Ao (qV C h) (f_cTally_add_b3_lp n v0 v1 v2 v3 v4 h) := by
  induction n with
  | zero => intros; exact ao_no
  | succ n ih => intro v0 v1 v2 v3 v4 h c Cv0; exact av_cTally_add_b3 (fun _ _ _ _ _ h => ih) c Cv0
theorem av_cTally_add {C : Nat → Prop} {v0 : Nat} {v1 : Nat} {v2 : Int} {v3 : Int} {h : Hp} (c : Cl C h) (Cv0 : C v0) : Ao (qV C h) (f_cTally_add v0 v1 v2 v3 h) := by
  unfold f_cTally_add
  have F0 := Av.rf c
  exact ao_jV F0 (av_cTally_add_b3_lp FU (F0.cl) Cv0)
theorem av_cTally_finish_b37 {C : Nat → Prop} {k6 : Nat → Int → Int → Int → Hp → Option (Hp)} (hk6 : ∀ (v0 : Nat) (v1 : Int) (v2 : Int) (v4 : Int) (h : Hp), Cl C h → C v0 → Ao (qV C h) (k6 v0 v1 v2 v4 h)) {v0 : Nat} {v1 : Int} {v2 : Int} {v4 : Int} {s0 : Nat} {s1 : Int} {s2 : Int} {h : Hp} (c : Cl C h) (Cv0 : C v0) (Cs0 : C s0) : Ao (qV C h) (f_cTally_finish_b37 k6 v0 v1 v2 v4 s0 s1 s2 h) := by
  unfold f_cTally_finish_b37
  have F0 := Av.rf c
  refine ao_it ao_no ?_
  refine ao_it ?_ ao_no
  refine ao_I F0 Cs0 (fun h6 F1 => ?_)
  refine ao_I F1 Cv0 (fun h7 F2 => ?_)
  exact ao_jV F2 (hk6 _ _ _ _ _ (F2.cl) Cv0)
theorem av_cTally_finish_b6 {C : Nat → Prop} {k6 : Nat → Int → Int → Int → Hp → Option (Hp)} (hk6 : ∀ (v0 : Nat) (v1 : Int) (v2 : Int) (v4 : Int) (h : Hp), Cl C h → C v0 → Ao (qV C h) (k6 v0 v1 v2 v4 h)) {v0 : Nat} {v1 : Int} {v2 : Int} {v4 : Int} {h : Hp} (c : Cl C h) (Cv0 : C v0) : Ao (qV C h) (f_cTally_finish_b6 k6 v0 v1 v2 v4 h) := by
  unfold f_cTally_finish_b6
  have F0 := Av.rf c
  refine ao_it ?_ ?_
  · refine ao_b1 F0 (av_cTally_take (F0.cl) Cv0) (fun h2 F1 => ?_)
    exact ao_so F1
  · refine ao_it ?_ ?_
    · exact ao_jV F0 (av_cTally_finish_b37 hk6 (F0.cl) Cv0 (F0.cl.r Cv0))
    · exact ao_jV F0 (av_cTally_finish_b37 hk6 (F0.cl) Cv0 (F0.cl.r Cv0))
theorem av_cTally_finish_b6_lp {C : Nat → Prop} (n : Nat) : ∀ {v0 : Nat} {v1 : Int} {v2 : Int} {v4 : Int} {h : Hp}, Cl C h → C v0 → Ao (qV C h) (f_cTally_finish_b6_lp n v0 v1 v2 v4 h) := by
  induction n with
  | zero => intros; exact ao_no
  | succ n ih => intro v0 v1 v2 v4 h c Cv0; exact av_cTally_finish_b6 (fun _ _ _ _ h => ih) c Cv0
theorem av_cTally_finish {C : Nat → Prop} {v0 : Nat} {v1 : Int} {v2 : Int} {h : Hp} (c : Cl C h) (Cv0 : C v0) : Ao (qV C h) (f_cTally_finish v0 v1 v2 h) := by
  unfold f_cTally_finish
  have F0 := Av.rf c
  refine ao_v (fun y1 => ?_)
  exact ao_jV F0 (av_cTally_finish_b6_lp FU (F0.cl) Cv0)
theorem av_cTally_fill {C : Nat → Prop} {v0 : Nat} {h : Hp} (c : Cl C h) (Cv0 : C v0) : Ao (qV C h) (f_cTally_fill v0 h) := by
  unfold f_cTally_fill
  have F0 := Av.rf c
  refine ao_it ?_ ?_
  · exact ao_so F0
  · refine ao_b1 F0 (av_cTally_finish (F0.cl) Cv0) (fun h1 F1 => ?_)
    exact ao_so F1
theorem av_cTally_isWhole_b48 {C : Nat → Prop} {k21 : Nat → Int → Int → Hp → Option (Int × Hp)} (hk21 : ∀ (v0 : Nat) (v1 : Int) (v2 : Int) (h : Hp), Cl C h → Ao (qI C h) (k21 v0 v1 v2 h)) {v0 : Nat} {v2 : Int} {s0 : Int} {h : Hp} (c : Cl C h) : Ao (qI C h) (f_cTally_isWhole_b48 k21 v0 v2 s0 h) := by
  unfold f_cTally_isWhole_b48
  have F0 := Av.rf c
  exact ao_jI F0 (hk21 _ _ _ _ (F0.cl))
theorem av_cTally_isWhole_b47 {C : Nat → Prop} {k21 : Nat → Int → Int → Hp → Option (Int × Hp)} (hk21 : ∀ (v0 : Nat) (v1 : Int) (v2 : Int) (h : Hp), Cl C h → Ao (qI C h) (k21 v0 v1 v2 h)) {v0 : Nat} {v2 : Int} {h : Hp} (c : Cl C h) : Ao (qI C h) (f_cTally_isWhole_b47 k21 v0 v2 h) := by
  unfold f_cTally_isWhole_b47
  have F0 := Av.rf c
  exact ao_jI F0 (av_cTally_isWhole_b48 hk21 (F0.cl))
theorem av_cTally_isWhole_b21 {C : Nat → Prop} {k21 : Nat → Int → Int → Hp → Option (Int × Hp)} (hk21 : ∀ (v0 : Nat) (v1 : Int) (v2 : Int) (h : Hp), Cl C h → Ao (qI C h) (k21 v0 v1 v2 h)) {v0 : Nat} {v1 : Int} {v2 : Int} {h : Hp} (c : Cl C h) : Ao (qI C h) (f_cTally_isWhole_b21 k21 v0 v1 v2 h) := by
  unfold f_cTally_isWhole_b21
  have F0 := Av.rf c
  refine ao_it ?_ ?_
  · refine ao_it ?_ ao_no
    exact ao_so F0
  · refine ao_it ?_ ?_
    · exact ao_jI F0 (av_cTally_isWhole_b47 hk21 (F0.cl))
    · refine ao_it ao_no ?_
      refine ao_it ?_ ao_no
      refine ao_it ?_ ?_
      · exact ao_jI F0 (av_cTally_isWhole_b47 hk21 (F0.cl))
      · exact ao_jI F0 (av_cTally_isWhole_b48 hk21 (F0.cl))
theorem av_cTally_isWhole_b21_lp {C : Nat → Prop} (n : Nat) : ∀ {v0 : Nat} {v1 : Int} {v2 : Int} {h : Hp}, Cl C h → Ao (qI C h) (f_cTally_isWhole_b21_lp n v0 v1 v2 h) := by
  induction n with
  | zero => intros; exact ao_no
  | succ n ih => intro v0 v1 v2 h c; exact av_cTally_isWhole_b21 (fun _ _ _ h => ih) c
theorem av_cTally_isWhole_b18 {C : Nat → Prop} {v0 : Nat} {s0 : Int} {h : Hp} (c : Cl C h) : Ao (qI C h) (f_cTally_isWhole_b18 v0 s0 h) := by
  unfold f_cTally_isWhole_b18
  have F0 := Av.rf c
  exact ao_jI F0 (av_cTally_isWhole_b21_lp FU (F0.cl))
theorem av_cTally_isWhole {C : Nat → Prop} {v0 : Nat} {h : Hp} (c : Cl C h) : Ao (qI C h) (f_cTally_isWhole v0 h) := by
  unfold f_cTally_isWhole
  have F0 := Av.rf c
  refine ao_it ao_no ?_
  refine ao_it ?_ ao_no
  refine ao_it ?_ ?_
  · exact ao_jI F0 (av_cTally_isWhole_b18 (F0.cl))
  · exact ao_jI F0 (av_cTally_isWhole_b18 (F0.cl))
theorem av_jLong_compare {C : Nat → Prop} {v0 : Int} {v2 : Int} {h : Hp} (c : Cl C h) : Ao (qI C h) (f_jLong_compare v0 v2 h) := by
  unfold f_jLong_compare
  have F0 := Av.rf c
  refine ao_it ?_ ?_
  · refine ao_it ?_ ?_
    · exact ao_so F0
    · exact ao_so F0
  · exact ao_so F0
theorem av_jLong_compareUnsigned {C : Nat → Prop} {v0 : Int} {v2 : Int} {h : Hp} (c : Cl C h) : Ao (qI C h) (f_jLong_compareUnsigned v0 v2 h) := by
  unfold f_jLong_compareUnsigned
  have F0 := Av.rf c
  refine ao_b2 F0 (av_jLong_compare (F0.cl)) (fun r3 h1 F1 => ?_)
  exact ao_so F1
theorem av_cTally_end_b153 {C : Nat → Prop} {k153 : Nat → Nat → Int → Int → Int → Int → Hp → Option (Hp)} (hk153 : ∀ (v0 : Nat) (v1 : Nat) (v2 : Int) (v5 : Int) (v7 : Int) (v9 : Int) (h : Hp), Cl C h → C v1 → Ao (qV C h) (k153 v0 v1 v2 v5 v7 v9 h)) {v0 : Nat} {v1 : Nat} {v2 : Int} {v5 : Int} {v7 : Int} {v9 : Int} {h : Hp} (c : Cl C h) (Cv1 : C v1) : Ao (qV C h) (f_cTally_end_b153 k153 v0 v1 v2 v5 v7 v9 h) := by
  unfold f_cTally_end_b153
  have F0 := Av.rf c
  refine ao_it ?_ ?_
  · exact ao_so F0
  · refine ao_it ao_no ?_
    refine ao_it ?_ ao_no
    refine ao_I F0 Cv1 (fun h30 F1 => ?_)
    refine ao_it ?_ ao_no
    refine ao_I F1 Cv1 (fun h32 F2 => ?_)
    exact ao_jV F2 (hk153 _ _ _ _ _ _ _ (F2.cl) Cv1)
theorem av_cTally_end_b153_lp {C : Nat → Prop} (n : Nat) : ∀ {v0 : Nat} {v1 : Nat} {v2 : Int} {v5 : Int} {v7 : Int} {v9 : Int} {h : Hp}, Cl C h → C v1 → Ao (qV C h) (f_cTally_end_b153_lp n v0 v1 v2 v5 v7 v9 h) := by
  induction n with
  | zero => intros; exact ao_no
  | succ n ih => intro v0 v1 v2 v5 v7 v9 h c Cv1; exact av_cTally_end_b153 (fun _ _ _ _ _ _ h => ih) c Cv1
theorem av_cTally_end_b146 {C : Nat → Prop} {v0 : Nat} {v1 : Nat} {v2 : Int} {v7 : Int} {s0 : Int} {s1 : Int} {s2 : Int} {h : Hp} (c : Cl C h) (Cv1 : C v1) : Ao (qV C h) (f_cTally_end_b146 v0 v1 v2 v7 s0 s1 s2 h) := by
  unfold f_cTally_end_b146
  have F0 := Av.rf c
  refine ao_v (fun y27 => ?_)
  exact ao_jV F0 (av_cTally_end_b153_lp FU (F0.cl) Cv1)
theorem av_cTally_end_b60 {C : Nat → Prop} {v0 : Nat} {v1 : Nat} {v2 : Int} {h : Hp} (c : Cl C h) (Cv1 : C v1) : Ao (qV C h) (f_cTally_end_b60 v0 v1 v2 h) := by
  unfold f_cTally_end_b60
  have F0 := Av.rf c
  refine ao_it ao_no ?_
  refine ao_it ?_ ao_no
  refine ao_it ?_ ao_no
  refine ao_it ?_ ao_no
  refine ao_v (fun y18 => ?_)
  refine ao_it ?_ ao_no
  refine ao_it ?_ ao_no
  refine ao_it ?_ ao_no
  refine ao_v (fun y22 => ?_)
  refine ao_v (fun y23 => ?_)
  refine ao_b2 F0 (av_jLong_compareUnsigned (F0.cl)) (fun r26 h24 F4 => ?_)
  refine ao_it ?_ ?_
  · exact ao_jV F4 (av_cTally_end_b146 (F4.cl) Cv1)
  · exact ao_jV F4 (av_cTally_end_b146 (F4.cl) Cv1)
theorem av_cTally_end_b42 {C : Nat → Prop} {k42 : Nat → Nat → Int → Int → Hp → Option (Hp)} (hk42 : ∀ (v0 : Nat) (v1 : Nat) (v2 : Int) (v3 : Int) (h : Hp), Cl C h → C v0 → C v1 → Ao (qV C h) (k42 v0 v1 v2 v3 h)) {v0 : Nat} {v1 : Nat} {v2 : Int} {v3 : Int} {h : Hp} (c : Cl C h) (Cv0 : C v0) (Cv1 : C v1) : Ao (qV C h) (f_cTally_end_b42 k42 v0 v1 v2 v3 h) := by
  unfold f_cTally_end_b42
  have F0 := Av.rf c
  refine ao_it ?_ ?_
  · exact ao_jV F0 (av_cTally_end_b60 (F0.cl) Cv1)
  · refine ao_it ao_no ?_
    refine ao_it ?_ ao_no
    refine ao_J F0 (F0.cl.r Cv0) (fun h35 F1 => ?_)
    exact ao_jV F1 (hk42 _ _ _ _ _ (F1.cl) Cv0 Cv1)
theorem av_cTally_end_b42_lp {C : Nat → Prop} (n : Nat) : ∀ {v0 : Nat} {v1 : Nat} {v2 : Int} {v3 : Int} {h : Hp}, Cl C h → C v0 → C v1 → Ao (qV C h) (f_cTally_end_b42_lp n v0 v1 v2 v3 h) := by
  induction n with
  | zero => intros; exact ao_no
  | succ n ih => intro v0 v1 v2 v3 h c Cv0 Cv1; exact av_cTally_end_b42 (fun _ _ _ _ h => ih) c Cv0 Cv1
theorem av_cTally_end_b13 {C : Nat → Prop} {v0 : Nat} {v1 : Nat} {v2 : Int} {h : Hp} (c : Cl C h) (Cv0 : C v0) (Cv1 : C v1) : Ao (qV C h) (f_cTally_end_b13 v0 v1 v2 h) := by
  unfold f_cTally_end_b13
  have F0 := Av.rf c
  refine ao_b1 F0 (av_cTally_carry (F0.cl) Cv0) (fun h3 F1 => ?_)
  refine ao_b1 F1 (av_cTally_carry (F1.cl) Cv0) (fun h5 F2 => ?_)
  refine ao_b2 F2 (av_cTally_isWhole (F2.cl)) (fun r9 h7 F3 => ?_)
  refine ao_it ?_ ?_
  · exact ao_jV F3 (av_cTally_end_b60 (F3.cl) Cv1)
  · refine ao_it ao_no ?_
    refine ao_it ?_ ao_no
    refine ao_it ?_ ao_no
    refine ao_J F3 (F3.cl.r Cv0) (fun h13 F4 => ?_)
    exact ao_jV F4 (av_cTally_end_b42_lp FU (F4.cl) Cv0 Cv1)
theorem av_cTally_end {C : Nat → Prop} {v0 : Nat} {v1 : Nat} {v2 : Int} {h : Hp} (c : Cl C h) (Cv0 : C v0) (Cv1 : C v1) : Ao (qV C h) (f_cTally_end v0 v1 v2 h) := by
  unfold f_cTally_end
  have F0 := Av.rf c
  refine ao_it ?_ ?_
  · exact ao_jV F0 (av_cTally_end_b13 (F0.cl) Cv0 Cv1)
  · refine ao_b1 F0 (av_cTally_finish (F0.cl) Cv0) (fun h1 F1 => ?_)
    exact ao_jV F1 (av_cTally_end_b13 (F1.cl) Cv0 Cv1)
theorem av_cGuard_reckon_b129 {C : Nat → Prop} {k77 : Nat → Nat → Int → Int → Int → Hp → Option (Hp)} (hk77 : ∀ (v0 : Nat) (v1 : Nat) (v6 : Int) (v7 : Int) (v8 : Int) (h : Hp), Cl C h → C v1 → Ao (qV C h) (k77 v0 v1 v6 v7 v8 h)) {v0 : Nat} {v1 : Nat} {v6 : Int} {v7 : Int} {v8 : Int} {s0 : Nat} {s1 : Int} {s2 : Int} {h : Hp} (c : Cl C h) (Cv1 : C v1) (Cs0 : C s0) : Ao (qV C h) (f_cGuard_reckon_b129 k77 v0 v1 v6 v7 v8 s0 s1 s2 h) := by
  unfold f_cGuard_reckon_b129
  have F0 := Av.rf c
  refine ao_it ao_no ?_
  refine ao_it ?_ ao_no
  refine ao_I F0 Cs0 (fun h33 F1 => ?_)
  exact ao_jV F1 (hk77 _ _ _ _ _ _ (F1.cl) Cv1)
theorem av_cGuard_reckon_b120 {C : Nat → Prop} {k77 : Nat → Nat → Int → Int → Int → Hp → Option (Hp)} (hk77 : ∀ (v0 : Nat) (v1 : Nat) (v6 : Int) (v7 : Int) (v8 : Int) (h : Hp), Cl C h → C v1 → Ao (qV C h) (k77 v0 v1 v6 v7 v8 h)) {v0 : Nat} {v1 : Nat} {v6 : Int} {v7 : Int} {v8 : Int} {s0 : Nat} {s1 : Int} {s2 : Int} {h : Hp} (c : Cl C h) (Cv1 : C v1) (Cs0 : C s0) : Ao (qV C h) (f_cGuard_reckon_b120 k77 v0 v1 v6 v7 v8 s0 s1 s2 h) := by
  unfold f_cGuard_reckon_b120
  have F0 := Av.rf c
  exact ao_jV F0 (av_cGuard_reckon_b129 hk77 (F0.cl) Cv1 Cs0)
theorem av_cGuard_reckon_b77 {C : Nat → Prop} {k77 : Nat → Nat → Int → Int → Int → Hp → Option (Hp)} (hk77 : ∀ (v0 : Nat) (v1 : Nat) (v6 : Int) (v7 : Int) (v8 : Int) (h : Hp), Cl C h → C v1 → Ao (qV C h) (k77 v0 v1 v6 v7 v8 h)) {v0 : Nat} {v1 : Nat} {v6 : Int} {v7 : Int} {v8 : Int} {h : Hp} (c : Cl C h) (Cv1 : C v1) : Ao (qV C h) (f_cGuard_reckon_b77 k77 v0 v1 v6 v7 v8 h) := by
  unfold f_cGuard_reckon_b77
  have F0 := Av.rf c
  refine ao_it ?_ ?_
  · refine ao_it ao_no ?_
    refine ao_it ao_no ?_
    refine ao_b1 F0 (av_cTally_add (F0.cl) (F0.cl.r Cv1)) (fun h25 F1 => ?_)
    refine ao_it ao_no ?_
    refine ao_b1 F1 (av_cTally_end (F1.cl) (F1.cl.r Cv1) (F1.cl.r Cv1)) (fun h28 F2 => ?_)
    exact ao_so F2
  · refine ao_it ao_no ?_
    refine ao_it ?_ ?_
    · refine ao_it ?_ ?_
      · exact ao_jV F0 (av_cGuard_reckon_b120 hk77 (F0.cl) Cv1 (F0.cl.r Cv1))
      · exact ao_jV F0 (av_cGuard_reckon_b120 hk77 (F0.cl) Cv1 (F0.cl.r Cv1))
    · exact ao_jV F0 (av_cGuard_reckon_b129 hk77 (F0.cl) Cv1 (F0.cl.r Cv1))
theorem av_cGuard_reckon_b77_lp {C : Nat → Prop} (n : Nat) : ∀ {v0 : Nat} {v1 : Nat} {v6 : Int} {v7 : Int} {v8 : Int} {h : Hp}, Cl C h → C v1 → Ao (qV C h) (f_cGuard_reckon_b77_lp n v0 v1 v6 v7 v8 h) := by
  induction n with
  | zero => intros; exact ao_no
  | succ n ih => intro v0 v1 v6 v7 v8 h c Cv1; exact av_cGuard_reckon_b77 (fun _ _ _ _ _ h => ih) c Cv1
theorem av_cGuard_reckon {C : Nat → Prop} {v0 : Nat} {v1 : Nat} {v2 : Int} {v4 : Nat} {v5 : Int} {v6 : Int} {v7 : Int} {h : Hp} (c : Cl C h) (Cv1 : C v1) : Ao (qV C h) (f_cGuard_reckon v0 v1 v2 v4 v5 v6 v7 h) := by
  unfold f_cGuard_reckon
  have F0 := Av.rf c
  refine ao_b1 F0 (av_cGuard_begin (F0.cl) Cv1) (fun h1 F1 => ?_)
  refine ao_it ao_no ?_
  refine ao_it ao_no ?_
  refine ao_b1 F1 (av_cKeystream_next (F1.cl) (F1.cl.r Cv1)) (fun h5 F2 => ?_)
  refine ao_it ao_no ?_
  refine ao_it ao_no ?_
  refine ao_b1 F2 (av_cTally_begin (F2.cl) (F2.cl.r Cv1)) (fun h9 F3 => ?_)
  refine ao_it ao_no ?_
  refine ao_b1 F3 (av_cTally_add (F3.cl) (F3.cl.r Cv1)) (fun h12 F4 => ?_)
  refine ao_it ao_no ?_
  refine ao_b1 F4 (av_cTally_fill (F4.cl) (F4.cl.r Cv1)) (fun h15 F5 => ?_)
  refine ao_it ao_no ?_
  refine ao_b1 F5 (av_cTally_add (F5.cl) (F5.cl.r Cv1)) (fun h18 F6 => ?_)
  refine ao_it ao_no ?_
  refine ao_b1 F6 (av_cTally_fill (F6.cl) (F6.cl.r Cv1)) (fun h21 F7 => ?_)
  exact ao_jV F7 (av_cGuard_reckon_b77_lp FU (F7.cl) Cv1)
theorem av_cKeystream_cover_b21 {C : Nat → Prop} {k3 : Nat → Nat → Int → Int → Int → Hp → Option (Hp)} (hk3 : ∀ (v0 : Nat) (v1 : Nat) (v2 : Int) (v3 : Int) (v4 : Int) (h : Hp), Cl C h → C v0 → C v1 → Ao (qV C h) (k3 v0 v1 v2 v3 v4 h)) {v0 : Nat} {v1 : Nat} {v2 : Int} {v3 : Int} {v4 : Int} {h : Hp} (c : Cl C h) (Cv0 : C v0) (Cv1 : C v1) : Ao (qV C h) (f_cKeystream_cover_b21 k3 v0 v1 v2 v3 v4 h) := by
  unfold f_cKeystream_cover_b21
  have F0 := Av.rf c
  refine ao_it ao_no ?_
  refine ao_it ?_ ao_no
  refine ao_it ao_no ?_
  refine ao_it ?_ ao_no
  refine ao_it ?_ ao_no
  refine ao_I F0 Cv1 (fun h8 F1 => ?_)
  exact ao_jV F1 (hk3 _ _ _ _ _ _ (F1.cl) Cv0 Cv1)
theorem av_cKeystream_cover_b3 {C : Nat → Prop} {k3 : Nat → Nat → Int → Int → Int → Hp → Option (Hp)} (hk3 : ∀ (v0 : Nat) (v1 : Nat) (v2 : Int) (v3 : Int) (v4 : Int) (h : Hp), Cl C h → C v0 → C v1 → Ao (qV C h) (k3 v0 v1 v2 v3 v4 h)) {v0 : Nat} {v1 : Nat} {v2 : Int} {v3 : Int} {v4 : Int} {h : Hp} (c : Cl C h) (Cv0 : C v0) (Cv1 : C v1) : Ao (qV C h) (f_cKeystream_cover_b3 k3 v0 v1 v2 v3 v4 h) := by
  unfold f_cKeystream_cover_b3
  have F0 := Av.rf c
  refine ao_it ?_ ?_
  · exact ao_so F0
  · refine ao_it ?_ ?_
    · exact ao_jV F0 (av_cKeystream_cover_b21 hk3 (F0.cl) Cv0 Cv1)
    · refine ao_b1 F0 (av_cKeystream_next (F0.cl) Cv0) (fun h1 F1 => ?_)
      exact ao_jV F1 (av_cKeystream_cover_b21 hk3 (F1.cl) Cv0 Cv1)
theorem av_cKeystream_cover_b3_lp {C : Nat → Prop} (n : Nat) : ∀ {v0 : Nat} {v1 : Nat} {v2 : Int} {v3 : Int} {v4 : Int} {h : Hp}, Cl C h → C v0 → C v1 → Ao (qV C h) (f_cKeystream_cover_b3_lp n v0 v1 v2 v3 v4 h) := by
  induction n with
  | zero => intros; exact ao_no
  | succ n ih => intro v0 v1 v2 v3 v4 h c Cv0 Cv1; exact av_cKeystream_cover_b3 (fun _ _ _ _ _ h => ih) c Cv0 Cv1
theorem av_cKeystream_cover {C : Nat → Prop} {v0 : Nat} {v1 : Nat} {v2 : Int} {v3 : Int} {h : Hp} (c : Cl C h) (Cv0 : C v0) (Cv1 : C v1) : Ao (qV C h) (f_cKeystream_cover v0 v1 v2 v3 h) := by
  unfold f_cKeystream_cover
  have F0 := Av.rf c
  exact ao_jV F0 (av_cKeystream_cover_b3_lp FU (F0.cl) Cv0 Cv1)
theorem av_cGuard_open_b27 {C : Nat → Prop} {k27 : Nat → Nat → Int → Nat → Int → Int → Int → Int → Int → Hp → Option (Int × Hp)} (hk27 : ∀ (v0 : Nat) (v1 : Nat) (v2 : Int) (v4 : Nat) (v5 : Int) (v6 : Int) (v8 : Int) (v9 : Int) (v10 : Int) (h : Hp), Cl C h → C v1 → C v4 → Ao (qI C h) (k27 v0 v1 v2 v4 v5 v6 v8 v9 v10 h)) {v0 : Nat} {v1 : Nat} {v2 : Int} {v4 : Nat} {v5 : Int} {v6 : Int} {v8 : Int} {v9 : Int} {v10 : Int} {h : Hp} (c : Cl C h) (Cv1 : C v1) (Cv4 : C v4) : Ao (qI C h) (f_cGuard_open_b27 k27 v0 v1 v2 v4 v5 v6 v8 v9 v10 h) := by
  unfold f_cGuard_open_b27
  have F0 := Av.rf c
  refine ao_it ?_ ?_
  · refine ao_it ?_ ?_
    · refine ao_b1 F0 (av_cGuard_begin (F0.cl) Cv1) (fun h4 F1 => ?_)
      refine ao_it ao_no ?_
      refine ao_it ao_no ?_
      refine ao_b1 F1 (av_cKeystream_cover (F1.cl) (F1.cl.r Cv1) Cv4) (fun h8 F2 => ?_)
      exact ao_so F2
    · exact ao_so F0
  · refine ao_it ao_no ?_
    refine ao_it ao_no ?_
    refine ao_it ?_ ao_no
    refine ao_it ao_no ?_
    refine ao_it ?_ ao_no
    refine ao_v (fun y15 => ?_)
    exact ao_jI F0 (hk27 _ _ _ _ _ _ _ _ _ _ (F0.cl) Cv1 Cv4)
theorem av_cGuard_open_b27_lp {C : Nat → Prop} (n : Nat) : ∀ {v0 : Nat} {v1 : Nat} {v2 : Int} {v4 : Nat} {v5 : Int} {v6 : Int} {v8 : Int} {v9 : Int} {v10 : Int} {h : Hp}, Cl C h → C v1 → C v4 → Ao (qI C h) (f_cGuard_open_b27_lp n v0 v1 v2 v4 v5 v6 v8 v9 v10 h) := by
  induction n with
  | zero => intros; exact ao_no
  | succ n ih => intro v0 v1 v2 v4 v5 v6 v8 v9 v10 h c Cv1 Cv4; exact av_cGuard_open_b27 (fun _ _ _ _ _ _ _ _ _ h => ih) c Cv1 Cv4
theorem av_cGuard_open {C : Nat → Prop} {v0 : Nat} {v1 : Nat} {v2 : Int} {v4 : Nat} {v5 : Int} {v6 : Int} {v7 : Int} {h : Hp} (c : Cl C h) (Cv1 : C v1) (Cv4 : C v4) : Ao (qI C h) (f_cGuard_open v0 v1 v2 v4 v5 v6 v7 h) := by
  unfold f_cGuard_open
  have F0 := Av.rf c
  refine ao_v (fun y1 => ?_)
  refine ao_b1 F0 (av_cGuard_reckon (F0.cl) Cv1) (fun h2 F2 => ?_)
  exact ao_jI F2 (av_cGuard_open_b27_lp FU (F2.cl) Cv1 Cv4)
theorem av_cSide_open_b104 {C : Nat → Prop} {v0 : Nat} {v1 : Nat} {v2 : Int} {v3 : Int} {v4 : Int} {v5 : Int} {v7 : Nat} {s0 : Nat} {s1 : Int} {h : Hp} (c : Cl C h) (Cv0 : C v0) (Cv1 : C v1) (Cs0 : C s0) : Ao (qI C h) (f_cSide_open_b104 v0 v1 v2 v3 v4 v5 v7 s0 s1 h) := by
  unfold f_cSide_open_b104
  have F0 := Av.rf c
  refine ao_b2 F0 (av_cCounting_grow (F0.cl)) (fun r27 h25 F1 => ?_)
  refine ao_it ao_no ?_
  refine ao_J F1 Cs0 (fun h29 F2 => ?_)
  refine ao_it ao_no ?_
  refine ao_b2 F2 (av_cRanges_has (F2.cl)) (fun r33 h31 F3 => ?_)
  refine ao_it ?_ ?_
  · refine ao_it ao_no ?_
    refine ao_v (fun y35 => ?_)
    refine ao_it ao_no ?_
    refine ao_it ?_ ao_no
    refine ao_it ao_no ?_
    refine ao_b2 F3 (av_cGuard_open (F3.cl) (F3.cl.r Cv0) Cv1) (fun r41 h39 F5 => ?_)
    refine ao_I F5 Cv0 (fun h42 F6 => ?_)
    refine ao_it ?_ ?_
    · exact ao_so F6
    · exact ao_so F6
  · exact ao_so F3
theorem av_cSide_open {C : Nat → Prop} {v0 : Nat} {v1 : Nat} {v2 : Int} {h : Hp} (c : Cl C h) (Cv0 : C v0) (Cv1 : C v1) : Ao (qI C h) (f_cSide_open v0 v1 v2 h) := by
  unfold f_cSide_open
  have F0 := Av.rf c
  refine ao_it ao_no ?_
  refine ao_v (fun y2 => ?_)
  refine ao_it ao_no ?_
  refine ao_it ?_ ao_no
  refine ao_it ao_no ?_
  refine ao_b2 F0 (av_cGuard_shield (F0.cl) (F0.cl.r Cv0) Cv1) (fun r8 h6 F2 => ?_)
  refine ao_it ao_no ?_
  refine ao_it ao_no ?_
  refine ao_b1 F2 (av_cBytes_over (F2.cl) (F2.cl.r Cv0) Cv1) (fun h11 F3 => ?_)
  refine ao_it ao_no ?_
  refine ao_b2 F3 (av_cBytes_many (F3.cl) (F3.cl.r Cv0)) (fun r16 h14 F4 => ?_)
  refine ao_it ao_no ?_
  refine ao_it ao_no ?_
  refine ao_it ?_ ao_no
  refine ao_it ao_no ?_
  refine ao_m (F4.cl.r (F4.cl.r (F4.cl.r (F4.cl.r Cv0)))) (fun y21 Cy21 => ?_)
  refine ao_it ao_no ?_
  refine ao_it ?_ ?_
  · refine ao_it ao_no ?_
    refine ao_it ?_ ao_no
    exact ao_jI F4 (av_cSide_open_b104 (F4.cl) Cv0 Cv1 Cv0)
  · exact ao_jI F4 (av_cSide_open_b104 (F4.cl) Cv0 Cv1 Cv0)
theorem av_cSide_forget {C : Nat → Prop} {v0 : Nat} {h : Hp} (c : Cl C h) (Cv0 : C v0) : Ao (qV C h) (f_cSide_forget v0 h) := by
  unfold f_cSide_forget
  have F0 := Av.rf c
  refine ao_it ao_no ?_
  refine ao_it ?_ ao_no
  refine ao_I F0 (F0.cl.r Cv0) (fun h3 F1 => ?_)
  refine ao_it ao_no ?_
  refine ao_it ao_no ?_
  refine ao_it ?_ ao_no
  refine ao_I F1 (F1.cl.r (F1.cl.r Cv0)) (fun h7 F2 => ?_)
  exact ao_so F2
theorem av_cSpace_is {C : Nat → Prop} {v0 : Nat} {v1 : Int} {v2 : Int} {h : Hp} (c : Cl C h) : Ao (qI C h) (f_cSpace_is v0 v1 v2 h) := by
  unfold f_cSpace_is
  have F0 := Av.rf c
  refine ao_it ao_no ?_
  refine ao_it ?_ ao_no
  refine ao_it ?_ ?_
  · exact ao_so F0
  · exact ao_so F0
theorem av_cSpace_inFlight_b45 {C : Nat → Prop} {k7 : Nat → Int → Int → Hp → Option (Int × Hp)} (hk7 : ∀ (v0 : Nat) (v1 : Int) (v2 : Int) (h : Hp), Cl C h → Ao (qI C h) (k7 v0 v1 v2 h)) {v0 : Nat} {v1 : Int} {v2 : Int} {h : Hp} (c : Cl C h) : Ao (qI C h) (f_cSpace_inFlight_b45 k7 v0 v1 v2 h) := by
  unfold f_cSpace_inFlight_b45
  have F0 := Av.rf c
  exact ao_jI F0 (hk7 _ _ _ _ (F0.cl))
theorem av_cSpace_inFlight_b7 {C : Nat → Prop} {k7 : Nat → Int → Int → Hp → Option (Int × Hp)} (hk7 : ∀ (v0 : Nat) (v1 : Int) (v2 : Int) (h : Hp), Cl C h → Ao (qI C h) (k7 v0 v1 v2 h)) {v0 : Nat} {v1 : Int} {v2 : Int} {h : Hp} (c : Cl C h) : Ao (qI C h) (f_cSpace_inFlight_b7 k7 v0 v1 v2 h) := by
  unfold f_cSpace_inFlight_b7
  have F0 := Av.rf c
  refine ao_it ?_ ?_
  · exact ao_so F0
  · refine ao_it ao_no ?_
    refine ao_it ?_ ao_no
    refine ao_it ?_ ?_
    · exact ao_jI F0 (av_cSpace_inFlight_b45 hk7 (F0.cl))
    · refine ao_b2 F0 (av_cSpace_is (F0.cl)) (fun r6 h4 F1 => ?_)
      refine ao_it ?_ ?_
      · exact ao_jI F1 (av_cSpace_inFlight_b45 hk7 (F1.cl))
      · refine ao_it ao_no ?_
        refine ao_it ?_ ao_no
        refine ao_v (fun y9 => ?_)
        exact ao_jI F1 (av_cSpace_inFlight_b45 hk7 (F1.cl))
theorem av_cSpace_inFlight_b7_lp {C : Nat → Prop} (n : Nat) : ∀ {v0 : Nat} {v1 : Int} {v2 : Int} {h : Hp}, Cl C h → Ao (qI C h) (f_cSpace_inFlight_b7_lp n v0 v1 v2 h) := by
  induction n with
  | zero => intros; exact ao_no
  | succ n ih => intro v0 v1 v2 h c; exact av_cSpace_inFlight_b7 (fun _ _ _ h => ih) c
theorem av_cSpace_inFlight {C : Nat → Prop} {v0 : Nat} {h : Hp} (c : Cl C h) : Ao (qI C h) (f_cSpace_inFlight v0 h) := by
  unfold f_cSpace_inFlight
  have F0 := Av.rf c
  refine ao_v (fun y1 => ?_)
  exact ao_jI F0 (av_cSpace_inFlight_b7_lp FU (F0.cl))
theorem av_cQueue_clear {C : Nat → Prop} {v0 : Nat} {h : Hp} (c : Cl C h) (Cv0 : C v0) : Ao (qV C h) (f_cQueue_clear v0 h) := by
  unfold f_cQueue_clear
  have F0 := Av.rf c
  refine ao_I F0 Cv0 (fun h1 F1 => ?_)
  refine ao_I F1 Cv0 (fun h2 F2 => ?_)
  exact ao_so F2
theorem av_cRanges_clear {C : Nat → Prop} {v0 : Nat} {h : Hp} (c : Cl C h) (Cv0 : C v0) : Ao (qV C h) (f_cRanges_clear v0 h) := by
  unfold f_cRanges_clear
  have F0 := Av.rf c
  refine ao_I F0 Cv0 (fun h1 F1 => ?_)
  refine ao_J F1 Cv0 (fun h2 F2 => ?_)
  exact ao_so F2
theorem av_cSpace_discard {C : Nat → Prop} {v0 : Nat} {h : Hp} (c : Cl C h) (Cv0 : C v0) : Ao (qV C h) (f_cSpace_discard v0 h) := by
  unfold f_cSpace_discard
  have F0 := Av.rf c
  refine ao_I F0 Cv0 (fun h1 F1 => ?_)
  refine ao_I F1 Cv0 (fun h2 F2 => ?_)
  refine ao_I F2 Cv0 (fun h3 F3 => ?_)
  refine ao_I F3 Cv0 (fun h4 F4 => ?_)
  refine ao_it ao_no ?_
  refine ao_b1 F4 (av_cQueue_clear (F4.cl) (F4.cl.r Cv0)) (fun h6 F5 => ?_)
  refine ao_it ao_no ?_
  refine ao_b1 F5 (av_cQueue_clear (F5.cl) (F5.cl.r Cv0)) (fun h9 F6 => ?_)
  refine ao_it ao_no ?_
  refine ao_b1 F6 (av_cRanges_clear (F6.cl) (F6.cl.r Cv0)) (fun h12 F7 => ?_)
  refine ao_I F7 Cv0 (fun h14 F8 => ?_)
  refine ao_I F8 Cv0 (fun h15 F9 => ?_)
  exact ao_so F9
theorem av_cBook_discard {C : Nat → Prop} {v0 : Nat} {v1 : Int} {h : Hp} (c : Cl C h) (Cv0 : C v0) : Ao (qV C h) (f_cBook_discard v0 v1 h) := by
  unfold f_cBook_discard
  have F0 := Av.rf c
  refine ao_it ao_no ?_
  refine ao_it ao_no ?_
  refine ao_it ?_ ao_no
  refine ao_it ao_no ?_
  refine ao_b2 F0 (av_cSpace_inFlight (F0.cl)) (fun r7 h5 F1 => ?_)
  refine ao_I F1 (F0.cl.r Cv0) (fun h8 F2 => ?_)
  refine ao_it ao_no ?_
  refine ao_it ?_ ao_no
  refine ao_it ao_no ?_
  refine ao_b1 F2 (av_cSpace_discard (F2.cl) (F2.cl.r (F2.cl.r Cv0))) (fun h12 F3 => ?_)
  refine ao_I F3 Cv0 (fun h14 F4 => ?_)
  exact ao_so F4
theorem av_cSide_discard {C : Nat → Prop} {v0 : Nat} {v1 : Int} {h : Hp} (c : Cl C h) (Cv0 : C v0) : Ao (qV C h) (f_cSide_discard v0 v1 h) := by
  unfold f_cSide_discard
  have F0 := Av.rf c
  refine ao_it ao_no ?_
  refine ao_it ao_no ?_
  refine ao_it ?_ ao_no
  refine ao_it ao_no ?_
  refine ao_it ?_ ?_
  · refine ao_b1 F0 (av_cBook_discard (F0.cl) (F0.cl.r Cv0)) (fun h5 F1 => ?_)
    refine ao_it ao_no ?_
    refine ao_it ?_ ao_no
    refine ao_I F1 (F1.cl.r Cv0) (fun h9 F2 => ?_)
    refine ao_it ao_no ?_
    refine ao_it ?_ ao_no
    refine ao_I F2 (F2.cl.r Cv0) (fun h12 F3 => ?_)
    exact ao_so F3
  · exact ao_so F0
theorem av_cSide_opened_b81 {C : Nat → Prop} {v0 : Nat} {h : Hp} (c : Cl C h) (Cv0 : C v0) : Ao (qV C h) (f_cSide_opened_b81 v0 h) := by
  unfold f_cSide_opened_b81
  have F0 := Av.rf c
  refine ao_it ao_no ?_
  refine ao_I F0 Cv0 (fun h17 F1 => ?_)
  refine ao_I F1 Cv0 (fun h18 F2 => ?_)
  exact ao_so F2
theorem av_cSide_opened_b58 {C : Nat → Prop} {v0 : Nat} {v2 : Int} {h : Hp} (c : Cl C h) (Cv0 : C v0) : Ao (qV C h) (f_cSide_opened_b58 v0 v2 h) := by
  unfold f_cSide_opened_b58
  have F0 := Av.rf c
  refine ao_it ?_ ?_
  · exact ao_jV F0 (av_cSide_opened_b81 (F0.cl) Cv0)
  · refine ao_it ?_ ?_
    · exact ao_jV F0 (av_cSide_opened_b81 (F0.cl) Cv0)
    · refine ao_I F0 Cv0 (fun h13 F1 => ?_)
      refine ao_b1 F1 (av_cSide_discard (F1.cl) Cv0) (fun h14 F2 => ?_)
      exact ao_jV F2 (av_cSide_opened_b81 (F2.cl) Cv0)
theorem av_cSide_opened_b23 {C : Nat → Prop} {v0 : Nat} {v1 : Nat} {v2 : Int} {h : Hp} (c : Cl C h) (Cv0 : C v0) : Ao (qV C h) (f_cSide_opened_b23 v0 v1 v2 h) := by
  unfold f_cSide_opened_b23
  have F0 := Av.rf c
  refine ao_it ?_ ?_
  · exact ao_jV F0 (av_cSide_opened_b58 (F0.cl) Cv0)
  · refine ao_it ?_ ?_
    · exact ao_jV F0 (av_cSide_opened_b58 (F0.cl) Cv0)
    · refine ao_I F0 Cv0 (fun h7 F1 => ?_)
      refine ao_it ao_no ?_
      refine ao_it ao_no ?_
      refine ao_it ao_no ?_
      refine ao_it ?_ ao_no
      refine ao_cI F1 (F1.cl.r Cv0) (fun h12 F2 => ?_)
      exact ao_jV F2 (av_cSide_opened_b58 (F2.cl) Cv0)
theorem av_cSide_opened {C : Nat → Prop} {v0 : Nat} {v1 : Nat} {v2 : Int} {h : Hp} (c : Cl C h) (Cv0 : C v0) : Ao (qV C h) (f_cSide_opened v0 v1 v2 h) := by
  unfold f_cSide_opened
  have F0 := Av.rf c
  refine ao_it ?_ ?_
  · exact ao_jV F0 (av_cSide_opened_b23 (F0.cl) Cv0)
  · refine ao_I F0 Cv0 (fun h1 F1 => ?_)
    refine ao_b1 F1 (av_cSide_tell (F1.cl) Cv0) (fun h2 F2 => ?_)
    refine ao_it ao_no ?_
    refine ao_b1 F2 (av_cGreeting_begin (F2.cl) (F2.cl.r Cv0)) (fun h5 F3 => ?_)
    exact ao_jV F3 (av_cSide_opened_b23 (F3.cl) Cv0)
theorem av_cFrame_clear_b32 {C : Nat → Prop} {k32 : Nat → Int → Hp → Option (Hp)} (hk32 : ∀ (v0 : Nat) (v1 : Int) (h : Hp), Cl C h → C v0 → Ao (qV C h) (k32 v0 v1 h)) {v0 : Nat} {v1 : Int} {h : Hp} (c : Cl C h) (Cv0 : C v0) : Ao (qV C h) (f_cFrame_clear_b32 k32 v0 v1 h) := by
  unfold f_cFrame_clear_b32
  have F0 := Av.rf c
  refine ao_it ?_ ?_
  · refine ao_I F0 Cv0 (fun h7 F1 => ?_)
    refine ao_I F1 Cv0 (fun h8 F2 => ?_)
    refine ao_I F2 Cv0 (fun h9 F3 => ?_)
    refine ao_I F3 Cv0 (fun h10 F4 => ?_)
    exact ao_so F4
  · refine ao_it ao_no ?_
    refine ao_it ?_ ao_no
    refine ao_J F0 (F0.cl.r Cv0) (fun h13 F5 => ?_)
    exact ao_jV F5 (hk32 _ _ _ (F5.cl) Cv0)
theorem av_cFrame_clear_b32_lp {C : Nat → Prop} (n : Nat) : ∀ {v0 : Nat} {v1 : Int} {h : Hp}, Cl C h → C v0 → Ao (qV C h) (f_cFrame_clear_b32_lp n v0 v1 h) := by
  induction n with
  | zero => intros; exact ao_no
  | succ n ih => intro v0 v1 h c Cv0; exact av_cFrame_clear_b32 (fun _ _ h => ih) c Cv0
theorem av_cFrame_clear {C : Nat → Prop} {v0 : Nat} {h : Hp} (c : Cl C h) (Cv0 : C v0) : Ao (qV C h) (f_cFrame_clear v0 h) := by
  unfold f_cFrame_clear
  have F0 := Av.rf c
  refine ao_I F0 Cv0 (fun h1 F1 => ?_)
  refine ao_I F1 Cv0 (fun h2 F2 => ?_)
  refine ao_J F2 Cv0 (fun h3 F3 => ?_)
  refine ao_J F3 Cv0 (fun h4 F4 => ?_)
  refine ao_J F4 Cv0 (fun h5 F5 => ?_)
  refine ao_J F5 Cv0 (fun h6 F6 => ?_)
  exact ao_jV F6 (av_cFrame_clear_b32_lp FU (F6.cl) Cv0)
theorem av_cFrame_isKind {C : Nat → Prop} {v0 : Int} {h : Hp} (c : Cl C h) : Ao (qI C h) (f_cFrame_isKind v0 h) := by
  unfold f_cFrame_isKind
  have F0 := Av.rf c
  refine ao_it ?_ ?_
  · exact ao_so F0
  · refine ao_it ?_ ?_
    · exact ao_so F0
    · exact ao_so F0
theorem av_cFrame_fails {C : Nat → Prop} {v0 : Nat} {v1 : Int} {h : Hp} (c : Cl C h) (Cv0 : C v0) : Ao (qI C h) (f_cFrame_fails v0 v1 h) := by
  unfold f_cFrame_fails
  have F0 := Av.rf c
  refine ao_I F0 Cv0 (fun h1 F1 => ?_)
  exact ao_so F1
theorem av_cFrame_isEarly_b17 {C : Nat → Prop} {h : Hp} (c : Cl C h) : Ao (qI C h) (f_cFrame_isEarly_b17  h) := by
  unfold f_cFrame_isEarly_b17
  have F0 := Av.rf c
  exact ao_so F0
theorem av_cFrame_isEarly {C : Nat → Prop} {v0 : Int} {h : Hp} (c : Cl C h) : Ao (qI C h) (f_cFrame_isEarly v0 h) := by
  unfold f_cFrame_isEarly
  have F0 := Av.rf c
  refine ao_it ?_ ?_
  · exact ao_jI F0 (av_cFrame_isEarly_b17 (F0.cl))
  · refine ao_it ?_ ?_
    · exact ao_jI F0 (av_cFrame_isEarly_b17 (F0.cl))
    · refine ao_it ?_ ?_
      · exact ao_so F0
      · exact ao_jI F0 (av_cFrame_isEarly_b17 (F0.cl))
theorem av_cFrame_paddings_b5 {C : Nat → Prop} {k5 : Nat → Nat → Hp → Option (Int × Hp)} (hk5 : ∀ (v0 : Nat) (v1 : Nat) (h : Hp), Cl C h → C v0 → C v1 → Ao (qI C h) (k5 v0 v1 h)) {v0 : Nat} {v1 : Nat} {h : Hp} (c : Cl C h) (Cv0 : C v0) (Cv1 : C v1) : Ao (qI C h) (f_cFrame_paddings_b5 k5 v0 v1 h) := by
  unfold f_cFrame_paddings_b5
  have F0 := Av.rf c
  refine ao_it ao_no ?_
  refine ao_b2 F0 (av_cBytes_left (F0.cl)) (fun r5 h3 F1 => ?_)
  refine ao_it ?_ ?_
  · exact ao_so F1
  · refine ao_it ao_no ?_
    refine ao_it ?_ ao_no
    refine ao_it ?_ ?_
    · exact ao_so F1
    · refine ao_b2 F1 (av_cBytes_pass (F1.cl) Cv1) (fun r10 h8 F2 => ?_)
      refine ao_J F2 Cv0 (fun h11 F3 => ?_)
      exact ao_jI F3 (hk5 _ _ _ (F3.cl) Cv0 Cv1)
theorem av_cFrame_paddings_b5_lp {C : Nat → Prop} (n : Nat) : ∀ {v0 : Nat} {v1 : Nat} {h : Hp}, Cl C h → C v0 → C v1 → Ao (qI C h) (f_cFrame_paddings_b5_lp n v0 v1 h) := by
  induction n with
  | zero => intros; exact ao_no
  | succ n ih => intro v0 v1 h c Cv0 Cv1; exact av_cFrame_paddings_b5 (fun _ _ h => ih) c Cv0 Cv1
theorem av_cFrame_paddings {C : Nat → Prop} {v0 : Nat} {v1 : Nat} {h : Hp} (c : Cl C h) (Cv0 : C v0) (Cv1 : C v1) : Ao (qI C h) (f_cFrame_paddings v0 v1 h) := by
  unfold f_cFrame_paddings
  have F0 := Av.rf c
  refine ao_J F0 Cv0 (fun h1 F1 => ?_)
  exact ao_jI F1 (av_cFrame_paddings_b5_lp FU (F1.cl) Cv0 Cv1)
theorem av_cFrame_twice {C : Nat → Prop} {v0 : Nat} {h : Hp} (c : Cl C h) : Ao (qR C h) (f_cFrame_twice v0 h) := by
  unfold f_cFrame_twice
  have F0 := Av.rf c
  refine ao_it ao_no ?_
  refine ao_it ?_ ao_no
  refine ao_nw F0 (fun h3 F1 => ?_)
  refine ao_m (F0.cl.n) (fun y5 Cy5 => ?_)
  refine ao_it ?_ ao_no
  refine ao_cJ F1 Cy5 (fun h8 F3 => ?_)
  exact ao_so ⟨F3, Cy5⟩
theorem av_cFrame_span_b34 {C : Nat → Prop} {v0 : Nat} {v1 : Int} {v3 : Int} {h : Hp} (c : Cl C h) (Cv0 : C v0) : Ao (qV C h) (f_cFrame_span_b34 v0 v1 v3 h) := by
  unfold f_cFrame_span_b34
  have F0 := Av.rf c
  refine ao_it ao_no ?_
  refine ao_it ?_ ao_no
  refine ao_J F0 (F0.cl.r Cv0) (fun h12 F1 => ?_)
  refine ao_it ao_no ?_
  refine ao_it ?_ ao_no
  refine ao_J F1 (F1.cl.r Cv0) (fun h15 F2 => ?_)
  refine ao_I F2 Cv0 (fun h16 F3 => ?_)
  exact ao_so F3
theorem av_cFrame_span {C : Nat → Prop} {v0 : Nat} {v1 : Int} {v3 : Int} {h : Hp} (c : Cl C h) (Cv0 : C v0) : Ao (qV C h) (f_cFrame_span v0 v1 v3 h) := by
  unfold f_cFrame_span
  have F0 := Av.rf c
  refine ao_it ao_no ?_
  refine ao_it ?_ ?_
  · exact ao_jV F0 (av_cFrame_span_b34 (F0.cl) Cv0)
  · refine ao_b2R F0 (av_cFrame_twice (F0.cl)) (fun r4 h2 F1 Cr4 => ?_)
    refine ao_R F1 Cv0 Cr4 (fun h5 F2 => ?_)
    refine ao_b2R F2 (av_cFrame_twice (F2.cl)) (fun r8 h6 F3 Cr8 => ?_)
    refine ao_R F3 Cv0 Cr8 (fun h9 F4 => ?_)
    exact ao_jV F4 (av_cFrame_span_b34 (F4.cl) Cv0)
theorem av_cFrame_acknowledges_b138 {C : Nat → Prop} {k64 : Nat → Nat → Int → Int → Int → Int → Hp → Option (Int × Hp)} (hk64 : ∀ (v0 : Nat) (v1 : Nat) (v2 : Int) (v4 : Int) (v6 : Int) (v7 : Int) (h : Hp), Cl C h → C v0 → C v1 → Ao (qI C h) (k64 v0 v1 v2 v4 v6 v7 h)) {v0 : Nat} {v1 : Nat} {v2 : Int} {v4 : Int} {v6 : Int} {v7 : Int} {h : Hp} (c : Cl C h) (Cv0 : C v0) (Cv1 : C v1) : Ao (qI C h) (f_cFrame_acknowledges_b138 k64 v0 v1 v2 v4 v6 v7 h) := by
  unfold f_cFrame_acknowledges_b138
  have F0 := Av.rf c
  refine ao_v (fun y30 => ?_)
  exact ao_jI F0 (hk64 _ _ _ _ _ _ _ (F0.cl) Cv0 Cv1)
theorem av_cFrame_acknowledges_b117 {C : Nat → Prop} {k64 : Nat → Nat → Int → Int → Int → Int → Hp → Option (Int × Hp)} (hk64 : ∀ (v0 : Nat) (v1 : Nat) (v2 : Int) (v4 : Int) (v6 : Int) (v7 : Int) (h : Hp), Cl C h → C v0 → C v1 → Ao (qI C h) (k64 v0 v1 v2 v4 v6 v7 h)) {v0 : Nat} {v1 : Nat} {v2 : Int} {v4 : Int} {v7 : Int} {v9 : Int} {s0 : Int} {h : Hp} (c : Cl C h) (Cv0 : C v0) (Cv1 : C v1) : Ao (qI C h) (f_cFrame_acknowledges_b117 k64 v0 v1 v2 v4 v7 v9 s0 h) := by
  unfold f_cFrame_acknowledges_b117
  have F0 := Av.rf c
  refine ao_it ?_ ?_
  · exact ao_jI F0 (av_cFrame_acknowledges_b138 hk64 (F0.cl) Cv0 Cv1)
  · refine ao_b1 F0 (av_cFrame_span (F0.cl) Cv0) (fun h28 F1 => ?_)
    exact ao_jI F1 (av_cFrame_acknowledges_b138 hk64 (F1.cl) Cv0 Cv1)
theorem av_cFrame_acknowledges_b116 {C : Nat → Prop} {k64 : Nat → Nat → Int → Int → Int → Int → Hp → Option (Int × Hp)} (hk64 : ∀ (v0 : Nat) (v1 : Nat) (v2 : Int) (v4 : Int) (v6 : Int) (v7 : Int) (h : Hp), Cl C h → C v0 → C v1 → Ao (qI C h) (k64 v0 v1 v2 v4 v6 v7 h)) {v0 : Nat} {v1 : Nat} {v2 : Int} {v4 : Int} {v7 : Int} {v9 : Int} {h : Hp} (c : Cl C h) (Cv0 : C v0) (Cv1 : C v1) : Ao (qI C h) (f_cFrame_acknowledges_b116 k64 v0 v1 v2 v4 v7 v9 h) := by
  unfold f_cFrame_acknowledges_b116
  have F0 := Av.rf c
  exact ao_jI F0 (av_cFrame_acknowledges_b117 hk64 (F0.cl) Cv0 Cv1)
theorem av_cFrame_acknowledges_b150 {C : Nat → Prop} {k150 : Nat → Nat → Int → Int → Hp → Option (Int × Hp)} (hk150 : ∀ (v0 : Nat) (v1 : Nat) (v6 : Int) (v7 : Int) (h : Hp), Cl C h → C v0 → C v1 → Ao (qI C h) (k150 v0 v1 v6 v7 h)) {v0 : Nat} {v1 : Nat} {v6 : Int} {v7 : Int} {h : Hp} (c : Cl C h) (Cv0 : C v0) (Cv1 : C v1) : Ao (qI C h) (f_cFrame_acknowledges_b150 k150 v0 v1 v6 v7 h) := by
  unfold f_cFrame_acknowledges_b150
  have F0 := Av.rf c
  refine ao_it ?_ ?_
  · refine ao_it ?_ ao_no
    exact ao_so F0
  · refine ao_it ?_ ?_
    · refine ao_it ?_ ao_no
      exact ao_so F0
    · refine ao_it ao_no ?_
      refine ao_b2 F0 (av_cBytes_number (F0.cl) Cv1) (fun r36 h34 F1 => ?_)
      refine ao_it ao_no ?_
      refine ao_it ?_ ao_no
      refine ao_J F1 (F0.cl.r Cv0) (fun h39 F2 => ?_)
      exact ao_jI F2 (hk150 _ _ _ _ _ (F2.cl) Cv0 Cv1)
theorem av_cFrame_acknowledges_b150_lp {C : Nat → Prop} (n : Nat) : ∀ {v0 : Nat} {v1 : Nat} {v6 : Int} {v7 : Int} {h : Hp}, Cl C h → C v0 → C v1 → Ao (qI C h) (f_cFrame_acknowledges_b150_lp n v0 v1 v6 v7 h) := by
  induction n with
  | zero => intros; exact ao_no
  | succ n ih => intro v0 v1 v6 v7 h c Cv0 Cv1; exact av_cFrame_acknowledges_b150 (fun _ _ _ _ h => ih) c Cv0 Cv1
theorem av_cFrame_acknowledges_b147 {C : Nat → Prop} {v0 : Nat} {v1 : Nat} {v6 : Int} {h : Hp} (c : Cl C h) (Cv0 : C v0) (Cv1 : C v1) : Ao (qI C h) (f_cFrame_acknowledges_b147 v0 v1 v6 h) := by
  unfold f_cFrame_acknowledges_b147
  have F0 := Av.rf c
  exact ao_jI F0 (av_cFrame_acknowledges_b150_lp FU (F0.cl) Cv0 Cv1)
theorem av_cFrame_acknowledges_b64 {C : Nat → Prop} {k64 : Nat → Nat → Int → Int → Int → Int → Hp → Option (Int × Hp)} (hk64 : ∀ (v0 : Nat) (v1 : Nat) (v2 : Int) (v4 : Int) (v6 : Int) (v7 : Int) (h : Hp), Cl C h → C v0 → C v1 → Ao (qI C h) (k64 v0 v1 v2 v4 v6 v7 h)) {v0 : Nat} {v1 : Nat} {v2 : Int} {v4 : Int} {v6 : Int} {v7 : Int} {h : Hp} (c : Cl C h) (Cv0 : C v0) (Cv1 : C v1) : Ao (qI C h) (f_cFrame_acknowledges_b64 k64 v0 v1 v2 v4 v6 v7 h) := by
  unfold f_cFrame_acknowledges_b64
  have F0 := Av.rf c
  refine ao_it ?_ ?_
  · exact ao_jI F0 (av_cFrame_acknowledges_b147 (F0.cl) Cv0 Cv1)
  · refine ao_it ao_no ?_
    refine ao_it ?_ ?_
    · exact ao_jI F0 (av_cFrame_acknowledges_b147 (F0.cl) Cv0 Cv1)
    · refine ao_b2 F0 (av_cBytes_number (F0.cl) Cv1) (fun r22 h20 F1 => ?_)
      refine ao_v (fun y23 => ?_)
      refine ao_b2 F1 (av_cBytes_number (F1.cl) Cv1) (fun r26 h24 F3 => ?_)
      refine ao_v (fun y27 => ?_)
      refine ao_it ?_ ?_
      · exact ao_jI F3 (av_cFrame_acknowledges_b116 hk64 (F3.cl) Cv0 Cv1)
      · refine ao_it ?_ ?_
        · exact ao_jI F3 (av_cFrame_acknowledges_b116 hk64 (F3.cl) Cv0 Cv1)
        · exact ao_jI F3 (av_cFrame_acknowledges_b117 hk64 (F3.cl) Cv0 Cv1)
theorem av_cFrame_acknowledges_b64_lp {C : Nat → Prop} (n : Nat) : ∀ {v0 : Nat} {v1 : Nat} {v2 : Int} {v4 : Int} {v6 : Int} {v7 : Int} {h : Hp}, Cl C h → C v0 → C v1 → Ao (qI C h) (f_cFrame_acknowledges_b64_lp n v0 v1 v2 v4 v6 v7 h) := by
  induction n with
  | zero => intros; exact ao_no
  | succ n ih => intro v0 v1 v2 v4 v6 v7 h c Cv0 Cv1; exact av_cFrame_acknowledges_b64 (fun _ _ _ _ _ _ h => ih) c Cv0 Cv1
theorem av_cFrame_acknowledges_b61 {C : Nat → Prop} {v0 : Nat} {v1 : Nat} {v2 : Int} {v4 : Int} {v6 : Int} {h : Hp} (c : Cl C h) (Cv0 : C v0) (Cv1 : C v1) : Ao (qI C h) (f_cFrame_acknowledges_b61 v0 v1 v2 v4 v6 h) := by
  unfold f_cFrame_acknowledges_b61
  have F0 := Av.rf c
  exact ao_jI F0 (av_cFrame_acknowledges_b64_lp FU (F0.cl) Cv0 Cv1)
theorem av_cFrame_acknowledges_b44 {C : Nat → Prop} {v0 : Nat} {v1 : Nat} {v2 : Int} {v4 : Int} {s0 : Int} {h : Hp} (c : Cl C h) (Cv0 : C v0) (Cv1 : C v1) : Ao (qI C h) (f_cFrame_acknowledges_b44 v0 v1 v2 v4 s0 h) := by
  unfold f_cFrame_acknowledges_b44
  have F0 := Av.rf c
  refine ao_it ?_ ?_
  · exact ao_jI F0 (av_cFrame_acknowledges_b61 (F0.cl) Cv0 Cv1)
  · refine ao_b1 F0 (av_cFrame_span (F0.cl) Cv0) (fun h17 F1 => ?_)
    exact ao_jI F1 (av_cFrame_acknowledges_b61 (F1.cl) Cv0 Cv1)
theorem av_cFrame_acknowledges {C : Nat → Prop} {v0 : Nat} {v1 : Nat} {h : Hp} (c : Cl C h) (Cv0 : C v0) (Cv1 : C v1) : Ao (qI C h) (f_cFrame_acknowledges v0 v1 h) := by
  unfold f_cFrame_acknowledges
  have F0 := Av.rf c
  refine ao_it ao_no ?_
  refine ao_b2 F0 (av_cBytes_number (F0.cl) Cv1) (fun r4 h2 F1 => ?_)
  refine ao_J F1 Cv0 (fun h5 F2 => ?_)
  refine ao_b2 F2 (av_cBytes_number (F2.cl) Cv1) (fun r8 h6 F3 => ?_)
  refine ao_J F3 Cv0 (fun h9 F4 => ?_)
  refine ao_b2 F4 (av_cBytes_number (F4.cl) Cv1) (fun r12 h10 F5 => ?_)
  refine ao_b2 F5 (av_cBytes_number (F5.cl) Cv1) (fun r15 h13 F6 => ?_)
  refine ao_v (fun y16 => ?_)
  refine ao_it ?_ ?_
  · exact ao_jI F6 (av_cFrame_acknowledges_b44 (F6.cl) Cv0 Cv1)
  · exact ao_jI F6 (av_cFrame_acknowledges_b44 (F6.cl) Cv0 Cv1)
theorem av_cFrame_slice_b34 {C : Nat → Prop} {v0 : Nat} {v1 : Nat} {s0 : Nat} {s1 : Int} {h : Hp} (c : Cl C h) (Cv0 : C v0) (Cv1 : C v1) (Cs0 : C s0) : Ao (qV C h) (f_cFrame_slice_b34 v0 v1 s0 s1 h) := by
  unfold f_cFrame_slice_b34
  have F0 := Av.rf c
  refine ao_it ao_no ?_
  refine ao_I F0 Cs0 (fun h11 F1 => ?_)
  refine ao_it ao_no ?_
  refine ao_b2 F1 (av_cBytes_pass (F1.cl) Cv1) (fun r15 h13 F2 => ?_)
  refine ao_I F2 Cv0 (fun h16 F3 => ?_)
  exact ao_so F3
theorem av_cFrame_slice_b20 {C : Nat → Prop} {v0 : Nat} {v1 : Nat} {v2 : Int} {h : Hp} (c : Cl C h) (Cv0 : C v0) (Cv1 : C v1) : Ao (qV C h) (f_cFrame_slice_b20 v0 v1 v2 h) := by
  unfold f_cFrame_slice_b20
  have F0 := Av.rf c
  refine ao_it ao_no ?_
  refine ao_it ?_ ?_
  · exact ao_jV F0 (av_cFrame_slice_b34 (F0.cl) Cv0 Cv1 Cv0)
  · exact ao_jV F0 (av_cFrame_slice_b34 (F0.cl) Cv0 Cv1 Cv0)
theorem av_cFrame_slice {C : Nat → Prop} {v0 : Nat} {v1 : Nat} {h : Hp} (c : Cl C h) (Cv0 : C v0) (Cv1 : C v1) : Ao (qV C h) (f_cFrame_slice v0 v1 h) := by
  unfold f_cFrame_slice
  have F0 := Av.rf c
  refine ao_it ao_no ?_
  refine ao_b2 F0 (av_cBytes_number (F0.cl) Cv1) (fun r4 h2 F1 => ?_)
  refine ao_b2 F1 (av_cBytes_left (F1.cl)) (fun r7 h5 F2 => ?_)
  refine ao_it ?_ ?_
  · exact ao_jV F2 (av_cFrame_slice_b20 (F2.cl) Cv0 Cv1)
  · refine ao_I F2 Cv1 (fun h8 F3 => ?_)
    exact ao_jV F3 (av_cFrame_slice_b20 (F3.cl) Cv0 Cv1)
theorem av_cFrame_allowed_b18 {C : Nat → Prop} {v0 : Nat} {h : Hp} (c : Cl C h) : Ao (qI C h) (f_cFrame_allowed_b18 v0 h) := by
  unfold f_cFrame_allowed_b18
  have F0 := Av.rf c
  refine ao_it ?_ ?_
  · exact ao_so F0
  · exact ao_so F0
theorem av_cFrame_allowed_b153 {C : Nat → Prop} {v0 : Nat} {h : Hp} (c : Cl C h) : Ao (qI C h) (f_cFrame_allowed_b153 v0 h) := by
  unfold f_cFrame_allowed_b153
  have F0 := Av.rf c
  exact ao_so F0
theorem av_cFrame_allowed_b142 {C : Nat → Prop} {v0 : Nat} {h : Hp} (c : Cl C h) : Ao (qI C h) (f_cFrame_allowed_b142 v0 h) := by
  unfold f_cFrame_allowed_b142
  have F0 := Av.rf c
  refine ao_it ?_ ?_
  · exact ao_so F0
  · exact ao_jI F0 (av_cFrame_allowed_b153 (F0.cl))
theorem av_cFrame_allowed {C : Nat → Prop} {v0 : Nat} {h : Hp} (c : Cl C h) : Ao (qI C h) (f_cFrame_allowed v0 h) := by
  unfold f_cFrame_allowed
  have F0 := Av.rf c
  refine ao_it ?_ ?_
  · exact ao_jI F0 (av_cFrame_allowed_b18 (F0.cl))
  · refine ao_it ?_ ?_
    · refine ao_it ?_ ?_
      · refine ao_it ?_ ?_
        · refine ao_it ?_ ?_
          · exact ao_jI F0 (av_cFrame_allowed_b142 (F0.cl))
          · refine ao_it ?_ ?_
            · exact ao_jI F0 (av_cFrame_allowed_b142 (F0.cl))
            · refine ao_it ?_ ?_
              · exact ao_jI F0 (av_cFrame_allowed_b142 (F0.cl))
              · refine ao_it ?_ ?_
                · exact ao_jI F0 (av_cFrame_allowed_b153 (F0.cl))
                · exact ao_jI F0 (av_cFrame_allowed_b142 (F0.cl))
        · refine ao_it ?_ ?_
          · exact ao_so F0
          · refine ao_it ?_ ?_
            · exact ao_so F0
            · refine ao_it ?_ ?_
              · exact ao_so F0
              · exact ao_so F0
      · refine ao_it ?_ ?_
        · exact ao_so F0
        · exact ao_so F0
    · exact ao_jI F0 (av_cFrame_allowed_b18 (F0.cl))
theorem av_cFrame_streams_b77 {C : Nat → Prop} {v0 : Nat} {h : Hp} (c : Cl C h) : Ao (qI C h) (f_cFrame_streams_b77 v0 h) := by
  unfold f_cFrame_streams_b77
  have F0 := Av.rf c
  refine ao_b2 F0 (av_cFrame_allowed (F0.cl)) (fun r25 h23 F1 => ?_)
  refine ao_it ?_ ao_no
  exact ao_so F1
theorem av_cFrame_streams_b40 {C : Nat → Prop} {v0 : Nat} {v1 : Nat} {h : Hp} (c : Cl C h) (Cv0 : C v0) (Cv1 : C v1) : Ao (qI C h) (f_cFrame_streams_b40 v0 v1 h) := by
  unfold f_cFrame_streams_b40
  have F0 := Av.rf c
  refine ao_it ?_ ?_
  · refine ao_it ao_no ?_
    refine ao_b2 F0 (av_cBytes_left (F0.cl)) (fun r15 h13 F1 => ?_)
    refine ao_I F1 Cv0 (fun h16 F2 => ?_)
    refine ao_b2 F2 (av_cBytes_pass (F2.cl) Cv1) (fun r19 h17 F3 => ?_)
    refine ao_I F3 Cv0 (fun h20 F4 => ?_)
    exact ao_jI F4 (av_cFrame_streams_b77 (F4.cl))
  · refine ao_b1 F0 (av_cFrame_slice (F0.cl) Cv0 Cv1) (fun h21 F5 => ?_)
    exact ao_jI F5 (av_cFrame_streams_b77 (F5.cl))
theorem av_cFrame_streams {C : Nat → Prop} {v0 : Nat} {v1 : Nat} {v2 : Int} {h : Hp} (c : Cl C h) (Cv0 : C v0) (Cv1 : C v1) : Ao (qI C h) (f_cFrame_streams v0 v1 v2 h) := by
  unfold f_cFrame_streams
  have F0 := Av.rf c
  refine ao_J F0 Cv0 (fun h1 F1 => ?_)
  refine ao_J F1 Cv0 (fun h2 F2 => ?_)
  refine ao_it ao_no ?_
  refine ao_b2 F2 (av_cBytes_number (F2.cl) Cv1) (fun r6 h4 F3 => ?_)
  refine ao_J F3 Cv0 (fun h7 F4 => ?_)
  refine ao_it ?_ ?_
  · exact ao_jI F4 (av_cFrame_streams_b40 (F4.cl) Cv0 Cv1)
  · refine ao_b2 F4 (av_cBytes_number (F4.cl) Cv1) (fun r10 h8 F5 => ?_)
    refine ao_J F5 Cv0 (fun h11 F6 => ?_)
    exact ao_jI F6 (av_cFrame_streams_b40 (F6.cl) Cv0 Cv1)
theorem av_cFrame_names {C : Nat → Prop} {v0 : Nat} {v1 : Nat} {h : Hp} (c : Cl C h) (Cv0 : C v0) (Cv1 : C v1) : Ao (qI C h) (f_cFrame_names v0 v1 h) := by
  unfold f_cFrame_names
  have F0 := Av.rf c
  refine ao_it ao_no ?_
  refine ao_b2 F0 (av_cBytes_number (F0.cl) Cv1) (fun r4 h2 F1 => ?_)
  refine ao_J F1 Cv0 (fun h5 F2 => ?_)
  refine ao_b2 F2 (av_cBytes_number (F2.cl) Cv1) (fun r8 h6 F3 => ?_)
  refine ao_J F3 Cv0 (fun h9 F4 => ?_)
  refine ao_b2 F4 (av_cBytes_one (F4.cl) Cv1) (fun r12 h10 F5 => ?_)
  refine ao_I F5 Cv0 (fun h13 F6 => ?_)
  refine ao_b2 F6 (av_cBytes_pass (F6.cl) Cv1) (fun r16 h14 F7 => ?_)
  refine ao_I F7 Cv0 (fun h17 F8 => ?_)
  refine ao_b2 F8 (av_cBytes_pass (F8.cl) Cv1) (fun r20 h18 F9 => ?_)
  refine ao_I F9 Cv0 (fun h21 F10 => ?_)
  refine ao_b2 F10 (av_cFrame_allowed (F10.cl)) (fun r24 h22 F11 => ?_)
  refine ao_it ?_ ao_no
  exact ao_so F11
theorem av_cFrame_carries_b54 {C : Nat → Prop} {v0 : Nat} {h : Hp} (c : Cl C h) : Ao (qI C h) (f_cFrame_carries_b54 v0 h) := by
  unfold f_cFrame_carries_b54
  have F0 := Av.rf c
  exact ao_so F0
theorem av_cFrame_carries {C : Nat → Prop} {v0 : Nat} {h : Hp} (c : Cl C h) : Ao (qI C h) (f_cFrame_carries v0 h) := by
  unfold f_cFrame_carries
  have F0 := Av.rf c
  refine ao_it ?_ ?_
  · exact ao_jI F0 (av_cFrame_carries_b54 (F0.cl))
  · refine ao_it ?_ ?_
    · exact ao_jI F0 (av_cFrame_carries_b54 (F0.cl))
    · refine ao_it ?_ ?_
      · exact ao_jI F0 (av_cFrame_carries_b54 (F0.cl))
      · refine ao_it ?_ ?_
        · exact ao_jI F0 (av_cFrame_carries_b54 (F0.cl))
        · refine ao_it ?_ ?_
          · exact ao_so F0
          · refine ao_it ?_ ?_
            · exact ao_so F0
            · exact ao_jI F0 (av_cFrame_carries_b54 (F0.cl))
theorem av_cFrame_fields_b152 {C : Nat → Prop} {v0 : Nat} {v1 : Nat} {h : Hp} (c : Cl C h) (Cv0 : C v0) (Cv1 : C v1) : Ao (qI C h) (f_cFrame_fields_b152 v0 v1 h) := by
  unfold f_cFrame_fields_b152
  have F0 := Av.rf c
  refine ao_b2 F0 (av_cFrame_acknowledges (F0.cl) Cv0 Cv1) (fun r106 h104 F1 => ?_)
  refine ao_it ?_ ao_no
  exact ao_so F1
theorem av_cFrame_fields_b281 {C : Nat → Prop} {v0 : Nat} {h : Hp} (c : Cl C h) : Ao (qI C h) (f_cFrame_fields_b281 v0 h) := by
  unfold f_cFrame_fields_b281
  have F0 := Av.rf c
  refine ao_b2 F0 (av_cFrame_allowed (F0.cl)) (fun r97 h95 F1 => ?_)
  refine ao_it ?_ ao_no
  exact ao_so F1
theorem av_cFrame_fields_b269 {C : Nat → Prop} {v0 : Nat} {v1 : Nat} {h : Hp} (c : Cl C h) (Cv0 : C v0) (Cv1 : C v1) : Ao (qI C h) (f_cFrame_fields_b269 v0 v1 h) := by
  unfold f_cFrame_fields_b269
  have F0 := Av.rf c
  refine ao_b2 F0 (av_cFrame_carries (F0.cl)) (fun r92 h90 F1 => ?_)
  refine ao_it ?_ ?_
  · exact ao_jI F1 (av_cFrame_fields_b281 (F1.cl))
  · refine ao_b1 F1 (av_cFrame_slice (F1.cl) Cv0 Cv1) (fun h93 F2 => ?_)
    exact ao_jI F2 (av_cFrame_fields_b281 (F2.cl))
theorem av_cFrame_fields_b253 {C : Nat → Prop} {v0 : Nat} {v1 : Nat} {h : Hp} (c : Cl C h) (Cv0 : C v0) (Cv1 : C v1) : Ao (qI C h) (f_cFrame_fields_b253 v0 v1 h) := by
  unfold f_cFrame_fields_b253
  have F0 := Av.rf c
  refine ao_it ?_ ?_
  · exact ao_jI F0 (av_cFrame_fields_b269 (F0.cl) Cv0 Cv1)
  · refine ao_it ao_no ?_
    refine ao_b2 F0 (av_cBytes_number (F0.cl) Cv1) (fun r88 h86 F1 => ?_)
    refine ao_J F1 Cv0 (fun h89 F2 => ?_)
    exact ao_jI F2 (av_cFrame_fields_b269 (F2.cl) Cv0 Cv1)
theorem av_cFrame_fields_b245 {C : Nat → Prop} {v0 : Nat} {v1 : Nat} {h : Hp} (c : Cl C h) (Cv0 : C v0) (Cv1 : C v1) : Ao (qI C h) (f_cFrame_fields_b245 v0 v1 h) := by
  unfold f_cFrame_fields_b245
  have F0 := Av.rf c
  refine ao_it ao_no ?_
  refine ao_b2 F0 (av_cBytes_number (F0.cl) Cv1) (fun r102 h100 F1 => ?_)
  refine ao_J F1 Cv0 (fun h103 F2 => ?_)
  exact ao_jI F2 (av_cFrame_fields_b253 (F2.cl) Cv0 Cv1)
theorem av_cFrame_fields_b209 {C : Nat → Prop} {v0 : Nat} {v1 : Nat} {h : Hp} (c : Cl C h) (Cv0 : C v0) (Cv1 : C v1) : Ao (qI C h) (f_cFrame_fields_b209 v0 v1 h) := by
  unfold f_cFrame_fields_b209
  have F0 := Av.rf c
  refine ao_it ?_ ?_
  · exact ao_jI F0 (av_cFrame_fields_b245 (F0.cl) Cv0 Cv1)
  · refine ao_it ?_ ?_
    · exact ao_jI F0 (av_cFrame_fields_b245 (F0.cl) Cv0 Cv1)
    · refine ao_it ?_ ?_
      · exact ao_jI F0 (av_cFrame_fields_b245 (F0.cl) Cv0 Cv1)
      · refine ao_it ?_ ?_
        · exact ao_jI F0 (av_cFrame_fields_b253 (F0.cl) Cv0 Cv1)
        · exact ao_jI F0 (av_cFrame_fields_b245 (F0.cl) Cv0 Cv1)
theorem av_cFrame_fields_b183 {C : Nat → Prop} {v0 : Nat} {v1 : Nat} {h : Hp} (c : Cl C h) (Cv0 : C v0) (Cv1 : C v1) : Ao (qI C h) (f_cFrame_fields_b183 v0 v1 h) := by
  unfold f_cFrame_fields_b183
  have F0 := Av.rf c
  refine ao_it ?_ ?_
  · exact ao_jI F0 (av_cFrame_fields_b209 (F0.cl) Cv0 Cv1)
  · refine ao_it ?_ ?_
    · exact ao_jI F0 (av_cFrame_fields_b209 (F0.cl) Cv0 Cv1)
    · refine ao_it ao_no ?_
      refine ao_b2 F0 (av_cBytes_number (F0.cl) Cv1) (fun r83 h81 F1 => ?_)
      refine ao_J F1 Cv0 (fun h84 F2 => ?_)
      exact ao_jI F2 (av_cFrame_fields_b209 (F2.cl) Cv0 Cv1)
theorem av_cFrame_fields_b171 {C : Nat → Prop} {v0 : Nat} {v1 : Nat} {h : Hp} (c : Cl C h) (Cv0 : C v0) (Cv1 : C v1) : Ao (qI C h) (f_cFrame_fields_b171 v0 v1 h) := by
  unfold f_cFrame_fields_b171
  have F0 := Av.rf c
  refine ao_it ao_no ?_
  refine ao_b2 F0 (av_cBytes_many (F0.cl) Cv1) (fun r78 h76 F1 => ?_)
  refine ao_J F1 Cv0 (fun h79 F2 => ?_)
  exact ao_so F2
theorem av_cFrame_fields {C : Nat → Prop} {v0 : Nat} {v1 : Nat} {v2 : Int} {h : Hp} (c : Cl C h) (Cv0 : C v0) (Cv1 : C v1) : Ao (qI C h) (f_cFrame_fields v0 v1 v2 h) := by
  unfold f_cFrame_fields
  have F0 := Av.rf c
  refine ao_it ?_ ?_
  · refine ao_b2 F0 (av_cFrame_paddings (F0.cl) Cv0 Cv1) (fun r5 h3 F1 => ?_)
    refine ao_it ?_ ao_no
    exact ao_so F1
  · refine ao_it ?_ ?_
    · exact ao_so F0
    · refine ao_it ?_ ?_
      · exact ao_jI F0 (av_cFrame_fields_b152 (F0.cl) Cv0 Cv1)
      · refine ao_it ?_ ?_
        · exact ao_jI F0 (av_cFrame_fields_b152 (F0.cl) Cv0 Cv1)
        · refine ao_it ?_ ?_
          · exact ao_jI F0 (av_cFrame_fields_b183 (F0.cl) Cv0 Cv1)
          · refine ao_it ?_ ?_
            · exact ao_jI F0 (av_cFrame_fields_b183 (F0.cl) Cv0 Cv1)
            · refine ao_it ?_ ?_
              · exact ao_jI F0 (av_cFrame_fields_b183 (F0.cl) Cv0 Cv1)
              · refine ao_it ?_ ?_
                · exact ao_jI F0 (av_cFrame_fields_b183 (F0.cl) Cv0 Cv1)
                · refine ao_it ?_ ?_
                  · refine ao_b2 F0 (av_cFrame_streams (F0.cl) Cv0 Cv1) (fun r25 h23 F2 => ?_)
                    refine ao_it ?_ ao_no
                    exact ao_so F2
                  · refine ao_it ?_ ?_
                    · exact ao_jI F0 (av_cFrame_fields_b183 (F0.cl) Cv0 Cv1)
                    · refine ao_it ?_ ?_
                      · exact ao_jI F0 (av_cFrame_fields_b183 (F0.cl) Cv0 Cv1)
                      · refine ao_it ?_ ?_
                        · exact ao_jI F0 (av_cFrame_fields_b183 (F0.cl) Cv0 Cv1)
                        · refine ao_it ?_ ?_
                          · exact ao_jI F0 (av_cFrame_fields_b183 (F0.cl) Cv0 Cv1)
                          · refine ao_it ?_ ?_
                            · exact ao_jI F0 (av_cFrame_fields_b183 (F0.cl) Cv0 Cv1)
                            · refine ao_it ?_ ?_
                              · exact ao_jI F0 (av_cFrame_fields_b183 (F0.cl) Cv0 Cv1)
                              · refine ao_it ?_ ?_
                                · exact ao_jI F0 (av_cFrame_fields_b183 (F0.cl) Cv0 Cv1)
                                · refine ao_it ?_ ?_
                                  · exact ao_jI F0 (av_cFrame_fields_b183 (F0.cl) Cv0 Cv1)
                                  · refine ao_it ?_ ?_
                                    · exact ao_jI F0 (av_cFrame_fields_b183 (F0.cl) Cv0 Cv1)
                                    · refine ao_it ?_ ?_
                                      · exact ao_jI F0 (av_cFrame_fields_b183 (F0.cl) Cv0 Cv1)
                                      · refine ao_it ?_ ?_
                                        · exact ao_jI F0 (av_cFrame_fields_b183 (F0.cl) Cv0 Cv1)
                                        · refine ao_it ?_ ?_
                                          · exact ao_jI F0 (av_cFrame_fields_b183 (F0.cl) Cv0 Cv1)
                                          · refine ao_it ?_ ?_
                                            · exact ao_jI F0 (av_cFrame_fields_b183 (F0.cl) Cv0 Cv1)
                                            · refine ao_it ?_ ?_
                                              · exact ao_jI F0 (av_cFrame_fields_b183 (F0.cl) Cv0 Cv1)
                                              · refine ao_it ?_ ?_
                                                · exact ao_jI F0 (av_cFrame_fields_b183 (F0.cl) Cv0 Cv1)
                                                · refine ao_it ?_ ?_
                                                  · refine ao_b2 F0 (av_cFrame_names (F0.cl) Cv0 Cv1) (fun r61 h59 F3 => ?_)
                                                    refine ao_it ?_ ao_no
                                                    exact ao_so F3
                                                  · refine ao_it ?_ ?_
                                                    · exact ao_jI F0 (av_cFrame_fields_b183 (F0.cl) Cv0 Cv1)
                                                    · refine ao_it ?_ ?_
                                                      · exact ao_jI F0 (av_cFrame_fields_b171 (F0.cl) Cv0 Cv1)
                                                      · refine ao_it ?_ ?_
                                                        · exact ao_jI F0 (av_cFrame_fields_b171 (F0.cl) Cv0 Cv1)
                                                        · refine ao_it ?_ ?_
                                                          · exact ao_jI F0 (av_cFrame_fields_b183 (F0.cl) Cv0 Cv1)
                                                          · refine ao_it ?_ ?_
                                                            · exact ao_jI F0 (av_cFrame_fields_b183 (F0.cl) Cv0 Cv1)
                                                            · refine ao_it ?_ ?_
                                                              · exact ao_so F0
                                                              · exact ao_jI F0 (av_cFrame_fields_b183 (F0.cl) Cv0 Cv1)
theorem av_cFrame_read_b70 {C : Nat → Prop} {v0 : Nat} {v1 : Nat} {v3 : Int} {h : Hp} (c : Cl C h) (Cv0 : C v0) (Cv1 : C v1) : Ao (qI C h) (f_cFrame_read_b70 v0 v1 v3 h) := by
  unfold f_cFrame_read_b70
  have F0 := Av.rf c
  refine ao_b2 F0 (av_cFrame_fields (F0.cl) Cv0 Cv1) (fun r24 h22 F1 => ?_)
  refine ao_it ao_no ?_
  refine ao_it ?_ ?_
  · refine ao_it ?_ ?_
    · refine ao_b2 F1 (av_cFrame_fails (F1.cl) Cv0) (fun r28 h26 F2 => ?_)
      exact ao_so F2
    · exact ao_so F1
  · refine ao_b2 F1 (av_cFrame_fails (F1.cl) Cv0) (fun r31 h29 F3 => ?_)
    exact ao_so F3
theorem av_cFrame_read_b49 {C : Nat → Prop} {v0 : Nat} {v1 : Nat} {v2 : Int} {v3 : Int} {s0 : Nat} {s1 : Int} {h : Hp} (c : Cl C h) (Cv0 : C v0) (Cv1 : C v1) (Cs0 : C s0) : Ao (qI C h) (f_cFrame_read_b49 v0 v1 v2 v3 s0 s1 h) := by
  unfold f_cFrame_read_b49
  have F0 := Av.rf c
  refine ao_it ao_no ?_
  refine ao_I F0 Cs0 (fun h15 F1 => ?_)
  refine ao_it ?_ ?_
  · exact ao_jI F1 (av_cFrame_read_b70 (F1.cl) Cv0 Cv1)
  · refine ao_b2 F1 (av_cFrame_isEarly (F1.cl)) (fun r18 h16 F2 => ?_)
    refine ao_it ?_ ?_
    · exact ao_jI F2 (av_cFrame_read_b70 (F2.cl) Cv0 Cv1)
    · refine ao_b2 F2 (av_cFrame_fails (F2.cl) Cv0) (fun r21 h19 F3 => ?_)
      exact ao_so F3
theorem av_cFrame_read_b48 {C : Nat → Prop} {v0 : Nat} {v1 : Nat} {v2 : Int} {v3 : Int} {s0 : Nat} {h : Hp} (c : Cl C h) (Cv0 : C v0) (Cv1 : C v1) (Cs0 : C s0) : Ao (qI C h) (f_cFrame_read_b48 v0 v1 v2 v3 s0 h) := by
  unfold f_cFrame_read_b48
  have F0 := Av.rf c
  exact ao_jI F0 (av_cFrame_read_b49 (F0.cl) Cv0 Cv1 Cs0)
theorem av_cFrame_read {C : Nat → Prop} {v0 : Nat} {v1 : Nat} {v2 : Int} {h : Hp} (c : Cl C h) (Cv0 : C v0) (Cv1 : C v1) : Ao (qI C h) (f_cFrame_read v0 v1 v2 h) := by
  unfold f_cFrame_read
  have F0 := Av.rf c
  refine ao_b1 F0 (av_cFrame_clear (F0.cl) Cv0) (fun h1 F1 => ?_)
  refine ao_it ao_no ?_
  refine ao_R F1 Cv0 (F1.cl.r Cv1) (fun h4 F2 => ?_)
  refine ao_b2 F2 (av_cBytes_one (F2.cl) Cv1) (fun r7 h5 F3 => ?_)
  refine ao_b2 F3 (av_cFrame_isKind (F3.cl)) (fun r10 h8 F4 => ?_)
  refine ao_it ?_ ?_
  · refine ao_it ?_ ?_
    · exact ao_jI F4 (av_cFrame_read_b48 (F4.cl) Cv0 Cv1 Cv0)
    · refine ao_it ?_ ?_
      · exact ao_jI F4 (av_cFrame_read_b48 (F4.cl) Cv0 Cv1 Cv0)
      · exact ao_jI F4 (av_cFrame_read_b49 (F4.cl) Cv0 Cv1 Cv0)
  · refine ao_b2 F4 (av_cFrame_fails (F4.cl) Cv0) (fun r13 h11 F5 => ?_)
    exact ao_so F5
theorem av_cBook_isSent {C : Nat → Prop} {v0 : Nat} {v1 : Int} {h : Hp} (c : Cl C h) : Ao (qI C h) (f_cBook_isSent v0 v1 h) := by
  unfold f_cBook_isSent
  have F0 := Av.rf c
  refine ao_it ao_no ?_
  refine ao_it ?_ ao_no
  refine ao_it ao_no ?_
  refine ao_it ?_ ao_no
  refine ao_it ao_no ?_
  refine ao_it ?_ ?_
  · exact ao_so F0
  · exact ao_so F0
theorem av_cSpace_state {C : Nat → Prop} {v0 : Nat} {v1 : Int} {h : Hp} (c : Cl C h) : Ao (qI C h) (f_cSpace_state v0 v1 h) := by
  unfold f_cSpace_state
  have F0 := Av.rf c
  refine ao_it ?_ ?_
  · refine ao_it ao_no ?_
    refine ao_it ?_ ao_no
    exact ao_so F0
  · exact ao_so F0
theorem av_cTrip_sample_b73 {C : Nat → Prop} {v0 : Nat} {s0 : Int} {h : Hp} (c : Cl C h) (Cv0 : C v0) : Ao (qV C h) (f_cTrip_sample_b73 v0 s0 h) := by
  unfold f_cTrip_sample_b73
  have F0 := Av.rf c
  refine ao_I F0 Cv0 (fun h7 F1 => ?_)
  refine ao_I F1 Cv0 (fun h8 F2 => ?_)
  exact ao_so F2
theorem av_cTrip_sample_b25 {C : Nat → Prop} {v0 : Nat} {v1 : Int} {v2 : Int} {v3 : Int} {s0 : Nat} {s1 : Int} {h : Hp} (c : Cl C h) (Cv0 : C v0) (Cs0 : C s0) : Ao (qV C h) (f_cTrip_sample_b25 v0 v1 v2 v3 s0 s1 h) := by
  unfold f_cTrip_sample_b25
  have F0 := Av.rf c
  refine ao_it ao_no ?_
  refine ao_I F0 Cs0 (fun h3 F1 => ?_)
  refine ao_it ?_ ?_
  · refine ao_it ?_ ?_
    · exact ao_jV F1 (av_cTrip_sample_b73 (F1.cl) Cv0)
    · exact ao_jV F1 (av_cTrip_sample_b73 (F1.cl) Cv0)
  · refine ao_I F1 Cv0 (fun h4 F2 => ?_)
    refine ao_I F2 Cv0 (fun h5 F3 => ?_)
    refine ao_I F3 Cv0 (fun h6 F4 => ?_)
    exact ao_so F4
theorem av_cTrip_sample {C : Nat → Prop} {v0 : Nat} {v1 : Int} {v2 : Int} {v3 : Int} {h : Hp} (c : Cl C h) (Cv0 : C v0) : Ao (qV C h) (f_cTrip_sample v0 v1 v2 v3 h) := by
  unfold f_cTrip_sample
  have F0 := Av.rf c
  refine ao_I F0 Cv0 (fun h1 F1 => ?_)
  refine ao_it ?_ ?_
  · exact ao_jV F1 (av_cTrip_sample_b25 (F1.cl) Cv0 Cv0)
  · exact ao_jV F1 (av_cTrip_sample_b25 (F1.cl) Cv0 Cv0)
theorem av_cSpace_settle_b85 {C : Nat → Prop} {v0 : Nat} {v1 : Int} {h : Hp} (c : Cl C h) : Ao (qI C h) (f_cSpace_settle_b85 v0 v1 h) := by
  unfold f_cSpace_settle_b85
  have F0 := Av.rf c
  refine ao_b2 F0 (av_cSpace_is (F0.cl)) (fun r15 h13 F1 => ?_)
  refine ao_it ?_ ?_
  · exact ao_so F1
  · refine ao_it ao_no ?_
    refine ao_it ?_ ao_no
    exact ao_so F1
theorem av_cSpace_settle_b47 {C : Nat → Prop} {k47 : Nat → Int → Hp → Option (Int × Hp)} (hk47 : ∀ (v0 : Nat) (v1 : Int) (h : Hp), Cl C h → C v0 → Ao (qI C h) (k47 v0 v1 h)) {v0 : Nat} {v1 : Int} {h : Hp} (c : Cl C h) (Cv0 : C v0) : Ao (qI C h) (f_cSpace_settle_b47 k47 v0 v1 h) := by
  unfold f_cSpace_settle_b47
  have F0 := Av.rf c
  refine ao_it ?_ ?_
  · exact ao_jI F0 (av_cSpace_settle_b85 (F0.cl))
  · refine ao_it ao_no ?_
    refine ao_it ?_ ao_no
    refine ao_it ?_ ?_
    · exact ao_jI F0 (av_cSpace_settle_b85 (F0.cl))
    · refine ao_I F0 Cv0 (fun h12 F1 => ?_)
      exact ao_jI F1 (hk47 _ _ _ (F1.cl) Cv0)
theorem av_cSpace_settle_b47_lp {C : Nat → Prop} (n : Nat) : ∀ {v0 : Nat} {v1 : Int} {h : Hp}, Cl C h → C v0 → Ao (qI C h) (f_cSpace_settle_b47_lp n v0 v1 h) := by
  induction n with
  | zero => intros; exact ao_no
  | succ n ih => intro v0 v1 h c Cv0; exact av_cSpace_settle_b47 (fun _ _ h => ih) c Cv0
theorem av_cSpace_settle {C : Nat → Prop} {v0 : Nat} {v1 : Int} {v2 : Int} {h : Hp} (c : Cl C h) (Cv0 : C v0) : Ao (qI C h) (f_cSpace_settle v0 v1 v2 h) := by
  unfold f_cSpace_settle
  have F0 := Av.rf c
  refine ao_it ao_no ?_
  refine ao_it ?_ ao_no
  refine ao_it ?_ ao_no
  refine ao_I F0 (F0.cl.r Cv0) (fun h4 F1 => ?_)
  refine ao_I F1 Cv0 (fun h5 F2 => ?_)
  refine ao_b2 F2 (av_cSpace_is (F2.cl)) (fun r8 h6 F3 => ?_)
  refine ao_it ?_ ?_
  · exact ao_jI F3 (av_cSpace_settle_b47_lp FU (F3.cl) Cv0)
  · refine ao_I F3 Cv0 (fun h9 F4 => ?_)
    exact ao_jI F4 (av_cSpace_settle_b47_lp FU (F4.cl) Cv0)
theorem av_cWindow_grow_b50 {C : Nat → Prop} {v0 : Nat} {s0 : Nat} {s1 : Int} {s2 : Int} {h : Hp} (c : Cl C h) (Cs0 : C s0) : Ao (qV C h) (f_cWindow_grow_b50 v0 s0 s1 s2 h) := by
  unfold f_cWindow_grow_b50
  have F0 := Av.rf c
  refine ao_it ao_no ?_
  refine ao_I F0 Cs0 (fun h3 F1 => ?_)
  exact ao_so F1
theorem av_cWindow_grow_b36 {C : Nat → Prop} {v0 : Nat} {v2 : Int} {s0 : Nat} {s1 : Int} {h : Hp} (c : Cl C h) (Cs0 : C s0) : Ao (qV C h) (f_cWindow_grow_b36 v0 v2 s0 s1 h) := by
  unfold f_cWindow_grow_b36
  have F0 := Av.rf c
  exact ao_jV F0 (av_cWindow_grow_b50 (F0.cl) Cs0)
theorem av_cWindow_grow {C : Nat → Prop} {v0 : Nat} {v1 : Int} {v2 : Int} {v3 : Int} {h : Hp} (c : Cl C h) (Cv0 : C v0) : Ao (qV C h) (f_cWindow_grow v0 v1 v2 v3 h) := by
  unfold f_cWindow_grow
  have F0 := Av.rf c
  refine ao_it ?_ ?_
  · exact ao_so F0
  · refine ao_it ?_ ?_
    · refine ao_it ?_ ?_
      · exact ao_jV F0 (av_cWindow_grow_b36 (F0.cl) Cv0)
      · refine ao_it ?_ ?_
        · refine ao_it ao_no ?_
          exact ao_jV F0 (av_cWindow_grow_b50 (F0.cl) Cv0)
        · exact ao_jV F0 (av_cWindow_grow_b36 (F0.cl) Cv0)
    · exact ao_so F0
theorem av_cQueue_add_b40 {C : Nat → Prop} {v0 : Nat} {v1 : Int} {h : Hp} (c : Cl C h) (Cv0 : C v0) : Ao (qV C h) (f_cQueue_add_b40 v0 v1 h) := by
  unfold f_cQueue_add_b40
  have F0 := Av.rf c
  refine ao_it ao_no ?_
  refine ao_it ?_ ao_no
  refine ao_I F0 (F0.cl.r Cv0) (fun h13 F1 => ?_)
  refine ao_I F1 Cv0 (fun h14 F2 => ?_)
  exact ao_so F2
theorem av_cQueue_add {C : Nat → Prop} {v0 : Nat} {v1 : Int} {h : Hp} (c : Cl C h) (Cv0 : C v0) : Ao (qV C h) (f_cQueue_add v0 v1 h) := by
  unfold f_cQueue_add
  have F0 := Av.rf c
  refine ao_it ao_no ?_
  refine ao_it ?_ ?_
  · exact ao_jV F0 (av_cQueue_add_b40 (F0.cl) Cv0)
  · refine ao_it ?_ ao_no
    refine ao_nw F0 (fun h3 F1 => ?_)
    refine ao_m (F0.cl.n) (fun y5 Cy5 => ?_)
    refine ao_it ao_no ?_
    refine ao_it ?_ ao_no
    refine ao_cI F1 Cy5 (fun h9 F3 => ?_)
    refine ao_R F3 Cv0 Cy5 (fun h10 F4 => ?_)
    exact ao_jV F4 (av_cQueue_add_b40 (F4.cl) Cv0)
theorem av_cBook_done_b45 {C : Nat → Prop} {v0 : Nat} {v1 : Nat} {v2 : Int} {h : Hp} (c : Cl C h) (Cv1 : C v1) : Ao (qV C h) (f_cBook_done_b45 v0 v1 v2 h) := by
  unfold f_cBook_done_b45
  have F0 := Av.rf c
  refine ao_it ao_no ?_
  refine ao_it ao_no ?_
  refine ao_b1 F0 (av_cQueue_add (F0.cl) (F0.cl.r Cv1)) (fun h17 F1 => ?_)
  exact ao_so F1
theorem av_cBook_done {C : Nat → Prop} {v0 : Nat} {v1 : Nat} {v2 : Int} {h : Hp} (c : Cl C h) (Cv0 : C v0) (Cv1 : C v1) : Ao (qV C h) (f_cBook_done v0 v1 v2 h) := by
  unfold f_cBook_done
  have F0 := Av.rf c
  refine ao_it ao_no ?_
  refine ao_b2 F0 (av_cSpace_settle (F0.cl) Cv1) (fun r4 h2 F1 => ?_)
  refine ao_it ao_no ?_
  refine ao_I F1 (F1.cl.r Cv0) (fun h6 F2 => ?_)
  refine ao_it ?_ ?_
  · exact ao_jV F2 (av_cBook_done_b45 (F2.cl) Cv1)
  · refine ao_it ao_no ?_
    refine ao_it ?_ ao_no
    refine ao_b2 F2 (av_cSpace_is (F2.cl)) (fun r11 h9 F3 => ?_)
    refine ao_it ao_no ?_
    refine ao_b1 F3 (av_cWindow_grow (F3.cl) (F2.cl.r Cv0)) (fun h13 F4 => ?_)
    exact ao_jV F4 (av_cBook_done_b45 (F4.cl) Cv1)
theorem av_cTrip_limit {C : Nat → Prop} {v0 : Nat} {h : Hp} (c : Cl C h) : Ao (qI C h) (f_cTrip_limit v0 h) := by
  unfold f_cTrip_limit
  have F0 := Av.rf c
  exact ao_so F0
theorem av_cWindow_shrink {C : Nat → Prop} {v0 : Nat} {v1 : Int} {v2 : Int} {h : Hp} (c : Cl C h) (Cv0 : C v0) : Ao (qV C h) (f_cWindow_shrink v0 v1 v2 h) := by
  unfold f_cWindow_shrink
  have F0 := Av.rf c
  refine ao_it ?_ ?_
  · refine ao_I F0 Cv0 (fun h1 F1 => ?_)
    refine ao_I F1 Cv0 (fun h2 F2 => ?_)
    refine ao_I F2 Cv0 (fun h3 F3 => ?_)
    exact ao_so F3
  · exact ao_so F0
theorem av_cBook_persists_b60 {C : Nat → Prop} {k34 : Nat → Nat → Int → Int → Int → Hp → Option (Int × Hp)} (hk34 : ∀ (v0 : Nat) (v1 : Nat) (v3 : Int) (v4 : Int) (v5 : Int) (h : Hp), Cl C h → Ao (qI C h) (k34 v0 v1 v3 v4 v5 h)) {v0 : Nat} {v1 : Nat} {v3 : Int} {v5 : Int} {s0 : Int} {h : Hp} (c : Cl C h) : Ao (qI C h) (f_cBook_persists_b60 k34 v0 v1 v3 v5 s0 h) := by
  unfold f_cBook_persists_b60
  have F0 := Av.rf c
  exact ao_jI F0 (hk34 _ _ _ _ _ _ (F0.cl))
theorem av_cBook_persists_b59 {C : Nat → Prop} {k34 : Nat → Nat → Int → Int → Int → Hp → Option (Int × Hp)} (hk34 : ∀ (v0 : Nat) (v1 : Nat) (v3 : Int) (v4 : Int) (v5 : Int) (h : Hp), Cl C h → Ao (qI C h) (k34 v0 v1 v3 v4 v5 h)) {v0 : Nat} {v1 : Nat} {v3 : Int} {v5 : Int} {h : Hp} (c : Cl C h) : Ao (qI C h) (f_cBook_persists_b59 k34 v0 v1 v3 v5 h) := by
  unfold f_cBook_persists_b59
  have F0 := Av.rf c
  exact ao_jI F0 (av_cBook_persists_b60 hk34 (F0.cl))
theorem av_cBook_persists_b34 {C : Nat → Prop} {k34 : Nat → Nat → Int → Int → Int → Hp → Option (Int × Hp)} (hk34 : ∀ (v0 : Nat) (v1 : Nat) (v3 : Int) (v4 : Int) (v5 : Int) (h : Hp), Cl C h → Ao (qI C h) (k34 v0 v1 v3 v4 v5 h)) {v0 : Nat} {v1 : Nat} {v3 : Int} {v4 : Int} {v5 : Int} {h : Hp} (c : Cl C h) : Ao (qI C h) (f_cBook_persists_b34 k34 v0 v1 v3 v4 v5 h) := by
  unfold f_cBook_persists_b34
  have F0 := Av.rf c
  refine ao_it ?_ ?_
  · refine ao_it ?_ ao_no
    exact ao_so F0
  · refine ao_it ?_ ?_
    · exact ao_jI F0 (av_cBook_persists_b59 hk34 (F0.cl))
    · refine ao_it ao_no ?_
      refine ao_b2 F0 (av_cSpace_state (F0.cl)) (fun r13 h11 F1 => ?_)
      refine ao_it ?_ ?_
      · exact ao_jI F1 (av_cBook_persists_b59 hk34 (F1.cl))
      · exact ao_jI F1 (av_cBook_persists_b60 hk34 (F1.cl))
theorem av_cBook_persists_b34_lp {C : Nat → Prop} (n : Nat) : ∀ {v0 : Nat} {v1 : Nat} {v3 : Int} {v4 : Int} {v5 : Int} {h : Hp}, Cl C h → Ao (qI C h) (f_cBook_persists_b34_lp n v0 v1 v3 v4 v5 h) := by
  induction n with
  | zero => intros; exact ao_no
  | succ n ih => intro v0 v1 v3 v4 v5 h c; exact av_cBook_persists_b34 (fun _ _ _ _ _ h => ih) c
theorem av_cBook_persists {C : Nat → Prop} {v0 : Nat} {v1 : Nat} {v2 : Int} {v3 : Int} {h : Hp} (c : Cl C h) : Ao (qI C h) (f_cBook_persists v0 v1 v2 v3 h) := by
  unfold f_cBook_persists
  have F0 := Av.rf c
  refine ao_it ao_no ?_
  refine ao_it ao_no ?_
  refine ao_it ?_ ao_no
  refine ao_it ?_ ao_no
  refine ao_it ao_no ?_
  refine ao_b2 F0 (av_cTrip_patience (F0.cl)) (fun r8 h6 F1 => ?_)
  refine ao_it ?_ ?_
  · exact ao_jI F1 (av_cBook_persists_b34_lp FU (F1.cl))
  · exact ao_so F1
theorem av_cWindow_collapse {C : Nat → Prop} {v0 : Nat} {h : Hp} (c : Cl C h) (Cv0 : C v0) : Ao (qV C h) (f_cWindow_collapse v0 h) := by
  unfold f_cWindow_collapse
  have F0 := Av.rf c
  refine ao_I F0 Cv0 (fun h1 F1 => ?_)
  refine ao_I F1 Cv0 (fun h2 F2 => ?_)
  exact ao_so F2
theorem av_cBook_losses_b242 {C : Nat → Prop} {v0 : Nat} {v2 : Nat} {v5 : Int} {v6 : Int} {v7 : Int} {h : Hp} (c : Cl C h) (Cv0 : C v0) : Ao (qI C h) (f_cBook_losses_b242 v0 v2 v5 v6 v7 h) := by
  unfold f_cBook_losses_b242
  have F0 := Av.rf c
  refine ao_it ?_ ?_
  · refine ao_it ?_ ao_no
    exact ao_so F0
  · refine ao_b2 F0 (av_cBook_persists (F0.cl)) (fun r44 h42 F1 => ?_)
    refine ao_it ?_ ?_
    · refine ao_it ?_ ao_no
      exact ao_so F1
    · refine ao_it ao_no ?_
      refine ao_b1 F1 (av_cWindow_collapse (F1.cl) (F1.cl.r Cv0)) (fun h47 F2 => ?_)
      refine ao_it ?_ ao_no
      exact ao_so F2
theorem av_cBook_losses_b218 {C : Nat → Prop} {k38 : Nat → Nat → Int → Int → Int → Int → Int → Int → Hp → Option (Int × Hp)} (hk38 : ∀ (v0 : Nat) (v2 : Nat) (v3 : Int) (v4 : Int) (v5 : Int) (v6 : Int) (v7 : Int) (v8 : Int) (h : Hp), Cl C h → C v0 → C v2 → Ao (qI C h) (k38 v0 v2 v3 v4 v5 v6 v7 v8 h)) {v0 : Nat} {v2 : Nat} {v3 : Int} {v4 : Int} {v5 : Int} {v6 : Int} {v7 : Int} {v8 : Int} {h : Hp} (c : Cl C h) (Cv0 : C v0) (Cv2 : C v2) : Ao (qI C h) (f_cBook_losses_b218 k38 v0 v2 v3 v4 v5 v6 v7 v8 h) := by
  unfold f_cBook_losses_b218
  have F0 := Av.rf c
  exact ao_jI F0 (hk38 _ _ _ _ _ _ _ _ _ (F0.cl) Cv0 Cv2)
theorem av_cBook_losses_b195 {C : Nat → Prop} {k38 : Nat → Nat → Int → Int → Int → Int → Int → Int → Hp → Option (Int × Hp)} (hk38 : ∀ (v0 : Nat) (v2 : Nat) (v3 : Int) (v4 : Int) (v5 : Int) (v6 : Int) (v7 : Int) (v8 : Int) (h : Hp), Cl C h → C v0 → C v2 → Ao (qI C h) (k38 v0 v2 v3 v4 v5 v6 v7 v8 h)) {v0 : Nat} {v2 : Nat} {v3 : Int} {v4 : Int} {v5 : Int} {v6 : Int} {v7 : Int} {v8 : Int} {h : Hp} (c : Cl C h) (Cv0 : C v0) (Cv2 : C v2) : Ao (qI C h) (f_cBook_losses_b195 k38 v0 v2 v3 v4 v5 v6 v7 v8 h) := by
  unfold f_cBook_losses_b195
  have F0 := Av.rf c
  exact ao_jI F0 (av_cBook_losses_b218 hk38 (F0.cl) Cv0 Cv2)
theorem av_cBook_losses_b189 {C : Nat → Prop} {k38 : Nat → Nat → Int → Int → Int → Int → Int → Int → Hp → Option (Int × Hp)} (hk38 : ∀ (v0 : Nat) (v2 : Nat) (v3 : Int) (v4 : Int) (v5 : Int) (v6 : Int) (v7 : Int) (v8 : Int) (h : Hp), Cl C h → C v0 → C v2 → Ao (qI C h) (k38 v0 v2 v3 v4 v5 v6 v7 v8 h)) {v0 : Nat} {v2 : Nat} {v3 : Int} {v4 : Int} {v7 : Int} {v8 : Int} {s0 : Int} {h : Hp} (c : Cl C h) (Cv0 : C v0) (Cv2 : C v2) : Ao (qI C h) (f_cBook_losses_b189 k38 v0 v2 v3 v4 v7 v8 s0 h) := by
  unfold f_cBook_losses_b189
  have F0 := Av.rf c
  exact ao_jI F0 (av_cBook_losses_b195 hk38 (F0.cl) Cv0 Cv2)
theorem av_cBook_losses_b128 {C : Nat → Prop} {k38 : Nat → Nat → Int → Int → Int → Int → Int → Int → Hp → Option (Int × Hp)} (hk38 : ∀ (v0 : Nat) (v2 : Nat) (v3 : Int) (v4 : Int) (v5 : Int) (v6 : Int) (v7 : Int) (v8 : Int) (h : Hp), Cl C h → C v0 → C v2 → Ao (qI C h) (k38 v0 v2 v3 v4 v5 v6 v7 v8 h)) {v0 : Nat} {v2 : Nat} {v3 : Int} {v4 : Int} {v5 : Int} {v6 : Int} {v8 : Int} {h : Hp} (c : Cl C h) (Cv0 : C v0) (Cv2 : C v2) : Ao (qI C h) (f_cBook_losses_b128 k38 v0 v2 v3 v4 v5 v6 v8 h) := by
  unfold f_cBook_losses_b128
  have F0 := Av.rf c
  refine ao_it ao_no ?_
  refine ao_it ao_no ?_
  refine ao_b1 F0 (av_cQueue_add (F0.cl) (F0.cl.r Cv2)) (fun h33 F1 => ?_)
  refine ao_b2 F1 (av_cSpace_is (F1.cl)) (fun r37 h35 F2 => ?_)
  refine ao_it ?_ ?_
  · exact ao_jI F2 (av_cBook_losses_b195 hk38 (F2.cl) Cv0 Cv2)
  · refine ao_it ao_no ?_
    refine ao_it ?_ ?_
    · exact ao_jI F2 (av_cBook_losses_b195 hk38 (F2.cl) Cv0 Cv2)
    · refine ao_it ao_no ?_
      refine ao_it ?_ ao_no
      refine ao_it ?_ ?_
      · exact ao_jI F2 (av_cBook_losses_b195 hk38 (F2.cl) Cv0 Cv2)
      · refine ao_it ?_ ?_
        · exact ao_jI F2 (av_cBook_losses_b189 hk38 (F2.cl) Cv0 Cv2)
        · exact ao_jI F2 (av_cBook_losses_b189 hk38 (F2.cl) Cv0 Cv2)
theorem av_cBook_losses_b86 {C : Nat → Prop} {k38 : Nat → Nat → Int → Int → Int → Int → Int → Int → Hp → Option (Int × Hp)} (hk38 : ∀ (v0 : Nat) (v2 : Nat) (v3 : Int) (v4 : Int) (v5 : Int) (v6 : Int) (v7 : Int) (v8 : Int) (h : Hp), Cl C h → C v0 → C v2 → Ao (qI C h) (k38 v0 v2 v3 v4 v5 v6 v7 v8 h)) {v0 : Nat} {v2 : Nat} {v3 : Int} {v4 : Int} {v5 : Int} {v6 : Int} {v8 : Int} {h : Hp} (c : Cl C h) (Cv0 : C v0) (Cv2 : C v2) : Ao (qI C h) (f_cBook_losses_b86 k38 v0 v2 v3 v4 v5 v6 v8 h) := by
  unfold f_cBook_losses_b86
  have F0 := Av.rf c
  refine ao_it ao_no ?_
  refine ao_b2 F0 (av_cSpace_settle (F0.cl) Cv2) (fun r25 h23 F1 => ?_)
  refine ao_it ao_no ?_
  refine ao_I F1 (F1.cl.r Cv0) (fun h27 F2 => ?_)
  refine ao_it ?_ ?_
  · exact ao_jI F2 (av_cBook_losses_b128 hk38 (F2.cl) Cv0 Cv2)
  · refine ao_it ao_no ?_
    refine ao_it ?_ ao_no
    refine ao_v (fun y30 => ?_)
    exact ao_jI F2 (av_cBook_losses_b128 hk38 (F2.cl) Cv0 Cv2)
theorem av_cBook_losses_b38 {C : Nat → Prop} {k38 : Nat → Nat → Int → Int → Int → Int → Int → Int → Hp → Option (Int × Hp)} (hk38 : ∀ (v0 : Nat) (v2 : Nat) (v3 : Int) (v4 : Int) (v5 : Int) (v6 : Int) (v7 : Int) (v8 : Int) (h : Hp), Cl C h → C v0 → C v2 → Ao (qI C h) (k38 v0 v2 v3 v4 v5 v6 v7 v8 h)) {v0 : Nat} {v2 : Nat} {v3 : Int} {v4 : Int} {v5 : Int} {v6 : Int} {v7 : Int} {v8 : Int} {h : Hp} (c : Cl C h) (Cv0 : C v0) (Cv2 : C v2) : Ao (qI C h) (f_cBook_losses_b38 k38 v0 v2 v3 v4 v5 v6 v7 v8 h) := by
  unfold f_cBook_losses_b38
  have F0 := Av.rf c
  refine ao_it ao_no ?_
  refine ao_it ?_ ?_
  · refine ao_it ?_ ?_
    · exact ao_jI F0 (av_cBook_losses_b242 (F0.cl) Cv0)
    · refine ao_it ao_no ?_
      refine ao_b1 F0 (av_cWindow_shrink (F0.cl) (F0.cl.r Cv0)) (fun h13 F1 => ?_)
      exact ao_jI F1 (av_cBook_losses_b242 (F1.cl) Cv0)
  · refine ao_b2 F0 (av_cSpace_state (F0.cl)) (fun r17 h15 F2 => ?_)
    refine ao_it ?_ ?_
    · refine ao_it ?_ ?_
      · exact ao_jI F2 (av_cBook_losses_b86 hk38 (F2.cl) Cv0 Cv2)
      · refine ao_it ao_no ?_
        refine ao_it ?_ ao_no
        refine ao_it ?_ ?_
        · refine ao_it ?_ ?_
          · exact ao_jI F2 (av_cBook_losses_b218 hk38 (F2.cl) Cv0 Cv2)
          · refine ao_it ?_ ao_no
            refine ao_I F2 Cv2 (fun h21 F3 => ?_)
            exact ao_jI F3 (av_cBook_losses_b218 hk38 (F3.cl) Cv0 Cv2)
        · exact ao_jI F2 (av_cBook_losses_b86 hk38 (F2.cl) Cv0 Cv2)
    · exact ao_jI F2 (av_cBook_losses_b218 hk38 (F2.cl) Cv0 Cv2)
theorem av_cBook_losses_b38_lp {C : Nat → Prop} (n : Nat) : ∀ {v0 : Nat} {v2 : Nat} {v3 : Int} {v4 : Int} {v5 : Int} {v6 : Int} {v7 : Int} {v8 : Int} {h : Hp}, Cl C h → C v0 → C v2 → Ao (qI C h) (f_cBook_losses_b38_lp n v0 v2 v3 v4 v5 v6 v7 v8 h) := by
  induction n with
  | zero => intros; exact ao_no
  | succ n ih => intro v0 v2 v3 v4 v5 v6 v7 v8 h c Cv0 Cv2; exact av_cBook_losses_b38 (fun _ _ _ _ _ _ _ _ h => ih) c Cv0 Cv2
theorem av_cBook_losses {C : Nat → Prop} {v0 : Nat} {v1 : Int} {h : Hp} (c : Cl C h) (Cv0 : C v0) : Ao (qI C h) (f_cBook_losses v0 v1 h) := by
  unfold f_cBook_losses
  have F0 := Av.rf c
  refine ao_it ao_no ?_
  refine ao_it ?_ ao_no
  refine ao_m (F0.cl.r (F0.cl.r Cv0)) (fun y3 Cy3 => ?_)
  refine ao_it ao_no ?_
  refine ao_b2 F0 (av_cTrip_limit (F0.cl)) (fun r7 h5 F2 => ?_)
  refine ao_it ao_no ?_
  refine ao_I F2 Cy3 (fun h9 F3 => ?_)
  refine ao_v (fun y10 => ?_)
  exact ao_jI F3 (av_cBook_losses_b38_lp FU (F3.cl) Cv0 Cy3)
theorem av_cBook_acknowledge_b132 {C : Nat → Prop} {k54 : Nat → Int → Int → Nat → Int → Int → Int → Int → Int → Hp → Option (Int × Hp)} (hk54 : ∀ (v0 : Nat) (v1 : Int) (v2 : Int) (v3 : Nat) (v4 : Int) (v5 : Int) (v6 : Int) (v7 : Int) (v8 : Int) (h : Hp), Cl C h → C v0 → C v3 → Ao (qI C h) (k54 v0 v1 v2 v3 v4 v5 v6 v7 v8 h)) {k81 : Nat → Int → Int → Nat → Int → Int → Int → Int → Int → Int → Hp → Option (Int × Hp)} (hk81 : ∀ (v0 : Nat) (v1 : Int) (v2 : Int) (v3 : Nat) (v4 : Int) (v5 : Int) (v6 : Int) (v7 : Int) (v8 : Int) (v9 : Int) (h : Hp), Cl C h → C v0 → C v3 → Ao (qI C h) (k81 v0 v1 v2 v3 v4 v5 v6 v7 v8 v9 h)) {v0 : Nat} {v1 : Int} {v2 : Int} {v3 : Nat} {v4 : Int} {v5 : Int} {v6 : Int} {v7 : Int} {v8 : Int} {v9 : Int} {h : Hp} (c : Cl C h) (Cv0 : C v0) (Cv3 : C v3) : Ao (qI C h) (f_cBook_acknowledge_b132 k54 k81 v0 v1 v2 v3 v4 v5 v6 v7 v8 v9 h) := by
  unfold f_cBook_acknowledge_b132
  have F0 := Av.rf c
  exact ao_jI F0 (hk81 _ _ _ _ _ _ _ _ _ _ _ (F0.cl) Cv0 Cv3)
theorem av_cBook_acknowledge_b130 {C : Nat → Prop} {k54 : Nat → Int → Int → Nat → Int → Int → Int → Int → Int → Hp → Option (Int × Hp)} (hk54 : ∀ (v0 : Nat) (v1 : Int) (v2 : Int) (v3 : Nat) (v4 : Int) (v5 : Int) (v6 : Int) (v7 : Int) (v8 : Int) (h : Hp), Cl C h → C v0 → C v3 → Ao (qI C h) (k54 v0 v1 v2 v3 v4 v5 v6 v7 v8 h)) {k81 : Nat → Int → Int → Nat → Int → Int → Int → Int → Int → Int → Hp → Option (Int × Hp)} (hk81 : ∀ (v0 : Nat) (v1 : Int) (v2 : Int) (v3 : Nat) (v4 : Int) (v5 : Int) (v6 : Int) (v7 : Int) (v8 : Int) (v9 : Int) (h : Hp), Cl C h → C v0 → C v3 → Ao (qI C h) (k81 v0 v1 v2 v3 v4 v5 v6 v7 v8 v9 h)) {v0 : Nat} {v1 : Int} {v2 : Int} {v3 : Nat} {v4 : Int} {v5 : Int} {v7 : Int} {v8 : Int} {v9 : Int} {s0 : Int} {h : Hp} (c : Cl C h) (Cv0 : C v0) (Cv3 : C v3) : Ao (qI C h) (f_cBook_acknowledge_b130 k54 k81 v0 v1 v2 v3 v4 v5 v7 v8 v9 s0 h) := by
  unfold f_cBook_acknowledge_b130
  have F0 := Av.rf c
  exact ao_jI F0 (av_cBook_acknowledge_b132 hk54 hk81 (F0.cl) Cv0 Cv3)
theorem av_cBook_acknowledge_b125 {C : Nat → Prop} {k54 : Nat → Int → Int → Nat → Int → Int → Int → Int → Int → Hp → Option (Int × Hp)} (hk54 : ∀ (v0 : Nat) (v1 : Int) (v2 : Int) (v3 : Nat) (v4 : Int) (v5 : Int) (v6 : Int) (v7 : Int) (v8 : Int) (h : Hp), Cl C h → C v0 → C v3 → Ao (qI C h) (k54 v0 v1 v2 v3 v4 v5 v6 v7 v8 h)) {k81 : Nat → Int → Int → Nat → Int → Int → Int → Int → Int → Int → Hp → Option (Int × Hp)} (hk81 : ∀ (v0 : Nat) (v1 : Int) (v2 : Int) (v3 : Nat) (v4 : Int) (v5 : Int) (v6 : Int) (v7 : Int) (v8 : Int) (v9 : Int) (h : Hp), Cl C h → C v0 → C v3 → Ao (qI C h) (k81 v0 v1 v2 v3 v4 v5 v6 v7 v8 v9 h)) {v0 : Nat} {v1 : Int} {v2 : Int} {v3 : Nat} {v4 : Int} {v5 : Int} {v7 : Int} {v8 : Int} {v9 : Int} {h : Hp} (c : Cl C h) (Cv0 : C v0) (Cv3 : C v3) : Ao (qI C h) (f_cBook_acknowledge_b125 k54 k81 v0 v1 v2 v3 v4 v5 v7 v8 v9 h) := by
  unfold f_cBook_acknowledge_b125
  have F0 := Av.rf c
  exact ao_jI F0 (av_cBook_acknowledge_b130 hk54 hk81 (F0.cl) Cv0 Cv3)
theorem av_cBook_acknowledge_b81 {C : Nat → Prop} {k54 : Nat → Int → Int → Nat → Int → Int → Int → Int → Int → Hp → Option (Int × Hp)} (hk54 : ∀ (v0 : Nat) (v1 : Int) (v2 : Int) (v3 : Nat) (v4 : Int) (v5 : Int) (v6 : Int) (v7 : Int) (v8 : Int) (h : Hp), Cl C h → C v0 → C v3 → Ao (qI C h) (k54 v0 v1 v2 v3 v4 v5 v6 v7 v8 h)) {k81 : Nat → Int → Int → Nat → Int → Int → Int → Int → Int → Int → Hp → Option (Int × Hp)} (hk81 : ∀ (v0 : Nat) (v1 : Int) (v2 : Int) (v3 : Nat) (v4 : Int) (v5 : Int) (v6 : Int) (v7 : Int) (v8 : Int) (v9 : Int) (h : Hp), Cl C h → C v0 → C v3 → Ao (qI C h) (k81 v0 v1 v2 v3 v4 v5 v6 v7 v8 v9 h)) {v0 : Nat} {v1 : Int} {v2 : Int} {v3 : Nat} {v4 : Int} {v5 : Int} {v6 : Int} {v7 : Int} {v8 : Int} {v9 : Int} {h : Hp} (c : Cl C h) (Cv0 : C v0) (Cv3 : C v3) : Ao (qI C h) (f_cBook_acknowledge_b81 k54 k81 v0 v1 v2 v3 v4 v5 v6 v7 v8 v9 h) := by
  unfold f_cBook_acknowledge_b81
  have F0 := Av.rf c
  refine ao_it ao_no ?_
  refine ao_it ?_ ao_no
  refine ao_it ?_ ?_
  · exact ao_jI F0 (hk54 _ _ _ _ _ _ _ _ _ _ (F0.cl) Cv0 Cv3)
  · refine ao_it ao_no ?_
    refine ao_b2 F0 (av_cSpace_state (F0.cl)) (fun r44 h42 F1 => ?_)
    refine ao_it ?_ ?_
    · refine ao_it ?_ ?_
      · exact ao_jI F1 (av_cBook_acknowledge_b125 hk54 hk81 (F1.cl) Cv0 Cv3)
      · refine ao_b2 F1 (av_cSpace_is (F1.cl)) (fun r47 h45 F2 => ?_)
        refine ao_it ?_ ?_
        · exact ao_jI F2 (av_cBook_acknowledge_b130 hk54 hk81 (F2.cl) Cv0 Cv3)
        · exact ao_jI F2 (av_cBook_acknowledge_b125 hk54 hk81 (F2.cl) Cv0 Cv3)
    · exact ao_jI F1 (av_cBook_acknowledge_b132 hk54 hk81 (F1.cl) Cv0 Cv3)
theorem av_cBook_acknowledge_b81_lp {C : Nat → Prop} {k54 : Nat → Int → Int → Nat → Int → Int → Int → Int → Int → Hp → Option (Int × Hp)} (hk54 : ∀ (v0 : Nat) (v1 : Int) (v2 : Int) (v3 : Nat) (v4 : Int) (v5 : Int) (v6 : Int) (v7 : Int) (v8 : Int) (h : Hp), Cl C h → C v0 → C v3 → Ao (qI C h) (k54 v0 v1 v2 v3 v4 v5 v6 v7 v8 h)) (n : Nat) : ∀ {v0 : Nat} {v1 : Int} {v2 : Int} {v3 : Nat} {v4 : Int} {v5 : Int} {v6 : Int} {v7 : Int} {v8 : Int} {v9 : Int} {h : Hp}, Cl C h → C v0 → C v3 → Ao (qI C h) (f_cBook_acknowledge_b81_lp k54 n v0 v1 v2 v3 v4 v5 v6 v7 v8 v9 h) := by
  induction n with
  | zero => intros; exact ao_no
  | succ n ih => intro v0 v1 v2 v3 v4 v5 v6 v7 v8 v9 h c Cv0 Cv3; exact av_cBook_acknowledge_b81 hk54 (fun _ _ _ _ _ _ _ _ _ _ h => ih) c Cv0 Cv3
theorem av_cBook_acknowledge_b260 {C : Nat → Prop} {k207 : Nat → Int → Nat → Int → Int → Hp → Option (Int × Hp)} (hk207 : ∀ (v0 : Nat) (v1 : Int) (v3 : Nat) (v7 : Int) (v8 : Int) (h : Hp), Cl C h → C v0 → C v3 → Ao (qI C h) (k207 v0 v1 v3 v7 v8 h)) {k230 : Nat → Int → Nat → Int → Int → Int → Hp → Option (Int × Hp)} (hk230 : ∀ (v0 : Nat) (v1 : Int) (v3 : Nat) (v7 : Int) (v8 : Int) (v9 : Int) (h : Hp), Cl C h → C v0 → C v3 → Ao (qI C h) (k230 v0 v1 v3 v7 v8 v9 h)) {v0 : Nat} {v1 : Int} {v3 : Nat} {v7 : Int} {v8 : Int} {v9 : Int} {h : Hp} (c : Cl C h) (Cv0 : C v0) (Cv3 : C v3) : Ao (qI C h) (f_cBook_acknowledge_b260 k207 k230 v0 v1 v3 v7 v8 v9 h) := by
  unfold f_cBook_acknowledge_b260
  have F0 := Av.rf c
  exact ao_jI F0 (hk230 _ _ _ _ _ _ _ (F0.cl) Cv0 Cv3)
theorem av_cBook_acknowledge_b230 {C : Nat → Prop} {k207 : Nat → Int → Nat → Int → Int → Hp → Option (Int × Hp)} (hk207 : ∀ (v0 : Nat) (v1 : Int) (v3 : Nat) (v7 : Int) (v8 : Int) (h : Hp), Cl C h → C v0 → C v3 → Ao (qI C h) (k207 v0 v1 v3 v7 v8 h)) {k230 : Nat → Int → Nat → Int → Int → Int → Hp → Option (Int × Hp)} (hk230 : ∀ (v0 : Nat) (v1 : Int) (v3 : Nat) (v7 : Int) (v8 : Int) (v9 : Int) (h : Hp), Cl C h → C v0 → C v3 → Ao (qI C h) (k230 v0 v1 v3 v7 v8 v9 h)) {v0 : Nat} {v1 : Int} {v3 : Nat} {v7 : Int} {v8 : Int} {v9 : Int} {h : Hp} (c : Cl C h) (Cv0 : C v0) (Cv3 : C v3) : Ao (qI C h) (f_cBook_acknowledge_b230 k207 k230 v0 v1 v3 v7 v8 v9 h) := by
  unfold f_cBook_acknowledge_b230
  have F0 := Av.rf c
  refine ao_it ao_no ?_
  refine ao_it ?_ ao_no
  refine ao_it ?_ ?_
  · exact ao_jI F0 (hk207 _ _ _ _ _ _ (F0.cl) Cv0 Cv3)
  · refine ao_it ao_no ?_
    refine ao_b2 F0 (av_cSpace_state (F0.cl)) (fun r33 h31 F1 => ?_)
    refine ao_it ?_ ?_
    · exact ao_jI F1 (av_cBook_acknowledge_b260 hk207 hk230 (F1.cl) Cv0 Cv3)
    · refine ao_b1 F1 (av_cBook_done (F1.cl) Cv0 Cv3) (fun h34 F2 => ?_)
      exact ao_jI F2 (av_cBook_acknowledge_b260 hk207 hk230 (F2.cl) Cv0 Cv3)
theorem av_cBook_acknowledge_b230_lp {C : Nat → Prop} {k207 : Nat → Int → Nat → Int → Int → Hp → Option (Int × Hp)} (hk207 : ∀ (v0 : Nat) (v1 : Int) (v3 : Nat) (v7 : Int) (v8 : Int) (h : Hp), Cl C h → C v0 → C v3 → Ao (qI C h) (k207 v0 v1 v3 v7 v8 h)) (n : Nat) : ∀ {v0 : Nat} {v1 : Int} {v3 : Nat} {v7 : Int} {v8 : Int} {v9 : Int} {h : Hp}, Cl C h → C v0 → C v3 → Ao (qI C h) (f_cBook_acknowledge_b230_lp k207 n v0 v1 v3 v7 v8 v9 h) := by
  induction n with
  | zero => intros; exact ao_no
  | succ n ih => intro v0 v1 v3 v7 v8 v9 h c Cv0 Cv3; exact av_cBook_acknowledge_b230 hk207 (fun _ _ _ _ _ _ h => ih) c Cv0 Cv3
theorem av_cBook_acknowledge_b207 {C : Nat → Prop} {k207 : Nat → Int → Nat → Int → Int → Hp → Option (Int × Hp)} (hk207 : ∀ (v0 : Nat) (v1 : Int) (v3 : Nat) (v7 : Int) (v8 : Int) (h : Hp), Cl C h → C v0 → C v3 → Ao (qI C h) (k207 v0 v1 v3 v7 v8 h)) {v0 : Nat} {v1 : Int} {v3 : Nat} {v7 : Int} {v8 : Int} {h : Hp} (c : Cl C h) (Cv0 : C v0) (Cv3 : C v3) : Ao (qI C h) (f_cBook_acknowledge_b207 k207 v0 v1 v3 v7 v8 h) := by
  unfold f_cBook_acknowledge_b207
  have F0 := Av.rf c
  refine ao_it ?_ ?_
  · refine ao_b2 F0 (av_cBook_losses (F0.cl) Cv0) (fun r22 h20 F1 => ?_)
    refine ao_I F1 Cv0 (fun h23 F2 => ?_)
    exact ao_so F2
  · refine ao_it ao_no ?_
    refine ao_it ?_ ao_no
    refine ao_it ao_no ?_
    refine ao_v (fun y27 => ?_)
    exact ao_jI F0 (av_cBook_acknowledge_b230_lp hk207 FU (F0.cl) Cv0 Cv3)
theorem av_cBook_acknowledge_b207_lp {C : Nat → Prop} (n : Nat) : ∀ {v0 : Nat} {v1 : Int} {v3 : Nat} {v7 : Int} {v8 : Int} {h : Hp}, Cl C h → C v0 → C v3 → Ao (qI C h) (f_cBook_acknowledge_b207_lp n v0 v1 v3 v7 v8 h) := by
  induction n with
  | zero => intros; exact ao_no
  | succ n ih => intro v0 v1 v3 v7 v8 h c Cv0 Cv3; exact av_cBook_acknowledge_b207 (fun _ _ _ _ _ h => ih) c Cv0 Cv3
theorem av_cBook_acknowledge_b199 {C : Nat → Prop} {v0 : Nat} {v1 : Int} {v3 : Nat} {v7 : Int} {h : Hp} (c : Cl C h) (Cv0 : C v0) (Cv3 : C v3) : Ao (qI C h) (f_cBook_acknowledge_b199 v0 v1 v3 v7 h) := by
  unfold f_cBook_acknowledge_b199
  have F0 := Av.rf c
  refine ao_v (fun y19 => ?_)
  exact ao_jI F0 (av_cBook_acknowledge_b207_lp FU (F0.cl) Cv0 Cv3)
theorem av_cBook_acknowledge_b196 {C : Nat → Prop} {v0 : Nat} {v1 : Int} {v3 : Nat} {v7 : Int} {s0 : Nat} {s1 : Int} {s2 : Int} {s3 : Int} {h : Hp} (c : Cl C h) (Cv0 : C v0) (Cv3 : C v3) (Cs0 : C s0) : Ao (qI C h) (f_cBook_acknowledge_b196 v0 v1 v3 v7 s0 s1 s2 s3 h) := by
  unfold f_cBook_acknowledge_b196
  have F0 := Av.rf c
  refine ao_it ao_no ?_
  refine ao_b1 F0 (av_cTrip_sample (F0.cl) Cs0) (fun h37 F1 => ?_)
  exact ao_jI F1 (av_cBook_acknowledge_b199 (F1.cl) Cv0 Cv3)
theorem av_cBook_acknowledge_b54 {C : Nat → Prop} {k54 : Nat → Int → Int → Nat → Int → Int → Int → Int → Int → Hp → Option (Int × Hp)} (hk54 : ∀ (v0 : Nat) (v1 : Int) (v2 : Int) (v3 : Nat) (v4 : Int) (v5 : Int) (v6 : Int) (v7 : Int) (v8 : Int) (h : Hp), Cl C h → C v0 → C v3 → Ao (qI C h) (k54 v0 v1 v2 v3 v4 v5 v6 v7 v8 h)) {v0 : Nat} {v1 : Int} {v2 : Int} {v3 : Nat} {v4 : Int} {v5 : Int} {v6 : Int} {v7 : Int} {v8 : Int} {h : Hp} (c : Cl C h) (Cv0 : C v0) (Cv3 : C v3) : Ao (qI C h) (f_cBook_acknowledge_b54 k54 v0 v1 v2 v3 v4 v5 v6 v7 v8 h) := by
  unfold f_cBook_acknowledge_b54
  have F0 := Av.rf c
  refine ao_it ?_ ?_
  · refine ao_it ?_ ?_
    · refine ao_it ?_ ?_
      · exact ao_jI F0 (av_cBook_acknowledge_b199 (F0.cl) Cv0 Cv3)
      · refine ao_it ?_ ?_
        · exact ao_jI F0 (av_cBook_acknowledge_b199 (F0.cl) Cv0 Cv3)
        · refine ao_it ao_no ?_
          refine ao_it ao_no ?_
          refine ao_it ?_ ao_no
          refine ao_it ?_ ?_
          · exact ao_jI F0 (av_cBook_acknowledge_b196 (F0.cl) Cv0 Cv3 (F0.cl.r Cv0))
          · exact ao_jI F0 (av_cBook_acknowledge_b196 (F0.cl) Cv0 Cv3 (F0.cl.r Cv0))
    · exact ao_so F0
  · refine ao_it ao_no ?_
    refine ao_it ?_ ao_no
    refine ao_it ao_no ?_
    refine ao_v (fun y18 => ?_)
    exact ao_jI F0 (av_cBook_acknowledge_b81_lp hk54 FU (F0.cl) Cv0 Cv3)
theorem av_cBook_acknowledge_b54_lp {C : Nat → Prop} (n : Nat) : ∀ {v0 : Nat} {v1 : Int} {v2 : Int} {v3 : Nat} {v4 : Int} {v5 : Int} {v6 : Int} {v7 : Int} {v8 : Int} {h : Hp}, Cl C h → C v0 → C v3 → Ao (qI C h) (f_cBook_acknowledge_b54_lp n v0 v1 v2 v3 v4 v5 v6 v7 v8 h) := by
  induction n with
  | zero => intros; exact ao_no
  | succ n ih => intro v0 v1 v2 v3 v4 v5 v6 v7 v8 h c Cv0 Cv3; exact av_cBook_acknowledge_b54 (fun _ _ _ _ _ _ _ _ _ h => ih) c Cv0 Cv3
theorem av_cBook_acknowledge_b43 {C : Nat → Prop} {v0 : Nat} {v1 : Int} {v2 : Int} {v3 : Nat} {v4 : Int} {s0 : Int} {h : Hp} (c : Cl C h) (Cv0 : C v0) (Cv3 : C v3) : Ao (qI C h) (f_cBook_acknowledge_b43 v0 v1 v2 v3 v4 s0 h) := by
  unfold f_cBook_acknowledge_b43
  have F0 := Av.rf c
  exact ao_jI F0 (av_cBook_acknowledge_b54_lp FU (F0.cl) Cv0 Cv3)
theorem av_cBook_acknowledge {C : Nat → Prop} {v0 : Nat} {v1 : Int} {v2 : Int} {h : Hp} (c : Cl C h) (Cv0 : C v0) : Ao (qI C h) (f_cBook_acknowledge v0 v1 v2 h) := by
  unfold f_cBook_acknowledge
  have F0 := Av.rf c
  refine ao_it ao_no ?_
  refine ao_it ?_ ao_no
  refine ao_m (F0.cl.r (F0.cl.r Cv0)) (fun y3 Cy3 => ?_)
  refine ao_it ao_no ?_
  refine ao_it ?_ ao_no
  refine ao_v (fun y6 => ?_)
  refine ao_it ao_no ?_
  refine ao_I F0 Cy3 (fun h8 F3 => ?_)
  refine ao_b2 F3 (av_cSpace_state (F3.cl)) (fun r11 h9 F4 => ?_)
  refine ao_it ?_ ?_
  · exact ao_jI F4 (av_cBook_acknowledge_b43 (F4.cl) Cv0 Cy3)
  · exact ao_jI F4 (av_cBook_acknowledge_b43 (F4.cl) Cv0 Cy3)
theorem av_cQueue_next {C : Nat → Prop} {v0 : Nat} {h : Hp} (c : Cl C h) (Cv0 : C v0) : Ao (qI C h) (f_cQueue_next v0 h) := by
  unfold f_cQueue_next
  have F0 := Av.rf c
  refine ao_it ?_ ?_
  · refine ao_I F0 Cv0 (fun h1 F1 => ?_)
    refine ao_it ao_no ?_
    refine ao_it ?_ ao_no
    exact ao_so F1
  · exact ao_so F0
theorem av_cCargo_end {C : Nat → Prop} {v0 : Nat} {v1 : Int} {h : Hp} (c : Cl C h) : Ao (qI C h) (f_cCargo_end v0 v1 h) := by
  unfold f_cCargo_end
  have F0 := Av.rf c
  refine ao_it ?_ ?_
  · exact ao_so F0
  · refine ao_it ao_no ?_
    refine ao_it ?_ ao_no
    exact ao_so F0
theorem av_cCrypto_gone_b43 {C : Nat → Prop} {k4 : Nat → Int → Int → Int → Int → Hp → Option (Hp)} (hk4 : ∀ (v0 : Nat) (v1 : Int) (v3 : Int) (v4 : Int) (v5 : Int) (h : Hp), Cl C h → C v0 → Ao (qV C h) (k4 v0 v1 v3 v4 v5 h)) {v0 : Nat} {v1 : Int} {v3 : Int} {v4 : Int} {v5 : Int} {h : Hp} (c : Cl C h) (Cv0 : C v0) : Ao (qV C h) (f_cCrypto_gone_b43 k4 v0 v1 v3 v4 v5 h) := by
  unfold f_cCrypto_gone_b43
  have F0 := Av.rf c
  exact ao_jV F0 (hk4 _ _ _ _ _ _ (F0.cl) Cv0)
theorem av_cCrypto_gone_b42 {C : Nat → Prop} {k4 : Nat → Int → Int → Int → Int → Hp → Option (Hp)} (hk4 : ∀ (v0 : Nat) (v1 : Int) (v3 : Int) (v4 : Int) (v5 : Int) (h : Hp), Cl C h → C v0 → Ao (qV C h) (k4 v0 v1 v3 v4 v5 h)) {v0 : Nat} {v1 : Int} {v3 : Int} {v4 : Int} {v5 : Int} {s0 : Nat} {s1 : Int} {s2 : Int} {h : Hp} (c : Cl C h) (Cv0 : C v0) (Cs0 : C s0) : Ao (qV C h) (f_cCrypto_gone_b42 k4 v0 v1 v3 v4 v5 s0 s1 s2 h) := by
  unfold f_cCrypto_gone_b42
  have F0 := Av.rf c
  refine ao_it ao_no ?_
  refine ao_it ?_ ao_no
  refine ao_I F0 Cs0 (fun h6 F1 => ?_)
  exact ao_jV F1 (av_cCrypto_gone_b43 hk4 (F1.cl) Cv0)
theorem av_cCrypto_gone_b4 {C : Nat → Prop} {k4 : Nat → Int → Int → Int → Int → Hp → Option (Hp)} (hk4 : ∀ (v0 : Nat) (v1 : Int) (v3 : Int) (v4 : Int) (v5 : Int) (h : Hp), Cl C h → C v0 → Ao (qV C h) (k4 v0 v1 v3 v4 v5 h)) {v0 : Nat} {v1 : Int} {v3 : Int} {v4 : Int} {v5 : Int} {h : Hp} (c : Cl C h) (Cv0 : C v0) : Ao (qV C h) (f_cCrypto_gone_b4 k4 v0 v1 v3 v4 v5 h) := by
  unfold f_cCrypto_gone_b4
  have F0 := Av.rf c
  refine ao_it ?_ ?_
  · exact ao_so F0
  · refine ao_it ao_no ?_
    refine ao_it ?_ ao_no
    refine ao_it ?_ ?_
    · exact ao_jV F0 (av_cCrypto_gone_b43 hk4 (F0.cl) Cv0)
    · refine ao_it ?_ ?_
      · exact ao_jV F0 (av_cCrypto_gone_b42 hk4 (F0.cl) Cv0 (F0.cl.r Cv0))
      · exact ao_jV F0 (av_cCrypto_gone_b42 hk4 (F0.cl) Cv0 (F0.cl.r Cv0))
theorem av_cCrypto_gone_b4_lp {C : Nat → Prop} (n : Nat) : ∀ {v0 : Nat} {v1 : Int} {v3 : Int} {v4 : Int} {v5 : Int} {h : Hp}, Cl C h → C v0 → Ao (qV C h) (f_cCrypto_gone_b4_lp n v0 v1 v3 v4 v5 h) := by
  induction n with
  | zero => intros; exact ao_no
  | succ n ih => intro v0 v1 v3 v4 v5 h c Cv0; exact av_cCrypto_gone_b4 (fun _ _ _ _ _ h => ih) c Cv0
theorem av_cCrypto_gone {C : Nat → Prop} {v0 : Nat} {v1 : Int} {v3 : Int} {v4 : Int} {h : Hp} (c : Cl C h) (Cv0 : C v0) : Ao (qV C h) (f_cCrypto_gone v0 v1 v3 v4 h) := by
  unfold f_cCrypto_gone
  have F0 := Av.rf c
  refine ao_v (fun y1 => ?_)
  exact ao_jV F0 (av_cCrypto_gone_b4_lp FU (F0.cl) Cv0)
theorem av_cSpans_release {C : Nat → Prop} {v0 : Nat} {v1 : Int} {h : Hp} (c : Cl C h) (Cv0 : C v0) : Ao (qV C h) (f_cSpans_release v0 v1 h) := by
  unfold f_cSpans_release
  have F0 := Av.rf c
  refine ao_it ao_no ?_
  refine ao_it ?_ ao_no
  refine ao_I F0 (F0.cl.r Cv0) (fun h3 F1 => ?_)
  refine ao_I F1 Cv0 (fun h4 F2 => ?_)
  exact ao_so F2
theorem av_cSpans_make_b102 {C : Nat → Prop} {v0 : Nat} {v1 : Int} {v2 : Int} {v3 : Int} {v4 : Int} {h : Hp} (c : Cl C h) (Cv0 : C v0) : Ao (qI C h) (f_cSpans_make_b102 v0 v1 v2 v3 v4 h) := by
  unfold f_cSpans_make_b102
  have F0 := Av.rf c
  refine ao_it ao_no ?_
  refine ao_it ?_ ao_no
  refine ao_I F0 (F0.cl.r Cv0) (fun h22 F1 => ?_)
  refine ao_it ao_no ?_
  refine ao_it ?_ ao_no
  refine ao_I F1 (F1.cl.r Cv0) (fun h25 F2 => ?_)
  refine ao_it ao_no ?_
  refine ao_it ?_ ao_no
  refine ao_I F2 (F2.cl.r Cv0) (fun h28 F3 => ?_)
  exact ao_so F3
theorem av_cSpans_make_b89 {C : Nat → Prop} {v0 : Nat} {v1 : Int} {v2 : Int} {v3 : Int} {h : Hp} (c : Cl C h) (Cv0 : C v0) : Ao (qI C h) (f_cSpans_make_b89 v0 v1 v2 v3 h) := by
  unfold f_cSpans_make_b89
  have F0 := Av.rf c
  refine ao_I F0 Cv0 (fun h18 F1 => ?_)
  refine ao_v (fun y19 => ?_)
  exact ao_jI F1 (av_cSpans_make_b102 (F1.cl) Cv0)
theorem av_cSpans_make {C : Nat → Prop} {v0 : Nat} {v1 : Int} {v2 : Int} {v3 : Int} {h : Hp} (c : Cl C h) (Cv0 : C v0) : Ao (qI C h) (f_cSpans_make v0 v1 v2 v3 h) := by
  unfold f_cSpans_make
  have F0 := Av.rf c
  refine ao_v (fun y1 => ?_)
  refine ao_it ?_ ?_
  · refine ao_it ao_no ?_
    refine ao_it ?_ ?_
    · exact ao_jI F0 (av_cSpans_make_b89 (F0.cl) Cv0)
    · refine ao_b2R F0 (av_jArrays_copyOf_AII (F0.cl)) (fun r5 h3 F2 Cr5 => ?_)
      refine ao_R F2 Cv0 Cr5 (fun h6 F3 => ?_)
      refine ao_b2R F3 (av_jArrays_copyOf_AII (F3.cl)) (fun r9 h7 F4 Cr9 => ?_)
      refine ao_R F4 Cv0 Cr9 (fun h10 F5 => ?_)
      refine ao_b2R F5 (av_jArrays_copyOf_AII (F5.cl)) (fun r13 h11 F6 Cr13 => ?_)
      refine ao_R F6 Cv0 Cr13 (fun h14 F7 => ?_)
      exact ao_jI F7 (av_cSpans_make_b89 (F7.cl) Cv0)
  · refine ao_it ao_no ?_
    refine ao_it ?_ ao_no
    refine ao_I F0 Cv0 (fun h17 F8 => ?_)
    exact ao_jI F8 (av_cSpans_make_b102 (F8.cl) Cv0)
theorem av_cSpans_add_b113 {C : Nat → Prop} {v0 : Nat} {v1 : Int} {v4 : Int} {v5 : Int} {v6 : Int} {v7 : Int} {h : Hp} (c : Cl C h) (Cv0 : C v0) : Ao (qI C h) (f_cSpans_add_b113 v0 v1 v4 v5 v6 v7 h) := by
  unfold f_cSpans_add_b113
  have F0 := Av.rf c
  refine ao_b2 F0 (av_cSpans_make (F0.cl) Cv0) (fun r20 h18 F1 => ?_)
  refine ao_it ?_ ?_
  · refine ao_it ao_no ?_
    refine ao_it ?_ ao_no
    refine ao_I F1 (F1.cl.r Cv0) (fun h23 F2 => ?_)
    exact ao_so F2
  · exact ao_so F1
theorem av_cSpans_add_b45 {C : Nat → Prop} {k45 : Nat → Int → Int → Int → Int → Int → Hp → Option (Int × Hp)} (hk45 : ∀ (v0 : Nat) (v1 : Int) (v4 : Int) (v5 : Int) (v6 : Int) (v7 : Int) (h : Hp), Cl C h → C v0 → Ao (qI C h) (k45 v0 v1 v4 v5 v6 v7 h)) {v0 : Nat} {v1 : Int} {v4 : Int} {v5 : Int} {v6 : Int} {v7 : Int} {h : Hp} (c : Cl C h) (Cv0 : C v0) : Ao (qI C h) (f_cSpans_add_b45 k45 v0 v1 v4 v5 v6 v7 h) := by
  unfold f_cSpans_add_b45
  have F0 := Av.rf c
  refine ao_it ?_ ?_
  · exact ao_jI F0 (av_cSpans_add_b113 (F0.cl) Cv0)
  · refine ao_it ao_no ?_
    refine ao_it ?_ ao_no
    refine ao_it ?_ ?_
    · exact ao_jI F0 (av_cSpans_add_b113 (F0.cl) Cv0)
    · refine ao_it ?_ ao_no
      refine ao_v (fun y9 => ?_)
      refine ao_it ao_no ?_
      refine ao_it ?_ ao_no
      refine ao_v (fun y12 => ?_)
      refine ao_it ao_no ?_
      refine ao_it ?_ ao_no
      refine ao_v (fun y15 => ?_)
      refine ao_b1 F0 (av_cSpans_release (F0.cl) Cv0) (fun h16 F4 => ?_)
      exact ao_jI F4 (hk45 _ _ _ _ _ _ _ (F4.cl) Cv0)
theorem av_cSpans_add_b45_lp {C : Nat → Prop} (n : Nat) : ∀ {v0 : Nat} {v1 : Int} {v4 : Int} {v5 : Int} {v6 : Int} {v7 : Int} {h : Hp}, Cl C h → C v0 → Ao (qI C h) (f_cSpans_add_b45_lp n v0 v1 v4 v5 v6 v7 h) := by
  induction n with
  | zero => intros; exact ao_no
  | succ n ih => intro v0 v1 v4 v5 v6 v7 h c Cv0; exact av_cSpans_add_b45 (fun _ _ _ _ _ _ h => ih) c Cv0
theorem av_cSpans_add_b12 {C : Nat → Prop} {k12 : Nat → Int → Int → Int → Int → Int → Int → Hp → Option (Int × Hp)} (hk12 : ∀ (v0 : Nat) (v1 : Int) (v2 : Int) (v4 : Int) (v5 : Int) (v6 : Int) (v7 : Int) (h : Hp), Cl C h → C v0 → Ao (qI C h) (k12 v0 v1 v2 v4 v5 v6 v7 h)) {v0 : Nat} {v1 : Int} {v2 : Int} {v4 : Int} {v5 : Int} {v6 : Int} {v7 : Int} {h : Hp} (c : Cl C h) (Cv0 : C v0) : Ao (qI C h) (f_cSpans_add_b12 k12 v0 v1 v2 v4 v5 v6 v7 h) := by
  unfold f_cSpans_add_b12
  have F0 := Av.rf c
  refine ao_it ?_ ?_
  · exact ao_jI F0 (av_cSpans_add_b45_lp FU (F0.cl) Cv0)
  · refine ao_it ao_no ?_
    refine ao_it ?_ ao_no
    refine ao_it ?_ ?_
    · exact ao_jI F0 (av_cSpans_add_b45_lp FU (F0.cl) Cv0)
    · refine ao_it ao_no ?_
      refine ao_it ?_ ao_no
      refine ao_v (fun y5 => ?_)
      exact ao_jI F0 (hk12 _ _ _ _ _ _ _ _ (F0.cl) Cv0)
theorem av_cSpans_add_b12_lp {C : Nat → Prop} (n : Nat) : ∀ {v0 : Nat} {v1 : Int} {v2 : Int} {v4 : Int} {v5 : Int} {v6 : Int} {v7 : Int} {h : Hp}, Cl C h → C v0 → Ao (qI C h) (f_cSpans_add_b12_lp n v0 v1 v2 v4 v5 v6 v7 h) := by
  induction n with
  | zero => intros; exact ao_no
  | succ n ih => intro v0 v1 v2 v4 v5 v6 v7 h c Cv0; exact av_cSpans_add_b12 (fun _ _ _ _ _ _ _ h => ih) c Cv0
theorem av_cSpans_add {C : Nat → Prop} {v0 : Nat} {v1 : Int} {v2 : Int} {v3 : Int} {h : Hp} (c : Cl C h) (Cv0 : C v0) : Ao (qI C h) (f_cSpans_add v0 v1 v2 v3 h) := by
  unfold f_cSpans_add
  have F0 := Av.rf c
  exact ao_jI F0 (av_cSpans_add_b12_lp FU (F0.cl) Cv0)
theorem av_cSpans_trim_b55 {C : Nat → Prop} {v0 : Nat} {v1 : Int} {v2 : Int} {h : Hp} (c : Cl C h) (Cv0 : C v0) : Ao (qV C h) (f_cSpans_trim_b55 v0 v1 v2 h) := by
  unfold f_cSpans_trim_b55
  have F0 := Av.rf c
  refine ao_it ao_no ?_
  refine ao_it ?_ ao_no
  refine ao_I F0 (F0.cl.r Cv0) (fun h18 F1 => ?_)
  exact ao_so F1
theorem av_cSpans_trim {C : Nat → Prop} {v0 : Nat} {v1 : Int} {v2 : Int} {v3 : Int} {h : Hp} (c : Cl C h) (Cv0 : C v0) : Ao (qV C h) (f_cSpans_trim v0 v1 v2 v3 h) := by
  unfold f_cSpans_trim
  have F0 := Av.rf c
  refine ao_it ao_no ?_
  refine ao_it ?_ ao_no
  refine ao_it ?_ ?_
  · refine ao_it ao_no ?_
    refine ao_it ?_ ao_no
    refine ao_it ?_ ?_
    · exact ao_jV F0 (av_cSpans_trim_b55 (F0.cl) Cv0)
    · refine ao_it ?_ ao_no
      refine ao_it ao_no ?_
      refine ao_it ?_ ao_no
      refine ao_b2 F0 (av_cSpans_make (F0.cl) Cv0) (fun r10 h8 F1 => ?_)
      refine ao_it ao_no ?_
      refine ao_it ?_ ao_no
      refine ao_I F1 (F1.cl.r Cv0) (fun h13 F2 => ?_)
      exact ao_jV F2 (av_cSpans_trim_b55 (F2.cl) Cv0)
  · refine ao_it ?_ ao_no
    refine ao_I F0 (F0.cl.r Cv0) (fun h15 F3 => ?_)
    exact ao_so F3
