/-! frames (gen/av.py) -/
theorem av_mStreams_goneStream_b84 {C : Nat → Prop} {k48 : Nat → Int → Int → Int → Int → Int → Int → Int → Int → Hp → Option (Hp)} (hk48 : ∀ (v0 : Nat) (v1 : Int) (v2 : Int) (v4 : Int) (v5 : Int) (v7 : Int) (v8 : Int) (v9 : Int) (v10 : Int) (h : Hp), Cl C h → C v0 → Ao (qV C h) (k48 v0 v1 v2 v4 v5 v7 v8 v9 v10 h)) {v0 : Nat} {v1 : Int} {v2 : Int} {v4 : Int} {v5 : Int} {v7 : Int} {v8 : Int} {v9 : Int} {v10 : Int} {h : Hp} (c : Cl C h) (Cv0 : C v0) : Ao (qV C h) (f_mStreams_goneStream_b84 k48 v0 v1 v2 v4 v5 v7 v8 v9 v10 h) := by
  unfold f_mStreams_goneStream_b84
  have F0 := Av.rf c
  refine ao_it ao_no ?_
  refine ao_it ?_ ao_no
  refine ao_v (fun y21 => ?_)
  exact ao_jV F0 (hk48 _ _ _ _ _ _ _ _ _ _ (F0.cl) Cv0)
theorem av_mStreams_goneStream_b81 {C : Nat → Prop} {k48 : Nat → Int → Int → Int → Int → Int → Int → Int → Int → Hp → Option (Hp)} (hk48 : ∀ (v0 : Nat) (v1 : Int) (v2 : Int) (v4 : Int) (v5 : Int) (v7 : Int) (v8 : Int) (v9 : Int) (v10 : Int) (h : Hp), Cl C h → C v0 → Ao (qV C h) (k48 v0 v1 v2 v4 v5 v7 v8 v9 v10 h)) {v0 : Nat} {v1 : Int} {v2 : Int} {v4 : Int} {v5 : Int} {v7 : Int} {v8 : Int} {v9 : Int} {v10 : Int} {s0 : Nat} {s1 : Int} {s2 : Int} {s3 : Int} {h : Hp} (c : Cl C h) (Cv0 : C v0) (Cs0 : C s0) : Ao (qV C h) (f_mStreams_goneStream_b81 k48 v0 v1 v2 v4 v5 v7 v8 v9 v10 s0 s1 s2 s3 h) := by
  unfold f_mStreams_goneStream_b81
  have F0 := Av.rf c
  refine ao_it ao_no ?_
  refine ao_b1 F0 (av_mStreams_remark (F0.cl) Cs0) (fun h23 F1 => ?_)
  exact ao_jV F1 (av_mStreams_goneStream_b84 hk48 (F1.cl) Cv0)
theorem av_mStreams_goneStream_b134 {C : Nat → Prop} {v0 : Nat} {v1 : Int} {v2 : Int} {h : Hp} (c : Cl C h) (Cv0 : C v0) : Ao (qV C h) (f_mStreams_goneStream_b134 v0 v1 v2 h) := by
  unfold f_mStreams_goneStream_b134
  have F0 := Av.rf c
  refine ao_b1 F0 (av_mStreams_looksOver (F0.cl) Cv0) (fun h14 F1 => ?_)
  exact ao_so F1
theorem av_mStreams_goneStream_b133 {C : Nat → Prop} {v0 : Nat} {v1 : Int} {v2 : Int} {s0 : Nat} {s1 : Int} {s2 : Int} {h : Hp} (c : Cl C h) (Cv0 : C v0) (Cs0 : C s0) : Ao (qV C h) (f_mStreams_goneStream_b133 v0 v1 v2 s0 s1 s2 h) := by
  unfold f_mStreams_goneStream_b133
  have F0 := Av.rf c
  refine ao_it ao_no ?_
  refine ao_it ?_ ao_no
  refine ao_I F0 Cs0 (fun h18 F1 => ?_)
  exact ao_jV F1 (av_mStreams_goneStream_b134 (F1.cl) Cv0)
theorem av_mStreams_goneStream_b48 {C : Nat → Prop} {k48 : Nat → Int → Int → Int → Int → Int → Int → Int → Int → Hp → Option (Hp)} (hk48 : ∀ (v0 : Nat) (v1 : Int) (v2 : Int) (v4 : Int) (v5 : Int) (v7 : Int) (v8 : Int) (v9 : Int) (v10 : Int) (h : Hp), Cl C h → C v0 → Ao (qV C h) (k48 v0 v1 v2 v4 v5 v7 v8 v9 v10 h)) {v0 : Nat} {v1 : Int} {v2 : Int} {v4 : Int} {v5 : Int} {v7 : Int} {v8 : Int} {v9 : Int} {v10 : Int} {h : Hp} (c : Cl C h) (Cv0 : C v0) : Ao (qV C h) (f_mStreams_goneStream_b48 k48 v0 v1 v2 v4 v5 v7 v8 v9 v10 h) := by
  unfold f_mStreams_goneStream_b48
  have F0 := Av.rf c
  refine ao_it ?_ ?_
  · refine ao_it ?_ ?_
    · exact ao_jV F0 (av_mStreams_goneStream_b134 (F0.cl) Cv0)
    · refine ao_it ao_no ?_
      refine ao_it ?_ ao_no
      refine ao_it ?_ ?_
      · exact ao_jV F0 (av_mStreams_goneStream_b134 (F0.cl) Cv0)
      · refine ao_it ?_ ?_
        · exact ao_jV F0 (av_mStreams_goneStream_b133 (F0.cl) Cv0 (F0.cl.r Cv0))
        · exact ao_jV F0 (av_mStreams_goneStream_b133 (F0.cl) Cv0 (F0.cl.r Cv0))
  · refine ao_it ao_no ?_
    refine ao_it ?_ ao_no
    refine ao_it ?_ ?_
    · exact ao_jV F0 (av_mStreams_goneStream_b84 hk48 (F0.cl) Cv0)
    · refine ao_it ?_ ?_
      · exact ao_jV F0 (av_mStreams_goneStream_b81 hk48 (F0.cl) Cv0 Cv0)
      · exact ao_jV F0 (av_mStreams_goneStream_b81 hk48 (F0.cl) Cv0 Cv0)
theorem av_mStreams_goneStream_b48_lp {C : Nat → Prop} (n : Nat) : ∀ {v0 : Nat} {v1 : Int} {v2 : Int} {v4 : Int} {v5 : Int} {v7 : Int} {v8 : Int} {v9 : Int} {v10 : Int} {h : Hp}, Cl C h → C v0 → Ao (qV C h) (f_mStreams_goneStream_b48_lp n v0 v1 v2 v4 v5 v7 v8 v9 v10 h) := by
  induction n with
  | zero => intros; exact ao_no
  | succ n ih => intro v0 v1 v2 v4 v5 v7 v8 v9 v10 h c Cv0; exact av_mStreams_goneStream_b48 (fun _ _ _ _ _ _ _ _ _ h => ih) c Cv0
theorem av_mStreams_goneStream_b45 {C : Nat → Prop} {v0 : Nat} {v1 : Int} {v2 : Int} {v4 : Int} {v5 : Int} {v7 : Int} {v8 : Int} {v9 : Int} {h : Hp} (c : Cl C h) (Cv0 : C v0) : Ao (qV C h) (f_mStreams_goneStream_b45 v0 v1 v2 v4 v5 v7 v8 v9 h) := by
  unfold f_mStreams_goneStream_b45
  have F0 := Av.rf c
  exact ao_jV F0 (av_mStreams_goneStream_b48_lp FU (F0.cl) Cv0)
theorem av_mStreams_goneStream_b19 {C : Nat → Prop} {k19 : Nat → Int → Int → Int → Int → Int → Int → Int → Int → Int → Hp → Option (Hp)} (hk19 : ∀ (v0 : Nat) (v1 : Int) (v2 : Int) (v3 : Int) (v4 : Int) (v5 : Int) (v7 : Int) (v8 : Int) (v9 : Int) (v10 : Int) (h : Hp), Cl C h → C v0 → Ao (qV C h) (k19 v0 v1 v2 v3 v4 v5 v7 v8 v9 v10 h)) {v0 : Nat} {v1 : Int} {v2 : Int} {v3 : Int} {v4 : Int} {v5 : Int} {v7 : Int} {v8 : Int} {v9 : Int} {v10 : Int} {h : Hp} (c : Cl C h) (Cv0 : C v0) : Ao (qV C h) (f_mStreams_goneStream_b19 k19 v0 v1 v2 v3 v4 v5 v7 v8 v9 v10 h) := by
  unfold f_mStreams_goneStream_b19
  have F0 := Av.rf c
  refine ao_it ?_ ?_
  · exact ao_jV F0 (av_mStreams_goneStream_b45 (F0.cl) Cv0)
  · refine ao_it ?_ ?_
    · exact ao_jV F0 (av_mStreams_goneStream_b45 (F0.cl) Cv0)
    · refine ao_it ao_no ?_
      refine ao_it ?_ ao_no
      refine ao_v (fun y9 => ?_)
      exact ao_jV F0 (hk19 _ _ _ _ _ _ _ _ _ _ _ (F0.cl) Cv0)
theorem av_mStreams_goneStream_b19_lp {C : Nat → Prop} (n : Nat) : ∀ {v0 : Nat} {v1 : Int} {v2 : Int} {v3 : Int} {v4 : Int} {v5 : Int} {v7 : Int} {v8 : Int} {v9 : Int} {v10 : Int} {h : Hp}, Cl C h → C v0 → Ao (qV C h) (f_mStreams_goneStream_b19_lp n v0 v1 v2 v3 v4 v5 v7 v8 v9 v10 h) := by
  induction n with
  | zero => intros; exact ao_no
  | succ n ih => intro v0 v1 v2 v3 v4 v5 v7 v8 v9 v10 h c Cv0; exact av_mStreams_goneStream_b19 (fun _ _ _ _ _ _ _ _ _ _ h => ih) c Cv0
theorem av_mStreams_goneStream {C : Nat → Prop} {v0 : Nat} {v1 : Int} {v2 : Int} {v3 : Int} {v4 : Int} {v5 : Int} {v7 : Int} {h : Hp} (c : Cl C h) (Cv0 : C v0) : Ao (qV C h) (f_mStreams_goneStream v0 v1 v2 v3 v4 v5 v7 h) := by
  unfold f_mStreams_goneStream
  have F0 := Av.rf c
  refine ao_b2 F0 (av_mStreams_at (F0.cl)) (fun r3 h1 F1 => ?_)
  refine ao_it ao_no ?_
  refine ao_it ?_ ao_no
  refine ao_v (fun y6 => ?_)
  exact ao_jV F1 (av_mStreams_goneStream_b19_lp FU (F1.cl) Cv0)
theorem av_mStreams_gone_b361 {C : Nat → Prop} {v0 : Nat} {v1 : Int} {v2 : Int} {v3 : Int} {v10 : Int} {h : Hp} (c : Cl C h) (Cv0 : C v0) : Ao (qV C h) (f_mStreams_gone_b361 v0 v1 v2 v3 v10 h) := by
  unfold f_mStreams_gone_b361
  have F0 := Av.rf c
  refine ao_v (fun y80 => ?_)
  refine ao_it ?_ ?_
  · exact ao_so F0
  · refine ao_it ao_no ?_
    refine ao_it ?_ ao_no
    refine ao_it ?_ ?_
    · exact ao_so F0
    · refine ao_it ?_ ao_no
      refine ao_J F0 (F0.cl.r Cv0) (fun h84 F2 => ?_)
      exact ao_so F2
theorem av_mStreams_gone_b178 {C : Nat → Prop} {v0 : Nat} {v1 : Int} {v3 : Int} {h : Hp} (c : Cl C h) (Cv0 : C v0) : Ao (qV C h) (f_mStreams_gone_b178 v0 v1 v3 h) := by
  unfold f_mStreams_gone_b178
  have F0 := Av.rf c
  refine ao_b1 F0 (av_mStreams_looksOver (F0.cl) Cv0) (fun h78 F1 => ?_)
  exact ao_so F1
theorem av_mStreams_gone_b154 {C : Nat → Prop} {v0 : Nat} {v1 : Int} {v3 : Int} {v10 : Int} {v11 : Int} {h : Hp} (c : Cl C h) (Cv0 : C v0) : Ao (qV C h) (f_mStreams_gone_b154 v0 v1 v3 v10 v11 h) := by
  unfold f_mStreams_gone_b154
  have F0 := Av.rf c
  refine ao_it ?_ ?_
  · exact ao_jV F0 (av_mStreams_gone_b178 (F0.cl) Cv0)
  · refine ao_it ao_no ?_
    refine ao_it ?_ ao_no
    refine ao_it ?_ ?_
    · exact ao_jV F0 (av_mStreams_gone_b178 (F0.cl) Cv0)
    · refine ao_it ao_no ?_
      refine ao_it ?_ ao_no
      refine ao_I F0 (F0.cl.r Cv0) (fun h77 F1 => ?_)
      exact ao_jV F1 (av_mStreams_gone_b178 (F1.cl) Cv0)
theorem av_mStreams_gone_b259 {C : Nat → Prop} {v0 : Nat} {v1 : Int} {v2 : Int} {v3 : Int} {v10 : Int} {h : Hp} (c : Cl C h) (Cv0 : C v0) : Ao (qV C h) (f_mStreams_gone_b259 v0 v1 v2 v3 v10 h) := by
  unfold f_mStreams_gone_b259
  have F0 := Av.rf c
  refine ao_v (fun y67 => ?_)
  refine ao_it ?_ ?_
  · exact ao_so F0
  · refine ao_it ao_no ?_
    refine ao_it ?_ ao_no
    refine ao_it ?_ ?_
    · exact ao_so F0
    · refine ao_it ao_no ?_
      refine ao_it ?_ ao_no
      refine ao_I F0 (F0.cl.r Cv0) (fun h72 F2 => ?_)
      exact ao_so F2
theorem av_mStreams_gone_b15 {C : Nat → Prop} {v0 : Nat} {v1 : Int} {v2 : Int} {v3 : Int} {v5 : Int} {v7 : Int} {v8 : Int} {v10 : Int} {s0 : Int} {s1 : Int} {h : Hp} (c : Cl C h) (Cv0 : C v0) : Ao (qV C h) (f_mStreams_gone_b15 v0 v1 v2 v3 v5 v7 v8 v10 s0 s1 h) := by
  unfold f_mStreams_gone_b15
  have F0 := Av.rf c
  refine ao_b2 F0 (av_mStreams_at (F0.cl)) (fun r3 h1 F1 => ?_)
  refine ao_it ?_ ?_
  · refine ao_it ?_ ?_
    · exact ao_jV F1 (av_mStreams_gone_b154 (F1.cl) Cv0)
    · refine ao_it ao_no ?_
      refine ao_it ?_ ao_no
      refine ao_it ?_ ?_
      · exact ao_jV F1 (av_mStreams_gone_b154 (F1.cl) Cv0)
      · refine ao_it ?_ ao_no
        refine ao_I F1 (F1.cl.r Cv0) (fun h9 F2 => ?_)
        exact ao_jV F2 (av_mStreams_gone_b178 (F2.cl) Cv0)
  · refine ao_it ?_ ?_
    · refine ao_it ?_ ?_
      · exact ao_so F1
      · refine ao_it ao_no ?_
        refine ao_it ?_ ao_no
        refine ao_I F1 (F1.cl.r Cv0) (fun h14 F3 => ?_)
        exact ao_so F3
    · refine ao_it ?_ ?_
      · exact ao_jV F1 (av_mStreams_gone_b361 (F1.cl) Cv0)
      · refine ao_it ?_ ?_
        · exact ao_jV F1 (av_mStreams_gone_b361 (F1.cl) Cv0)
        · refine ao_it ?_ ?_
          · refine ao_b1 F1 (av_mStreams_goneStream (F1.cl) Cv0) (fun h21 F4 => ?_)
            exact ao_so F4
          · refine ao_it ?_ ?_
            · exact ao_jV F1 (av_mStreams_gone_b361 (F1.cl) Cv0)
            · refine ao_it ?_ ?_
              · exact ao_jV F1 (av_mStreams_gone_b361 (F1.cl) Cv0)
              · refine ao_it ?_ ?_
                · exact ao_jV F1 (av_mStreams_gone_b361 (F1.cl) Cv0)
                · refine ao_it ?_ ?_
                  · exact ao_jV F1 (av_mStreams_gone_b361 (F1.cl) Cv0)
                  · refine ao_it ?_ ?_
                    · exact ao_jV F1 (av_mStreams_gone_b361 (F1.cl) Cv0)
                    · refine ao_it ?_ ?_
                      · exact ao_jV F1 (av_mStreams_gone_b361 (F1.cl) Cv0)
                      · refine ao_it ?_ ?_
                        · exact ao_jV F1 (av_mStreams_gone_b361 (F1.cl) Cv0)
                        · refine ao_it ?_ ?_
                          · refine ao_it ?_ ?_
                            · exact ao_so F1
                            · refine ao_it ao_no ?_
                              refine ao_it ?_ ao_no
                              refine ao_it ?_ ?_
                              · exact ao_so F1
                              · refine ao_it ao_no ?_
                                refine ao_it ?_ ao_no
                                refine ao_I F1 (F1.cl.r Cv0) (fun h43 F5 => ?_)
                                exact ao_so F5
                          · refine ao_it ?_ ?_
                            · refine ao_it ?_ ?_
                              · exact ao_so F1
                              · refine ao_it ao_no ?_
                                refine ao_it ?_ ao_no
                                refine ao_it ?_ ?_
                                · exact ao_so F1
                                · refine ao_it ao_no ?_
                                  refine ao_it ?_ ao_no
                                  refine ao_I F1 (F1.cl.r Cv0) (fun h50 F6 => ?_)
                                  exact ao_so F6
                            · refine ao_it ?_ ?_
                              · exact ao_jV F1 (av_mStreams_gone_b259 (F1.cl) Cv0)
                              · refine ao_it ?_ ?_
                                · exact ao_jV F1 (av_mStreams_gone_b259 (F1.cl) Cv0)
                                · refine ao_it ?_ ?_
                                  · refine ao_it ?_ ?_
                                    · exact ao_so F1
                                    · refine ao_it ao_no ?_
                                      refine ao_it ?_ ao_no
                                      refine ao_it ?_ ?_
                                      · exact ao_so F1
                                      · refine ao_it ?_ ao_no
                                        refine ao_J F1 (F1.cl.r Cv0) (fun h60 F7 => ?_)
                                        exact ao_so F7
                                  · refine ao_it ?_ ?_
                                    · refine ao_it ?_ ?_
                                      · exact ao_so F1
                                      · refine ao_it ao_no ?_
                                        refine ao_it ?_ ao_no
                                        refine ao_it ?_ ?_
                                        · exact ao_so F1
                                        · refine ao_it ?_ ao_no
                                          refine ao_J F1 (F1.cl.r Cv0) (fun h66 F8 => ?_)
                                          exact ao_so F8
                                    · exact ao_jV F1 (av_mStreams_gone_b361 (F1.cl) Cv0)
theorem av_mStreams_gone {C : Nat → Prop} {v0 : Nat} {v1 : Int} {v2 : Int} {v3 : Int} {v5 : Int} {v7 : Int} {v8 : Int} {v10 : Int} {h : Hp} (c : Cl C h) (Cv0 : C v0) : Ao (qV C h) (f_mStreams_gone v0 v1 v2 v3 v5 v7 v8 v10 h) := by
  unfold f_mStreams_gone
  have F0 := Av.rf c
  refine ao_it ?_ ?_
  · exact ao_jV F0 (av_mStreams_gone_b15 (F0.cl) Cv0)
  · exact ao_jV F0 (av_mStreams_gone_b15 (F0.cl) Cv0)
theorem av_mSide_tellPacket_b194 {C : Nat → Prop} {k61 : Nat → Int → Int → Nat → Int → Int → Hp → Option (Hp)} (hk61 : ∀ (v0 : Nat) (v1 : Int) (v3 : Int) (v4 : Nat) (v5 : Int) (v6 : Int) (h : Hp), Cl C h → C v0 → Ao (qV C h) (k61 v0 v1 v3 v4 v5 v6 h)) {v0 : Nat} {v1 : Int} {v3 : Int} {v4 : Nat} {v5 : Int} {v6 : Int} {h : Hp} (c : Cl C h) (Cv0 : C v0) : Ao (qV C h) (f_mSide_tellPacket_b194 k61 v0 v1 v3 v4 v5 v6 h) := by
  unfold f_mSide_tellPacket_b194
  have F0 := Av.rf c
  exact ao_jV F0 (hk61 _ _ _ _ _ _ _ (F0.cl) Cv0)
theorem av_mSide_tellPacket_b61 {C : Nat → Prop} {k61 : Nat → Int → Int → Nat → Int → Int → Hp → Option (Hp)} (hk61 : ∀ (v0 : Nat) (v1 : Int) (v3 : Int) (v4 : Nat) (v5 : Int) (v6 : Int) (h : Hp), Cl C h → C v0 → Ao (qV C h) (k61 v0 v1 v3 v4 v5 v6 h)) {v0 : Nat} {v1 : Int} {v3 : Int} {v4 : Nat} {v5 : Int} {v6 : Int} {h : Hp} (c : Cl C h) (Cv0 : C v0) : Ao (qV C h) (f_mSide_tellPacket_b61 k61 v0 v1 v3 v4 v5 v6 h) := by
  unfold f_mSide_tellPacket_b61
  have F0 := Av.rf c
  refine ao_it ?_ ?_
  · exact ao_so F0
  · refine ao_it ao_no ?_
    refine ao_it ao_no ?_
    refine ao_it ?_ ao_no
    refine ao_it ?_ ?_
    · refine ao_it ?_ ao_no
      refine ao_it ?_ ?_
      · refine ao_it ?_ ao_no
        refine ao_it ?_ ?_
        · exact ao_jV F0 (av_mSide_tellPacket_b194 hk61 (F0.cl) Cv0)
        · refine ao_it ?_ ao_no
          refine ao_it ao_no ?_
          refine ao_it ?_ ao_no
          refine ao_it ao_no ?_
          refine ao_it ?_ ao_no
          refine ao_it ao_no ?_
          refine ao_it ?_ ao_no
          refine ao_it ao_no ?_
          refine ao_it ?_ ao_no
          refine ao_it ao_no ?_
          refine ao_b1 F0 (av_mStreams_gone (F0.cl) (F0.cl.r Cv0)) (fun h28 F1 => ?_)
          exact ao_jV F1 (av_mSide_tellPacket_b194 hk61 (F1.cl) Cv0)
      · refine ao_b1 F0 (av_mSide_tellDone (F0.cl) Cv0) (fun h30 F2 => ?_)
        exact ao_jV F2 (av_mSide_tellPacket_b194 hk61 (F2.cl) Cv0)
    · refine ao_it ao_no ?_
      refine ao_it ?_ ao_no
      refine ao_it ao_no ?_
      refine ao_it ?_ ao_no
      refine ao_b1 F0 (av_mSide_tellCrypto (F0.cl) Cv0) (fun h36 F3 => ?_)
      exact ao_jV F3 (av_mSide_tellPacket_b194 hk61 (F3.cl) Cv0)
theorem av_mSide_tellPacket_b61_lp {C : Nat → Prop} (n : Nat) : ∀ {v0 : Nat} {v1 : Int} {v3 : Int} {v4 : Nat} {v5 : Int} {v6 : Int} {h : Hp}, Cl C h → C v0 → Ao (qV C h) (f_mSide_tellPacket_b61_lp n v0 v1 v3 v4 v5 v6 h) := by
  induction n with
  | zero => intros; exact ao_no
  | succ n ih => intro v0 v1 v3 v4 v5 v6 h c Cv0; exact av_mSide_tellPacket_b61 (fun _ _ _ _ _ _ h => ih) c Cv0
theorem av_mSide_tellPacket_b45 {C : Nat → Prop} {v0 : Nat} {v1 : Int} {v2 : Int} {v3 : Int} {v4 : Nat} {s0 : Int} {h : Hp} (c : Cl C h) (Cv0 : C v0) : Ao (qV C h) (f_mSide_tellPacket_b45 v0 v1 v2 v3 v4 s0 h) := by
  unfold f_mSide_tellPacket_b45
  have F0 := Av.rf c
  refine ao_it ao_no ?_
  refine ao_it ?_ ao_no
  refine ao_v (fun y12 => ?_)
  exact ao_jV F0 (av_mSide_tellPacket_b61_lp FU (F0.cl) Cv0)
theorem av_mSide_tellPacket {C : Nat → Prop} {v0 : Nat} {v1 : Int} {v2 : Int} {v3 : Int} {h : Hp} (c : Cl C h) (Cv0 : C v0) : Ao (qV C h) (f_mSide_tellPacket v0 v1 v2 v3 h) := by
  unfold f_mSide_tellPacket
  have F0 := Av.rf c
  refine ao_it ao_no ?_
  refine ao_it ?_ ao_no
  refine ao_m (F0.cl.r (F0.cl.r Cv0)) (fun y3 Cy3 => ?_)
  refine ao_it ao_no ?_
  refine ao_it ao_no ?_
  refine ao_it ?_ ao_no
  refine ao_it ?_ ?_
  · refine ao_it ao_no ?_
    exact ao_jV F0 (av_mSide_tellPacket_b45 (F0.cl) Cv0)
  · refine ao_it ao_no ?_
    refine ao_it ?_ ao_no
    exact ao_jV F0 (av_mSide_tellPacket_b45 (F0.cl) Cv0)
theorem av_mSide_tellFound_b44 {C : Nat → Prop} {k44 : Nat → Int → Int → Hp → Option (Hp)} (hk44 : ∀ (v0 : Nat) (v1 : Int) (v2 : Int) (h : Hp), Cl C h → C v0 → Ao (qV C h) (k44 v0 v1 v2 h)) {v0 : Nat} {v1 : Int} {v2 : Int} {h : Hp} (c : Cl C h) (Cv0 : C v0) : Ao (qV C h) (f_mSide_tellFound_b44 k44 v0 v1 v2 h) := by
  unfold f_mSide_tellFound_b44
  have F0 := Av.rf c
  refine ao_it ?_ ?_
  · exact ao_so F0
  · refine ao_b1 F0 (av_mSide_tellPacket (F0.cl) Cv0) (fun h15 F1 => ?_)
    refine ao_it ao_no ?_
    refine ao_b2 F1 (av_mBook_next (F1.cl) (F1.cl.r Cv0)) (fun r20 h18 F2 => ?_)
    exact ao_jV F2 (hk44 _ _ _ _ (F2.cl) Cv0)
theorem av_mSide_tellFound_b44_lp {C : Nat → Prop} (n : Nat) : ∀ {v0 : Nat} {v1 : Int} {v2 : Int} {h : Hp}, Cl C h → C v0 → Ao (qV C h) (f_mSide_tellFound_b44_lp n v0 v1 v2 h) := by
  induction n with
  | zero => intros; exact ao_no
  | succ n ih => intro v0 v1 v2 h c Cv0; exact av_mSide_tellFound_b44 (fun _ _ _ h => ih) c Cv0
theorem av_mSide_tellFound_b10 {C : Nat → Prop} {k10 : Nat → Int → Int → Hp → Option (Hp)} (hk10 : ∀ (v0 : Nat) (v1 : Int) (v2 : Int) (h : Hp), Cl C h → C v0 → Ao (qV C h) (k10 v0 v1 v2 h)) {v0 : Nat} {v1 : Int} {v2 : Int} {h : Hp} (c : Cl C h) (Cv0 : C v0) : Ao (qV C h) (f_mSide_tellFound_b10 k10 v0 v1 v2 h) := by
  unfold f_mSide_tellFound_b10
  have F0 := Av.rf c
  refine ao_it ?_ ?_
  · refine ao_it ao_no ?_
    refine ao_b2 F0 (av_mBook_next (F0.cl) (F0.cl.r Cv0)) (fun r8 h6 F1 => ?_)
    exact ao_jV F1 (av_mSide_tellFound_b44_lp FU (F1.cl) Cv0)
  · refine ao_b1 F0 (av_mSide_tellPacket (F0.cl) Cv0) (fun h9 F2 => ?_)
    refine ao_it ao_no ?_
    refine ao_b2 F2 (av_mBook_next (F2.cl) (F2.cl.r Cv0)) (fun r14 h12 F3 => ?_)
    exact ao_jV F3 (hk10 _ _ _ _ (F3.cl) Cv0)
theorem av_mSide_tellFound_b10_lp {C : Nat → Prop} (n : Nat) : ∀ {v0 : Nat} {v1 : Int} {v2 : Int} {h : Hp}, Cl C h → C v0 → Ao (qV C h) (f_mSide_tellFound_b10_lp n v0 v1 v2 h) := by
  induction n with
  | zero => intros; exact ao_no
  | succ n ih => intro v0 v1 v2 h c Cv0; exact av_mSide_tellFound_b10 (fun _ _ _ h => ih) c Cv0
theorem av_mSide_tellFound {C : Nat → Prop} {v0 : Nat} {v1 : Int} {h : Hp} (c : Cl C h) (Cv0 : C v0) : Ao (qV C h) (f_mSide_tellFound v0 v1 h) := by
  unfold f_mSide_tellFound
  have F0 := Av.rf c
  refine ao_it ao_no ?_
  refine ao_b2 F0 (av_mBook_next (F0.cl) (F0.cl.r Cv0)) (fun r4 h2 F1 => ?_)
  exact ao_jV F1 (av_mSide_tellFound_b10_lp FU (F1.cl) Cv0)
theorem av_mSide_acknowledged_b132 {C : Nat → Prop} {v0 : Nat} {v1 : Int} {s0 : Nat} {s1 : Int} {s2 : Int} {h : Hp} (c : Cl C h) (Cv0 : C v0) (Cs0 : C s0) : Ao (qI C h) (f_mSide_acknowledged_b132 v0 v1 s0 s1 s2 h) := by
  unfold f_mSide_acknowledged_b132
  have F0 := Av.rf c
  refine ao_it ao_no ?_
  refine ao_b2 F0 (av_mBook_acknowledge (F0.cl) Cs0) (fun r30 h28 F1 => ?_)
  refine ao_it ?_ ?_
  · refine ao_b1 F1 (av_mSide_tellFound (F1.cl) Cv0) (fun h31 F2 => ?_)
    exact ao_so F2
  · exact ao_so F1
theorem av_mSide_acknowledged_b41 {C : Nat → Prop} {k41 : Nat → Int → Int → Int → Hp → Option (Int × Hp)} (hk41 : ∀ (v0 : Nat) (v1 : Int) (v2 : Int) (v3 : Int) (h : Hp), Cl C h → C v0 → Ao (qI C h) (k41 v0 v1 v2 v3 h)) {v0 : Nat} {v1 : Int} {v2 : Int} {v3 : Int} {h : Hp} (c : Cl C h) (Cv0 : C v0) : Ao (qI C h) (f_mSide_acknowledged_b41 k41 v0 v1 v2 v3 h) := by
  unfold f_mSide_acknowledged_b41
  have F0 := Av.rf c
  refine ao_it ?_ ?_
  · refine ao_it ao_no ?_
    refine ao_I F0 (F0.cl.r Cv0) (fun h6 F1 => ?_)
    refine ao_it ao_no ?_
    refine ao_it ao_no ?_
    refine ao_it ?_ ao_no
    refine ao_it ?_ ?_
    · refine ao_it ?_ ao_no
      exact ao_jI F1 (av_mSide_acknowledged_b132 (F1.cl) Cv0 (F1.cl.r Cv0))
    · exact ao_jI F1 (av_mSide_acknowledged_b132 (F1.cl) Cv0 (F1.cl.r Cv0))
  · refine ao_it ao_no ?_
    refine ao_it ao_no ?_
    refine ao_b2 F0 (av_mWire_edge (F0.cl) (F0.cl.r Cv0)) (fun r15 h13 F2 => ?_)
    refine ao_it ao_no ?_
    refine ao_it ?_ ao_no
    refine ao_J F2 (F0.cl.r (F0.cl.r Cv0)) (fun h18 F3 => ?_)
    refine ao_it ao_no ?_
    refine ao_it ao_no ?_
    refine ao_b2 F3 (av_mWire_edge (F3.cl) (F3.cl.r Cv0)) (fun r23 h21 F4 => ?_)
    refine ao_it ao_no ?_
    refine ao_it ?_ ao_no
    refine ao_J F4 (F3.cl.r (F3.cl.r Cv0)) (fun h26 F5 => ?_)
    exact ao_jI F5 (hk41 _ _ _ _ _ (F5.cl) Cv0)
theorem av_mSide_acknowledged_b41_lp {C : Nat → Prop} (n : Nat) : ∀ {v0 : Nat} {v1 : Int} {v2 : Int} {v3 : Int} {h : Hp}, Cl C h → C v0 → Ao (qI C h) (f_mSide_acknowledged_b41_lp n v0 v1 v2 v3 h) := by
  induction n with
  | zero => intros; exact ao_no
  | succ n ih => intro v0 v1 v2 v3 h c Cv0; exact av_mSide_acknowledged_b41 (fun _ _ _ _ h => ih) c Cv0
theorem av_mSide_acknowledged_b38 {C : Nat → Prop} {v0 : Nat} {v1 : Int} {s0 : Int} {h : Hp} (c : Cl C h) (Cv0 : C v0) : Ao (qI C h) (f_mSide_acknowledged_b38 v0 v1 s0 h) := by
  unfold f_mSide_acknowledged_b38
  have F0 := Av.rf c
  exact ao_jI F0 (av_mSide_acknowledged_b41_lp FU (F0.cl) Cv0)
theorem av_mSide_acknowledged {C : Nat → Prop} {v0 : Nat} {v1 : Int} {h : Hp} (c : Cl C h) (Cv0 : C v0) : Ao (qI C h) (f_mSide_acknowledged v0 v1 h) := by
  unfold f_mSide_acknowledged
  have F0 := Av.rf c
  refine ao_it ao_no ?_
  refine ao_it ao_no ?_
  refine ao_it ?_ ao_no
  refine ao_it ?_ ?_
  · refine ao_it ao_no ?_
    refine ao_it ?_ ?_
    · exact ao_jI F0 (av_mSide_acknowledged_b38 (F0.cl) Cv0)
    · exact ao_jI F0 (av_mSide_acknowledged_b38 (F0.cl) Cv0)
  · exact ao_so F0
theorem av_mGreet_isSize_b22 {C : Nat → Prop} {h : Hp} (c : Cl C h) : Ao (qI C h) (f_mGreet_isSize_b22  h) := by
  unfold f_mGreet_isSize_b22
  have F0 := Av.rf c
  exact ao_so F0
theorem av_mGreet_isSize {C : Nat → Prop} {v0 : Int} {v1 : Int} {h : Hp} (c : Cl C h) : Ao (qI C h) (f_mGreet_isSize v0 v1 h) := by
  unfold f_mGreet_isSize
  have F0 := Av.rf c
  refine ao_it ?_ ?_
  · refine ao_it ?_ ?_
    · refine ao_it ?_ ?_
      · exact ao_so F0
      · exact ao_so F0
    · refine ao_it ?_ ?_
      · exact ao_so F0
      · exact ao_so F0
  · refine ao_it ?_ ?_
    · exact ao_jI F0 (av_mGreet_isSize_b22 (F0.cl))
    · refine ao_it ?_ ?_
      · exact ao_jI F0 (av_mGreet_isSize_b22 (F0.cl))
      · exact ao_so F0
theorem av_mGreet_lookAt_b38 {C : Nat → Prop} {v0 : Nat} {v1 : Int} {v2 : Int} {s0 : Int} {h : Hp} (c : Cl C h) : Ao (qI C h) (f_mGreet_lookAt_b38 v0 v1 v2 s0 h) := by
  unfold f_mGreet_lookAt_b38
  have F0 := Av.rf c
  refine ao_it ?_ ?_
  · exact ao_so F0
  · refine ao_it ao_no ?_
    refine ao_it ?_ ao_no
    refine ao_it ?_ ?_
    · refine ao_it ao_no ?_
      refine ao_it ?_ ao_no
      refine ao_it ?_ ?_
      · refine ao_it ?_ ao_no
        refine ao_it ?_ ao_no
        refine ao_it ?_ ao_no
        refine ao_v (fun y11 => ?_)
        refine ao_b2 F0 (av_mGreet_isSize (F0.cl)) (fun r14 h12 F2 => ?_)
        refine ao_it ?_ ?_
        · refine ao_it ao_no ?_
          refine ao_it ?_ ao_no
          refine ao_it ?_ ?_
          · exact ao_so F2
          · exact ao_so F2
        · exact ao_so F2
      · exact ao_so F0
    · exact ao_so F0
theorem av_mGreet_lookAt {C : Nat → Prop} {v0 : Nat} {v1 : Int} {h : Hp} (c : Cl C h) : Ao (qI C h) (f_mGreet_lookAt v0 v1 h) := by
  unfold f_mGreet_lookAt
  have F0 := Av.rf c
  refine ao_v (fun y1 => ?_)
  refine ao_it ao_no ?_
  refine ao_it ?_ ao_no
  refine ao_it ?_ ?_
  · refine ao_it ?_ ?_
    · exact ao_so F0
    · refine ao_it ?_ ?_
      · exact ao_jI F0 (av_mGreet_lookAt_b38 (F0.cl))
      · exact ao_jI F0 (av_mGreet_lookAt_b38 (F0.cl))
  · exact ao_so F0
theorem av_mSeals_digest_b34 {C : Nat → Prop} {k34 : Nat → Nat → Int → Hp → Option (Hp)} (hk34 : ∀ (v0 : Nat) (v3 : Nat) (v4 : Int) (h : Hp), Cl C h → C v3 → Ao (qV C h) (k34 v0 v3 v4 h)) {v0 : Nat} {v3 : Nat} {v4 : Int} {h : Hp} (c : Cl C h) (Cv3 : C v3) : Ao (qV C h) (f_mSeals_digest_b34 k34 v0 v3 v4 h) := by
  unfold f_mSeals_digest_b34
  have F0 := Av.rf c
  refine ao_it ?_ ?_
  · exact ao_so F0
  · refine ao_it ao_no ?_
    refine ao_it ?_ ao_no
    refine ao_it ao_no ?_
    refine ao_it ?_ ao_no
    refine ao_I F0 Cv3 (fun h12 F1 => ?_)
    exact ao_jV F1 (hk34 _ _ _ _ (F1.cl) Cv3)
theorem av_mSeals_digest_b34_lp {C : Nat → Prop} (n : Nat) : ∀ {v0 : Nat} {v3 : Nat} {v4 : Int} {h : Hp}, Cl C h → C v3 → Ao (qV C h) (f_mSeals_digest_b34_lp n v0 v3 v4 h) := by
  induction n with
  | zero => intros; exact ao_no
  | succ n ih => intro v0 v3 v4 h c Cv3; exact av_mSeals_digest_b34 (fun _ _ _ h => ih) c Cv3
theorem av_mSeals_digest_b3 {C : Nat → Prop} {k3 : Nat → Nat → Int → Nat → Int → Hp → Option (Hp)} (hk3 : ∀ (v0 : Nat) (v1 : Nat) (v2 : Int) (v3 : Nat) (v4 : Int) (h : Hp), Cl C h → C v0 → C v3 → Ao (qV C h) (k3 v0 v1 v2 v3 v4 h)) {v0 : Nat} {v1 : Nat} {v2 : Int} {v3 : Nat} {v4 : Int} {h : Hp} (c : Cl C h) (Cv0 : C v0) (Cv3 : C v3) : Ao (qV C h) (f_mSeals_digest_b3 k3 v0 v1 v2 v3 v4 h) := by
  unfold f_mSeals_digest_b3
  have F0 := Av.rf c
  refine ao_it ?_ ?_
  · refine ao_b1 F0 (av_mSeals_digestWork (F0.cl) Cv0) (fun h1 F1 => ?_)
    exact ao_jV F1 (av_mSeals_digest_b34_lp FU (F1.cl) Cv3)
  · refine ao_it ao_no ?_
    refine ao_it ?_ ao_no
    refine ao_it ao_no ?_
    refine ao_it ?_ ao_no
    refine ao_I F0 (F0.cl.r Cv0) (fun h7 F2 => ?_)
    exact ao_jV F2 (hk3 _ _ _ _ _ _ (F2.cl) Cv0 Cv3)
theorem av_mSeals_digest_b3_lp {C : Nat → Prop} (n : Nat) : ∀ {v0 : Nat} {v1 : Nat} {v2 : Int} {v3 : Nat} {v4 : Int} {h : Hp}, Cl C h → C v0 → C v3 → Ao (qV C h) (f_mSeals_digest_b3_lp n v0 v1 v2 v3 v4 h) := by
  induction n with
  | zero => intros; exact ao_no
  | succ n ih => intro v0 v1 v2 v3 v4 h c Cv0 Cv3; exact av_mSeals_digest_b3 (fun _ _ _ _ _ h => ih) c Cv0 Cv3
theorem av_mSeals_digest {C : Nat → Prop} {v0 : Nat} {v1 : Nat} {v2 : Int} {v3 : Nat} {h : Hp} (c : Cl C h) (Cv0 : C v0) (Cv3 : C v3) : Ao (qV C h) (f_mSeals_digest v0 v1 v2 v3 h) := by
  unfold f_mSeals_digest
  have F0 := Av.rf c
  exact ao_jV F0 (av_mSeals_digest_b3_lp FU (F0.cl) Cv0 Cv3)
theorem av_mGreet_prove {C : Nat → Prop} {v0 : Nat} {v1 : Int} {h : Hp} (c : Cl C h) (Cv0 : C v0) : Ao (qV C h) (f_mGreet_prove v0 v1 h) := by
  unfold f_mGreet_prove
  have F0 := Av.rf c
  refine ao_it ao_no ?_
  refine ao_b1 F0 (av_mSeals_digest (F0.cl) (F0.cl.r Cv0) (F0.cl.r Cv0)) (fun h2 F1 => ?_)
  refine ao_it ao_no ?_
  refine ao_b1 F1 (av_mSeals_label (F1.cl) (F1.cl.r Cv0) (F1.cl.r Cv0)) (fun h5 F2 => ?_)
  refine ao_it ao_no ?_
  refine ao_b1 F2 (av_mSeals_mac (F2.cl) (F2.cl.r Cv0) (F2.cl.r Cv0)) (fun h8 F3 => ?_)
  exact ao_so F3
theorem av_mGreet_keepTheirs_b7 {C : Nat → Prop} {k7 : Nat → Int → Int → Int → Hp → Option (Hp)} (hk7 : ∀ (v0 : Nat) (v1 : Int) (v2 : Int) (v3 : Int) (h : Hp), Cl C h → C v0 → Ao (qV C h) (k7 v0 v1 v2 v3 h)) {v0 : Nat} {v1 : Int} {v2 : Int} {v3 : Int} {h : Hp} (c : Cl C h) (Cv0 : C v0) : Ao (qV C h) (f_mGreet_keepTheirs_b7 k7 v0 v1 v2 v3 h) := by
  unfold f_mGreet_keepTheirs_b7
  have F0 := Av.rf c
  refine ao_it ?_ ?_
  · exact ao_so F0
  · refine ao_it ao_no ?_
    refine ao_it ?_ ao_no
    refine ao_it ao_no ?_
    refine ao_it ?_ ao_no
    refine ao_I F0 (F0.cl.r Cv0) (fun h6 F1 => ?_)
    exact ao_jV F1 (hk7 _ _ _ _ _ (F1.cl) Cv0)
theorem av_mGreet_keepTheirs_b7_lp {C : Nat → Prop} (n : Nat) : ∀ {v0 : Nat} {v1 : Int} {v2 : Int} {v3 : Int} {h : Hp}, Cl C h → C v0 → Ao (qV C h) (f_mGreet_keepTheirs_b7_lp n v0 v1 v2 v3 h) := by
  induction n with
  | zero => intros; exact ao_no
  | succ n ih => intro v0 v1 v2 v3 h c Cv0; exact av_mGreet_keepTheirs_b7 (fun _ _ _ _ h => ih) c Cv0
theorem av_mGreet_keepTheirs {C : Nat → Prop} {v0 : Nat} {v1 : Int} {v2 : Int} {h : Hp} (c : Cl C h) (Cv0 : C v0) : Ao (qV C h) (f_mGreet_keepTheirs v0 v1 v2 h) := by
  unfold f_mGreet_keepTheirs
  have F0 := Av.rf c
  refine ao_I F0 Cv0 (fun h1 F1 => ?_)
  exact ao_jV F1 (av_mGreet_keepTheirs_b7_lp FU (F1.cl) Cv0)
theorem av_mGreet_greets_b46 {C : Nat → Prop} {k46 : Nat → Int → Hp → Option (Hp)} (hk46 : ∀ (v0 : Nat) (v1 : Int) (h : Hp), Cl C h → C v0 → Ao (qV C h) (k46 v0 v1 h)) {v0 : Nat} {v1 : Int} {h : Hp} (c : Cl C h) (Cv0 : C v0) : Ao (qV C h) (f_mGreet_greets_b46 k46 v0 v1 h) := by
  unfold f_mGreet_greets_b46
  have F0 := Av.rf c
  refine ao_it ?_ ?_
  · refine ao_I F0 Cv0 (fun h7 F1 => ?_)
    exact ao_so F1
  · refine ao_it ao_no ?_
    refine ao_b1 F0 (av_mSeals_label (F0.cl) (F0.cl.r Cv0) (F0.cl.r Cv0)) (fun h9 F2 => ?_)
    exact ao_jV F2 (hk46 _ _ _ (F2.cl) Cv0)
theorem av_mGreet_greets_b46_lp {C : Nat → Prop} (n : Nat) : ∀ {v0 : Nat} {v1 : Int} {h : Hp}, Cl C h → C v0 → Ao (qV C h) (f_mGreet_greets_b46_lp n v0 v1 h) := by
  induction n with
  | zero => intros; exact ao_no
  | succ n ih => intro v0 v1 h c Cv0; exact av_mGreet_greets_b46 (fun _ _ h => ih) c Cv0
theorem av_mGreet_greets {C : Nat → Prop} {v0 : Nat} {h : Hp} (c : Cl C h) (Cv0 : C v0) : Ao (qV C h) (f_mGreet_greets v0 h) := by
  unfold f_mGreet_greets
  have F0 := Av.rf c
  refine ao_it ao_no ?_
  refine ao_b1 F0 (av_mSeals_digest (F0.cl) (F0.cl.r Cv0) (F0.cl.r Cv0)) (fun h2 F1 => ?_)
  refine ao_it ao_no ?_
  refine ao_b1 F1 (av_mSeals_mac (F1.cl) (F1.cl.r Cv0) (F1.cl.r Cv0)) (fun h5 F2 => ?_)
  exact ao_jV F2 (av_mGreet_greets_b46_lp FU (F2.cl) Cv0)
theorem av_mGreet_talks_b46 {C : Nat → Prop} {k46 : Nat → Int → Hp → Option (Hp)} (hk46 : ∀ (v0 : Nat) (v1 : Int) (h : Hp), Cl C h → C v0 → Ao (qV C h) (k46 v0 v1 h)) {v0 : Nat} {v1 : Int} {h : Hp} (c : Cl C h) (Cv0 : C v0) : Ao (qV C h) (f_mGreet_talks_b46 k46 v0 v1 h) := by
  unfold f_mGreet_talks_b46
  have F0 := Av.rf c
  refine ao_it ?_ ?_
  · refine ao_I F0 Cv0 (fun h7 F1 => ?_)
    exact ao_so F1
  · refine ao_it ao_no ?_
    refine ao_b1 F0 (av_mSeals_label (F0.cl) (F0.cl.r Cv0) (F0.cl.r Cv0)) (fun h9 F2 => ?_)
    exact ao_jV F2 (hk46 _ _ _ (F2.cl) Cv0)
theorem av_mGreet_talks_b46_lp {C : Nat → Prop} (n : Nat) : ∀ {v0 : Nat} {v1 : Int} {h : Hp}, Cl C h → C v0 → Ao (qV C h) (f_mGreet_talks_b46_lp n v0 v1 h) := by
  induction n with
  | zero => intros; exact ao_no
  | succ n ih => intro v0 v1 h c Cv0; exact av_mGreet_talks_b46 (fun _ _ h => ih) c Cv0
theorem av_mGreet_talks {C : Nat → Prop} {v0 : Nat} {h : Hp} (c : Cl C h) (Cv0 : C v0) : Ao (qV C h) (f_mGreet_talks v0 h) := by
  unfold f_mGreet_talks
  have F0 := Av.rf c
  refine ao_it ao_no ?_
  refine ao_b1 F0 (av_mSeals_digest (F0.cl) (F0.cl.r Cv0) (F0.cl.r Cv0)) (fun h2 F1 => ?_)
  refine ao_it ao_no ?_
  refine ao_b1 F1 (av_mSeals_mac (F1.cl) (F1.cl.r Cv0) (F1.cl.r Cv0)) (fun h5 F2 => ?_)
  exact ao_jV F2 (av_mGreet_talks_b46_lp FU (F2.cl) Cv0)
theorem av_mGreet_done_b93 {C : Nat → Prop} {k73 : Nat → Int → Int → Int → Int → Hp → Option (Int × Hp)} (hk73 : ∀ (v0 : Nat) (v2 : Int) (v3 : Int) (v4 : Int) (v5 : Int) (h : Hp), Cl C h → C v0 → Ao (qI C h) (k73 v0 v2 v3 v4 v5 h)) {v0 : Nat} {v2 : Int} {v3 : Int} {v4 : Int} {v5 : Int} {h : Hp} (c : Cl C h) (Cv0 : C v0) : Ao (qI C h) (f_mGreet_done_b93 k73 v0 v2 v3 v4 v5 h) := by
  unfold f_mGreet_done_b93
  have F0 := Av.rf c
  refine ao_it ao_no ?_
  refine ao_it ?_ ao_no
  refine ao_b1 F0 (av_mGreet_note (F0.cl) Cv0) (fun h36 F1 => ?_)
  exact ao_jI F1 (hk73 _ _ _ _ _ _ (F1.cl) Cv0)
theorem av_mGreet_done_b112 {C : Nat → Prop} {v0 : Nat} {v2 : Int} {v3 : Int} {v4 : Int} {h : Hp} (c : Cl C h) (Cv0 : C v0) : Ao (qI C h) (f_mGreet_done_b112 v0 v2 v3 v4 h) := by
  unfold f_mGreet_done_b112
  have F0 := Av.rf c
  refine ao_it ?_ ?_
  · refine ao_it ?_ ?_
    · refine ao_it ?_ ?_
      · refine ao_I F0 Cv0 (fun h5 F1 => ?_)
        refine ao_I F1 Cv0 (fun h6 F2 => ?_)
        refine ao_it ?_ ?_
        · exact ao_so F2
        · refine ao_b1 F2 (av_mGreet_prove (F2.cl) Cv0) (fun h7 F3 => ?_)
          refine ao_b1 F3 (av_mGreet_says (F3.cl) Cv0) (fun h9 F4 => ?_)
          refine ao_b1 F4 (av_mGreet_talks (F4.cl) Cv0) (fun h11 F5 => ?_)
          exact ao_so F5
      · refine ao_b1 F0 (av_mGreet_keepTheirs (F0.cl) Cv0) (fun h13 F6 => ?_)
        refine ao_I F6 Cv0 (fun h15 F7 => ?_)
        exact ao_so F7
    · refine ao_b1 F0 (av_mGreet_greets (F0.cl) Cv0) (fun h16 F8 => ?_)
      refine ao_I F8 Cv0 (fun h18 F9 => ?_)
      exact ao_so F9
  · refine ao_b1 F0 (av_mGreet_keepTheirs (F0.cl) Cv0) (fun h19 F10 => ?_)
    refine ao_b1 F10 (av_mGreet_says (F10.cl) Cv0) (fun h21 F11 => ?_)
    refine ao_b1 F11 (av_mGreet_greets (F11.cl) Cv0) (fun h23 F12 => ?_)
    refine ao_b1 F12 (av_mGreet_says (F12.cl) Cv0) (fun h25 F13 => ?_)
    refine ao_b1 F13 (av_mGreet_prove (F13.cl) Cv0) (fun h27 F14 => ?_)
    refine ao_b1 F14 (av_mGreet_says (F14.cl) Cv0) (fun h29 F15 => ?_)
    refine ao_b1 F15 (av_mGreet_talks (F15.cl) Cv0) (fun h31 F16 => ?_)
    refine ao_I F16 Cv0 (fun h33 F17 => ?_)
    exact ao_so F17
theorem av_mGreet_done_b73 {C : Nat → Prop} {k73 : Nat → Int → Int → Int → Int → Hp → Option (Int × Hp)} (hk73 : ∀ (v0 : Nat) (v2 : Int) (v3 : Int) (v4 : Int) (v5 : Int) (h : Hp), Cl C h → C v0 → Ao (qI C h) (k73 v0 v2 v3 v4 v5 h)) {v0 : Nat} {v2 : Int} {v3 : Int} {v4 : Int} {v5 : Int} {h : Hp} (c : Cl C h) (Cv0 : C v0) : Ao (qI C h) (f_mGreet_done_b73 k73 v0 v2 v3 v4 v5 h) := by
  unfold f_mGreet_done_b73
  have F0 := Av.rf c
  refine ao_it ?_ ?_
  · exact ao_jI F0 (av_mGreet_done_b112 (F0.cl) Cv0)
  · refine ao_it ?_ ?_
    · exact ao_jI F0 (av_mGreet_done_b93 hk73 (F0.cl) Cv0)
    · refine ao_it ?_ ?_
      · exact ao_jI F0 (av_mGreet_done_b112 (F0.cl) Cv0)
      · exact ao_jI F0 (av_mGreet_done_b93 hk73 (F0.cl) Cv0)
theorem av_mGreet_done_b73_lp {C : Nat → Prop} (n : Nat) : ∀ {v0 : Nat} {v2 : Int} {v3 : Int} {v4 : Int} {v5 : Int} {h : Hp}, Cl C h → C v0 → Ao (qI C h) (f_mGreet_done_b73_lp n v0 v2 v3 v4 v5 h) := by
  induction n with
  | zero => intros; exact ao_no
  | succ n ih => intro v0 v2 v3 v4 v5 h c Cv0; exact av_mGreet_done_b73 (fun _ _ _ _ _ h => ih) c Cv0
theorem av_mGreet_done_b70 {C : Nat → Prop} {v0 : Nat} {v2 : Int} {v3 : Int} {v4 : Int} {h : Hp} (c : Cl C h) (Cv0 : C v0) : Ao (qI C h) (f_mGreet_done_b70 v0 v2 v3 v4 h) := by
  unfold f_mGreet_done_b70
  have F0 := Av.rf c
  exact ao_jI F0 (av_mGreet_done_b73_lp FU (F0.cl) Cv0)
theorem av_mGreet_done_b32 {C : Nat → Prop} {k32 : Nat → Int → Int → Int → Int → Hp → Option (Int × Hp)} (hk32 : ∀ (v0 : Nat) (v2 : Int) (v3 : Int) (v4 : Int) (v5 : Int) (h : Hp), Cl C h → C v0 → Ao (qI C h) (k32 v0 v2 v3 v4 v5 h)) {v0 : Nat} {v2 : Int} {v3 : Int} {v4 : Int} {v5 : Int} {h : Hp} (c : Cl C h) (Cv0 : C v0) : Ao (qI C h) (f_mGreet_done_b32 k32 v0 v2 v3 v4 v5 h) := by
  unfold f_mGreet_done_b32
  have F0 := Av.rf c
  refine ao_it ?_ ?_
  · exact ao_jI F0 (av_mGreet_done_b70 (F0.cl) Cv0)
  · refine ao_it ao_no ?_
    refine ao_it ?_ ao_no
    refine ao_it ao_no ?_
    refine ao_it ?_ ao_no
    refine ao_it ?_ ?_
    · exact ao_jI F0 (hk32 _ _ _ _ _ _ (F0.cl) Cv0)
    · exact ao_so F0
theorem av_mGreet_done_b32_lp {C : Nat → Prop} (n : Nat) : ∀ {v0 : Nat} {v2 : Int} {v3 : Int} {v4 : Int} {v5 : Int} {h : Hp}, Cl C h → C v0 → Ao (qI C h) (f_mGreet_done_b32_lp n v0 v2 v3 v4 v5 h) := by
  induction n with
  | zero => intros; exact ao_no
  | succ n ih => intro v0 v2 v3 v4 v5 h c Cv0; exact av_mGreet_done_b32 (fun _ _ _ _ _ h => ih) c Cv0
theorem av_mGreet_done {C : Nat → Prop} {v0 : Nat} {v1 : Int} {v2 : Int} {h : Hp} (c : Cl C h) (Cv0 : C v0) : Ao (qI C h) (f_mGreet_done v0 v1 v2 h) := by
  unfold f_mGreet_done
  have F0 := Av.rf c
  refine ao_v (fun y1 => ?_)
  refine ao_v (fun y2 => ?_)
  refine ao_it ?_ ?_
  · exact ao_jI F0 (av_mGreet_done_b70 (F0.cl) Cv0)
  · refine ao_b1 F0 (av_mGreet_prove (F0.cl) Cv0) (fun h3 F3 => ?_)
    exact ao_jI F3 (av_mGreet_done_b32_lp FU (F3.cl) Cv0)
theorem av_mGreet_works_b40 {C : Nat → Prop} {k6 : Nat → Int → Int → Hp → Option (Int × Hp)} (hk6 : ∀ (v0 : Nat) (v1 : Int) (v2 : Int) (h : Hp), Cl C h → C v0 → Ao (qI C h) (k6 v0 v1 v2 h)) {k40 : Nat → Int → Int → Int → Hp → Option (Int × Hp)} (hk40 : ∀ (v0 : Nat) (v1 : Int) (v2 : Int) (v4 : Int) (h : Hp), Cl C h → C v0 → Ao (qI C h) (k40 v0 v1 v2 v4 h)) {v0 : Nat} {v1 : Int} {v2 : Int} {v4 : Int} {h : Hp} (c : Cl C h) (Cv0 : C v0) : Ao (qI C h) (f_mGreet_works_b40 k6 k40 v0 v1 v2 v4 h) := by
  unfold f_mGreet_works_b40
  have F0 := Av.rf c
  refine ao_it ao_no ?_
  refine ao_it ?_ ao_no
  refine ao_it ?_ ?_
  · refine ao_b2 F0 (av_mGreet_lookAt (F0.cl)) (fun r24 h22 F1 => ?_)
    exact ao_jI F1 (hk6 _ _ _ _ (F1.cl) Cv0)
  · refine ao_it ao_no ?_
    refine ao_it ?_ ao_no
    refine ao_it ?_ ao_no
    refine ao_I F0 (F0.cl.r Cv0) (fun h28 F2 => ?_)
    exact ao_jI F2 (hk40 _ _ _ _ _ (F2.cl) Cv0)
theorem av_mGreet_works_b40_lp {C : Nat → Prop} {k6 : Nat → Int → Int → Hp → Option (Int × Hp)} (hk6 : ∀ (v0 : Nat) (v1 : Int) (v2 : Int) (h : Hp), Cl C h → C v0 → Ao (qI C h) (k6 v0 v1 v2 h)) (n : Nat) : ∀ {v0 : Nat} {v1 : Int} {v2 : Int} {v4 : Int} {h : Hp}, Cl C h → C v0 → Ao (qI C h) (f_mGreet_works_b40_lp k6 n v0 v1 v2 v4 h) := by
  induction n with
  | zero => intros; exact ao_no
  | succ n ih => intro v0 v1 v2 v4 h c Cv0; exact av_mGreet_works_b40 hk6 (fun _ _ _ _ h => ih) c Cv0
theorem av_mGreet_works_b123 {C : Nat → Prop} {v0 : Nat} {v2 : Int} {h : Hp} (c : Cl C h) : Ao (qI C h) (f_mGreet_works_b123 v0 v2 h) := by
  unfold f_mGreet_works_b123
  have F0 := Av.rf c
  exact ao_so F0
theorem av_mGreet_works_b6 {C : Nat → Prop} {k6 : Nat → Int → Int → Hp → Option (Int × Hp)} (hk6 : ∀ (v0 : Nat) (v1 : Int) (v2 : Int) (h : Hp), Cl C h → C v0 → Ao (qI C h) (k6 v0 v1 v2 h)) {v0 : Nat} {v1 : Int} {v2 : Int} {h : Hp} (c : Cl C h) (Cv0 : C v0) : Ao (qI C h) (f_mGreet_works_b6 k6 v0 v1 v2 h) := by
  unfold f_mGreet_works_b6
  have F0 := Av.rf c
  refine ao_it ?_ ?_
  · refine ao_it ?_ ?_
    · exact ao_jI F0 (av_mGreet_works_b123 (F0.cl))
    · refine ao_I F0 Cv0 (fun h4 F1 => ?_)
      refine ao_I F1 Cv0 (fun h5 F2 => ?_)
      refine ao_it ao_no ?_
      refine ao_it ?_ ao_no
      refine ao_I F2 (F2.cl.r Cv0) (fun h8 F3 => ?_)
      refine ao_it ao_no ?_
      refine ao_it ?_ ao_no
      refine ao_I F3 (F3.cl.r Cv0) (fun h11 F4 => ?_)
      exact ao_jI F4 (av_mGreet_works_b123 (F4.cl))
  · refine ao_b2 F0 (av_mGreet_done (F0.cl) Cv0) (fun r14 h12 F5 => ?_)
    refine ao_it ?_ ?_
    · refine ao_it ao_no ?_
      refine ao_it ?_ ao_no
      refine ao_it ?_ ao_no
      refine ao_I F5 (F5.cl.r Cv0) (fun h18 F6 => ?_)
      exact ao_jI F6 (av_mGreet_works_b40_lp hk6 FU (F6.cl) Cv0)
    · refine ao_v (fun y19 => ?_)
      exact ao_jI F5 (hk6 _ _ _ _ (F5.cl) Cv0)
theorem av_mGreet_works_b6_lp {C : Nat → Prop} (n : Nat) : ∀ {v0 : Nat} {v1 : Int} {v2 : Int} {h : Hp}, Cl C h → C v0 → Ao (qI C h) (f_mGreet_works_b6_lp n v0 v1 v2 h) := by
  induction n with
  | zero => intros; exact ao_no
  | succ n ih => intro v0 v1 v2 h c Cv0; exact av_mGreet_works_b6 (fun _ _ _ h => ih) c Cv0
theorem av_mGreet_works {C : Nat → Prop} {v0 : Nat} {v1 : Int} {h : Hp} (c : Cl C h) (Cv0 : C v0) : Ao (qI C h) (f_mGreet_works v0 v1 h) := by
  unfold f_mGreet_works
  have F0 := Av.rf c
  refine ao_b2 F0 (av_mGreet_lookAt (F0.cl)) (fun r3 h1 F1 => ?_)
  exact ao_jI F1 (av_mGreet_works_b6_lp FU (F1.cl) Cv0)
theorem av_mGreet_take_b6 {C : Nat → Prop} {k6 : Nat → Int → Nat → Int → Int → Int → Int → Hp → Option (Int × Hp)} (hk6 : ∀ (v0 : Nat) (v1 : Int) (v2 : Nat) (v3 : Int) (v4 : Int) (v5 : Int) (v6 : Int) (h : Hp), Cl C h → C v0 → Ao (qI C h) (k6 v0 v1 v2 v3 v4 v5 v6 h)) {v0 : Nat} {v1 : Int} {v2 : Nat} {v3 : Int} {v4 : Int} {v5 : Int} {v6 : Int} {h : Hp} (c : Cl C h) (Cv0 : C v0) : Ao (qI C h) (f_mGreet_take_b6 k6 v0 v1 v2 v3 v4 v5 v6 h) := by
  unfold f_mGreet_take_b6
  have F0 := Av.rf c
  refine ao_it ?_ ?_
  · exact ao_so F0
  · refine ao_it ?_ ?_
    · exact ao_so F0
    · refine ao_it ao_no ?_
      refine ao_it ?_ ao_no
      refine ao_it ao_no ?_
      refine ao_it ?_ ao_no
      refine ao_it ao_no ?_
      refine ao_it ?_ ao_no
      refine ao_I F0 (F0.cl.r Cv0) (fun h7 F1 => ?_)
      refine ao_it ao_no ?_
      refine ao_it ?_ ao_no
      refine ao_it ?_ ao_no
      refine ao_I F1 (F1.cl.r Cv0) (fun h11 F2 => ?_)
      refine ao_b2 F2 (av_mGreet_works (F2.cl) Cv0) (fun r14 h12 F3 => ?_)
      exact ao_jI F3 (hk6 _ _ _ _ _ _ _ _ (F3.cl) Cv0)
theorem av_mGreet_take_b6_lp {C : Nat → Prop} (n : Nat) : ∀ {v0 : Nat} {v1 : Int} {v2 : Nat} {v3 : Int} {v4 : Int} {v5 : Int} {v6 : Int} {h : Hp}, Cl C h → C v0 → Ao (qI C h) (f_mGreet_take_b6_lp n v0 v1 v2 v3 v4 v5 v6 h) := by
  induction n with
  | zero => intros; exact ao_no
  | succ n ih => intro v0 v1 v2 v3 v4 v5 v6 h c Cv0; exact av_mGreet_take_b6 (fun _ _ _ _ _ _ _ h => ih) c Cv0
theorem av_mGreet_take {C : Nat → Prop} {v0 : Nat} {v1 : Int} {v2 : Nat} {v3 : Int} {v4 : Int} {h : Hp} (c : Cl C h) (Cv0 : C v0) : Ao (qI C h) (f_mGreet_take v0 v1 v2 v3 v4 h) := by
  unfold f_mGreet_take
  have F0 := Av.rf c
  exact ao_jI F0 (av_mGreet_take_b6_lp FU (F0.cl) Cv0)
theorem av_mSide_hasBytes_b27 {C : Nat → Prop} {h : Hp} (c : Cl C h) : Ao (qI C h) (f_mSide_hasBytes_b27  h) := by
  unfold f_mSide_hasBytes_b27
  have F0 := Av.rf c
  exact ao_so F0
theorem av_mSide_hasBytes {C : Nat → Prop} {v0 : Int} {h : Hp} (c : Cl C h) : Ao (qI C h) (f_mSide_hasBytes v0 h) := by
  unfold f_mSide_hasBytes
  have F0 := Av.rf c
  refine ao_it ?_ ?_
  · exact ao_jI F0 (av_mSide_hasBytes_b27 (F0.cl))
  · refine ao_it ?_ ?_
    · exact ao_jI F0 (av_mSide_hasBytes_b27 (F0.cl))
    · refine ao_it ?_ ?_
      · exact ao_jI F0 (av_mSide_hasBytes_b27 (F0.cl))
      · refine ao_it ?_ ?_
        · exact ao_jI F0 (av_mSide_hasBytes_b27 (F0.cl))
        · refine ao_it ?_ ?_
          · exact ao_so F0
          · exact ao_jI F0 (av_mSide_hasBytes_b27 (F0.cl))
theorem av_mSide_suits_b223 {C : Nat → Prop} {v0 : Nat} {v7 : Int} {s0 : Int} {h : Hp} (c : Cl C h) : Ao (qI C h) (f_mSide_suits_b223 v0 v7 s0 h) := by
  unfold f_mSide_suits_b223
  have F0 := Av.rf c
  refine ao_it ?_ ?_
  · exact ao_so F0
  · refine ao_it ?_ ?_
    · exact ao_so F0
    · exact ao_so F0
theorem av_mSide_suits_b218 {C : Nat → Prop} {v0 : Nat} {v7 : Int} {h : Hp} (c : Cl C h) : Ao (qI C h) (f_mSide_suits_b218 v0 v7 h) := by
  unfold f_mSide_suits_b218
  have F0 := Av.rf c
  exact ao_jI F0 (av_mSide_suits_b223 (F0.cl))
theorem av_mSide_suits_b222 {C : Nat → Prop} {v0 : Nat} {v7 : Int} {h : Hp} (c : Cl C h) : Ao (qI C h) (f_mSide_suits_b222 v0 v7 h) := by
  unfold f_mSide_suits_b222
  have F0 := Av.rf c
  exact ao_jI F0 (av_mSide_suits_b223 (F0.cl))
theorem av_mSide_suits_b203 {C : Nat → Prop} {v0 : Nat} {v2 : Int} {v5 : Int} {v7 : Int} {h : Hp} (c : Cl C h) : Ao (qI C h) (f_mSide_suits_b203 v0 v2 v5 v7 h) := by
  unfold f_mSide_suits_b203
  have F0 := Av.rf c
  refine ao_it ?_ ?_
  · exact ao_jI F0 (av_mSide_suits_b222 (F0.cl))
  · refine ao_it ?_ ?_
    · exact ao_jI F0 (av_mSide_suits_b222 (F0.cl))
    · exact ao_jI F0 (av_mSide_suits_b218 (F0.cl))
theorem av_mSide_suits_b188 {C : Nat → Prop} {v0 : Nat} {v2 : Int} {v5 : Int} {v7 : Int} {h : Hp} (c : Cl C h) : Ao (qI C h) (f_mSide_suits_b188 v0 v2 v5 v7 h) := by
  unfold f_mSide_suits_b188
  have F0 := Av.rf c
  refine ao_it ?_ ?_
  · exact ao_jI F0 (av_mSide_suits_b203 (F0.cl))
  · refine ao_it ?_ ?_
    · exact ao_jI F0 (av_mSide_suits_b218 (F0.cl))
    · exact ao_jI F0 (av_mSide_suits_b203 (F0.cl))
theorem av_mSide_suits_b179 {C : Nat → Prop} {v0 : Nat} {v2 : Int} {v5 : Int} {v7 : Int} {h : Hp} (c : Cl C h) : Ao (qI C h) (f_mSide_suits_b179 v0 v2 v5 v7 h) := by
  unfold f_mSide_suits_b179
  have F0 := Av.rf c
  refine ao_it ?_ ?_
  · exact ao_jI F0 (av_mSide_suits_b218 (F0.cl))
  · exact ao_jI F0 (av_mSide_suits_b188 (F0.cl))
theorem av_mSide_suits_b165 {C : Nat → Prop} {v0 : Nat} {v2 : Int} {v5 : Int} {s0 : Int} {h : Hp} (c : Cl C h) : Ao (qI C h) (f_mSide_suits_b165 v0 v2 v5 s0 h) := by
  unfold f_mSide_suits_b165
  have F0 := Av.rf c
  refine ao_it ?_ ?_
  · exact ao_jI F0 (av_mSide_suits_b179 (F0.cl))
  · refine ao_it ?_ ?_
    · exact ao_jI F0 (av_mSide_suits_b188 (F0.cl))
    · exact ao_jI F0 (av_mSide_suits_b179 (F0.cl))
theorem av_mSide_suits_b160 {C : Nat → Prop} {v0 : Nat} {v2 : Int} {v5 : Int} {h : Hp} (c : Cl C h) : Ao (qI C h) (f_mSide_suits_b160 v0 v2 v5 h) := by
  unfold f_mSide_suits_b160
  have F0 := Av.rf c
  exact ao_jI F0 (av_mSide_suits_b165 (F0.cl))
theorem av_mSide_suits_b164 {C : Nat → Prop} {v0 : Nat} {v2 : Int} {v5 : Int} {h : Hp} (c : Cl C h) : Ao (qI C h) (f_mSide_suits_b164 v0 v2 v5 h) := by
  unfold f_mSide_suits_b164
  have F0 := Av.rf c
  exact ao_jI F0 (av_mSide_suits_b165 (F0.cl))
theorem av_mSide_suits_b145 {C : Nat → Prop} {v0 : Nat} {v2 : Int} {v5 : Int} {h : Hp} (c : Cl C h) : Ao (qI C h) (f_mSide_suits_b145 v0 v2 v5 h) := by
  unfold f_mSide_suits_b145
  have F0 := Av.rf c
  refine ao_it ?_ ?_
  · exact ao_jI F0 (av_mSide_suits_b164 (F0.cl))
  · refine ao_it ?_ ?_
    · exact ao_jI F0 (av_mSide_suits_b164 (F0.cl))
    · exact ao_jI F0 (av_mSide_suits_b160 (F0.cl))
theorem av_mSide_suits {C : Nat → Prop} {v0 : Nat} {v1 : Nat} {v2 : Int} {v3 : Int} {v4 : Int} {h : Hp} (c : Cl C h) (Cv0 : C v0) (Cv1 : C v1) : Ao (qI C h) (f_mSide_suits v0 v1 v2 v3 v4 h) := by
  unfold f_mSide_suits
  have F0 := Av.rf c
  refine ao_it ?_ ?_
  · refine ao_it ?_ ?_
    · refine ao_it ?_ ?_
      · refine ao_b2 F0 (av_mSide_hasBytes (F0.cl)) (fun r3 h1 F1 => ?_)
        refine ao_it ?_ ?_
        · refine ao_it ao_no ?_
          refine ao_it ao_no ?_
          refine ao_b1 F1 (av_mWire_look (F1.cl) Cv1 (F1.cl.r (F1.cl.r Cv0))) (fun h6 F2 => ?_)
          refine ao_b2 F2 (av_mWire_takeNumber (F2.cl) Cv1) (fun r10 h8 F3 => ?_)
          refine ao_it ao_no ?_
          refine ao_it ?_ ao_no
          refine ao_J F3 (F3.cl.r Cv0) (fun h13 F4 => ?_)
          refine ao_it ?_ ?_
          · exact ao_so F4
          · refine ao_it ?_ ?_
            · refine ao_it ?_ ?_
              · exact ao_jI F4 (av_mSide_suits_b145 (F4.cl))
              · refine ao_it ?_ ?_
                · exact ao_jI F4 (av_mSide_suits_b160 (F4.cl))
                · exact ao_jI F4 (av_mSide_suits_b145 (F4.cl))
            · exact ao_so F4
        · refine ao_it ?_ ?_
          · exact ao_so F1
          · exact ao_so F1
      · refine ao_it ?_ ?_
        · exact ao_so F0
        · refine ao_it ?_ ?_
          · exact ao_so F0
          · exact ao_so F0
    · refine ao_it ?_ ?_
      · exact ao_so F0
      · exact ao_so F0
  · refine ao_it ?_ ?_
    · exact ao_so F0
    · exact ao_so F0
theorem av_mSide_readsParameters_b209 {C : Nat → Prop} {k4 : Nat → Nat → Int → Int → Hp → Option (Int × Hp)} (hk4 : ∀ (v0 : Nat) (v1 : Nat) (v2 : Int) (v3 : Int) (h : Hp), Cl C h → C v0 → C v1 → Ao (qI C h) (k4 v0 v1 v2 v3 h)) {v0 : Nat} {v1 : Nat} {v2 : Int} {v3 : Int} {h : Hp} (c : Cl C h) (Cv0 : C v0) (Cv1 : C v1) : Ao (qI C h) (f_mSide_readsParameters_b209 k4 v0 v1 v2 v3 h) := by
  unfold f_mSide_readsParameters_b209
  have F0 := Av.rf c
  exact ao_jI F0 (hk4 _ _ _ _ _ (F0.cl) Cv0 Cv1)
theorem av_mSide_readsParameters_b194 {C : Nat → Prop} {k4 : Nat → Nat → Int → Int → Hp → Option (Int × Hp)} (hk4 : ∀ (v0 : Nat) (v1 : Nat) (v2 : Int) (v3 : Int) (h : Hp), Cl C h → C v0 → C v1 → Ao (qI C h) (k4 v0 v1 v2 v3 h)) {v0 : Nat} {v1 : Nat} {v2 : Int} {v3 : Int} {v8 : Int} {v9 : Int} {h : Hp} (c : Cl C h) (Cv0 : C v0) (Cv1 : C v1) : Ao (qI C h) (f_mSide_readsParameters_b194 k4 v0 v1 v2 v3 v8 v9 h) := by
  unfold f_mSide_readsParameters_b194
  have F0 := Av.rf c
  refine ao_it ?_ ?_
  · exact ao_jI F0 (av_mSide_readsParameters_b209 hk4 (F0.cl) Cv0 Cv1)
  · refine ao_it ao_no ?_
    refine ao_it ?_ ao_no
    refine ao_I F0 (F0.cl.r Cv0) (fun h31 F1 => ?_)
    exact ao_jI F1 (av_mSide_readsParameters_b209 hk4 (F1.cl) Cv0 Cv1)
theorem av_mSide_readsParameters_b181 {C : Nat → Prop} {k4 : Nat → Nat → Int → Int → Hp → Option (Int × Hp)} (hk4 : ∀ (v0 : Nat) (v1 : Nat) (v2 : Int) (v3 : Int) (h : Hp), Cl C h → C v0 → C v1 → Ao (qI C h) (k4 v0 v1 v2 v3 h)) {v0 : Nat} {v1 : Nat} {v2 : Int} {v3 : Int} {v8 : Int} {v9 : Int} {h : Hp} (c : Cl C h) (Cv0 : C v0) (Cv1 : C v1) : Ao (qI C h) (f_mSide_readsParameters_b181 k4 v0 v1 v2 v3 v8 v9 h) := by
  unfold f_mSide_readsParameters_b181
  have F0 := Av.rf c
  refine ao_it ?_ ?_
  · exact ao_jI F0 (av_mSide_readsParameters_b194 hk4 (F0.cl) Cv0 Cv1)
  · refine ao_it ao_no ?_
    refine ao_it ?_ ao_no
    refine ao_I F0 (F0.cl.r Cv0) (fun h28 F1 => ?_)
    exact ao_jI F1 (av_mSide_readsParameters_b194 hk4 (F1.cl) Cv0 Cv1)
theorem av_mSide_readsParameters_b140 {C : Nat → Prop} {k4 : Nat → Nat → Int → Int → Hp → Option (Int × Hp)} (hk4 : ∀ (v0 : Nat) (v1 : Nat) (v2 : Int) (v3 : Int) (h : Hp), Cl C h → C v0 → C v1 → Ao (qI C h) (k4 v0 v1 v2 v3 h)) {v0 : Nat} {v1 : Nat} {v2 : Int} {v3 : Int} {v6 : Int} {v8 : Int} {v9 : Int} {h : Hp} (c : Cl C h) (Cv0 : C v0) (Cv1 : C v1) : Ao (qI C h) (f_mSide_readsParameters_b140 k4 v0 v1 v2 v3 v6 v8 v9 h) := by
  unfold f_mSide_readsParameters_b140
  have F0 := Av.rf c
  refine ao_b2 F0 (av_mSide_suits (F0.cl) Cv0 Cv1) (fun r18 h16 F1 => ?_)
  refine ao_it ?_ ?_
  · refine ao_v (fun y19 => ?_)
    refine ao_b2 F1 (av_mSide_hasBytes (F1.cl)) (fun r22 h20 F3 => ?_)
    refine ao_it ?_ ?_
    · exact ao_jI F3 (av_mSide_readsParameters_b181 hk4 (F3.cl) Cv0 Cv1)
    · refine ao_it ao_no ?_
      refine ao_it ?_ ao_no
      refine ao_J F3 (F3.cl.r Cv0) (fun h25 F4 => ?_)
      exact ao_jI F4 (av_mSide_readsParameters_b181 hk4 (F4.cl) Cv0 Cv1)
  · exact ao_so F1
theorem av_mSide_readsParameters_b115 {C : Nat → Prop} {k4 : Nat → Nat → Int → Int → Hp → Option (Int × Hp)} (hk4 : ∀ (v0 : Nat) (v1 : Nat) (v2 : Int) (v3 : Int) (h : Hp), Cl C h → C v0 → C v1 → Ao (qI C h) (k4 v0 v1 v2 v3 h)) {v0 : Nat} {v1 : Nat} {v2 : Int} {v3 : Int} {v6 : Int} {v8 : Int} {v9 : Int} {s0 : Int} {h : Hp} (c : Cl C h) (Cv0 : C v0) (Cv1 : C v1) : Ao (qI C h) (f_mSide_readsParameters_b115 k4 v0 v1 v2 v3 v6 v8 v9 s0 h) := by
  unfold f_mSide_readsParameters_b115
  have F0 := Av.rf c
  refine ao_it ?_ ?_
  · exact ao_so F0
  · refine ao_it ?_ ?_
    · exact ao_jI F0 (av_mSide_readsParameters_b140 hk4 (F0.cl) Cv0 Cv1)
    · refine ao_it ?_ ?_
      · exact ao_so F0
      · exact ao_jI F0 (av_mSide_readsParameters_b140 hk4 (F0.cl) Cv0 Cv1)
theorem av_mSide_readsParameters_b110 {C : Nat → Prop} {k4 : Nat → Nat → Int → Int → Hp → Option (Int × Hp)} (hk4 : ∀ (v0 : Nat) (v1 : Nat) (v2 : Int) (v3 : Int) (h : Hp), Cl C h → C v0 → C v1 → Ao (qI C h) (k4 v0 v1 v2 v3 h)) {v0 : Nat} {v1 : Nat} {v2 : Int} {v3 : Int} {v6 : Int} {v8 : Int} {v9 : Int} {h : Hp} (c : Cl C h) (Cv0 : C v0) (Cv1 : C v1) : Ao (qI C h) (f_mSide_readsParameters_b110 k4 v0 v1 v2 v3 v6 v8 v9 h) := by
  unfold f_mSide_readsParameters_b110
  have F0 := Av.rf c
  exact ao_jI F0 (av_mSide_readsParameters_b115 hk4 (F0.cl) Cv0 Cv1)
theorem av_mSide_readsParameters_b4 {C : Nat → Prop} {k4 : Nat → Nat → Int → Int → Hp → Option (Int × Hp)} (hk4 : ∀ (v0 : Nat) (v1 : Nat) (v2 : Int) (v3 : Int) (h : Hp), Cl C h → C v0 → C v1 → Ao (qI C h) (k4 v0 v1 v2 v3 h)) {v0 : Nat} {v1 : Nat} {v2 : Int} {v3 : Int} {h : Hp} (c : Cl C h) (Cv0 : C v0) (Cv1 : C v1) : Ao (qI C h) (f_mSide_readsParameters_b4 k4 v0 v1 v2 v3 h) := by
  unfold f_mSide_readsParameters_b4
  have F0 := Av.rf c
  refine ao_it ao_no ?_
  refine ao_it ?_ ?_
  · exact ao_so F0
  · refine ao_it ao_no ?_
    refine ao_b1 F0 (av_mWire_look (F0.cl) Cv1 (F0.cl.r (F0.cl.r Cv0))) (fun h3 F1 => ?_)
    refine ao_b2 F1 (av_mWire_takeNumber (F1.cl) Cv1) (fun r7 h5 F2 => ?_)
    refine ao_b2 F2 (av_mWire_takeNumber (F2.cl) Cv1) (fun r10 h8 F3 => ?_)
    refine ao_b2 F3 (av_mWire_pass (F3.cl) Cv1) (fun r13 h11 F4 => ?_)
    refine ao_it ?_ ?_
    · refine ao_v (fun y14 => ?_)
      refine ao_it ?_ ?_
      · refine ao_v (fun y15 => ?_)
        refine ao_it ?_ ?_
        · exact ao_jI F4 (av_mSide_readsParameters_b110 hk4 (F4.cl) Cv0 Cv1)
        · refine ao_it ?_ ?_
          · exact ao_jI F4 (av_mSide_readsParameters_b110 hk4 (F4.cl) Cv0 Cv1)
          · refine ao_it ?_ ?_
            · exact ao_jI F4 (av_mSide_readsParameters_b110 hk4 (F4.cl) Cv0 Cv1)
            · refine ao_it ?_ ?_
              · exact ao_jI F4 (av_mSide_readsParameters_b115 hk4 (F4.cl) Cv0 Cv1)
              · exact ao_jI F4 (av_mSide_readsParameters_b110 hk4 (F4.cl) Cv0 Cv1)
      · exact ao_jI F4 (hk4 _ _ _ _ _ (F4.cl) Cv0 Cv1)
    · exact ao_so F4
theorem av_mSide_readsParameters_b4_lp {C : Nat → Prop} (n : Nat) : ∀ {v0 : Nat} {v1 : Nat} {v2 : Int} {v3 : Int} {h : Hp}, Cl C h → C v0 → C v1 → Ao (qI C h) (f_mSide_readsParameters_b4_lp n v0 v1 v2 v3 h) := by
  induction n with
  | zero => intros; exact ao_no
  | succ n ih => intro v0 v1 v2 v3 h c Cv0 Cv1; exact av_mSide_readsParameters_b4 (fun _ _ _ _ h => ih) c Cv0 Cv1
theorem av_mSide_readsParameters {C : Nat → Prop} {v0 : Nat} {v1 : Nat} {h : Hp} (c : Cl C h) (Cv0 : C v0) (Cv1 : C v1) : Ao (qI C h) (f_mSide_readsParameters v0 v1 h) := by
  unfold f_mSide_readsParameters
  have F0 := Av.rf c
  exact ao_jI F0 (av_mSide_readsParameters_b4_lp FU (F0.cl) Cv0 Cv1)
theorem av_mStreams_know_b59 {C : Nat → Prop} {v0 : Nat} {s0 : Nat} {s1 : Int} {s2 : Int} {h : Hp} (c : Cl C h) (Cs0 : C s0) : Ao (qV C h) (f_mStreams_know_b59 v0 s0 s1 s2 h) := by
  unfold f_mStreams_know_b59
  have F0 := Av.rf c
  refine ao_it ao_no ?_
  refine ao_it ?_ ao_no
  refine ao_J F0 Cs0 (fun h9 F1 => ?_)
  exact ao_so F1
theorem av_mStreams_know_b26 {C : Nat → Prop} {v0 : Nat} {v1 : Int} {v2 : Int} {v3 : Int} {h : Hp} (c : Cl C h) (Cv0 : C v0) : Ao (qV C h) (f_mStreams_know_b26 v0 v1 v2 v3 h) := by
  unfold f_mStreams_know_b26
  have F0 := Av.rf c
  refine ao_it ?_ ?_
  · exact ao_so F0
  · refine ao_it ?_ ?_
    · exact ao_jV F0 (av_mStreams_know_b59 (F0.cl) (F0.cl.r Cv0))
    · exact ao_jV F0 (av_mStreams_know_b59 (F0.cl) (F0.cl.r Cv0))
theorem av_mStreams_know {C : Nat → Prop} {v0 : Nat} {v1 : Int} {v2 : Int} {v3 : Int} {h : Hp} (c : Cl C h) (Cv0 : C v0) : Ao (qV C h) (f_mStreams_know v0 v1 v2 v3 h) := by
  unfold f_mStreams_know
  have F0 := Av.rf c
  refine ao_it ao_no ?_
  refine ao_it ?_ ao_no
  refine ao_J F0 (F0.cl.r Cv0) (fun h3 F1 => ?_)
  refine ao_it ?_ ?_
  · exact ao_jV F1 (av_mStreams_know_b26 (F1.cl) Cv0)
  · refine ao_it ao_no ?_
    refine ao_it ?_ ao_no
    refine ao_J F1 (F1.cl.r Cv0) (fun h6 F2 => ?_)
    exact ao_jV F2 (av_mStreams_know_b26 (F2.cl) Cv0)
theorem av_mSide_readParameters_b161 {C : Nat → Prop} {k161 : Nat → Int → Hp → Option (Int × Hp)} (hk161 : ∀ (v0 : Nat) (v2 : Int) (h : Hp), Cl C h → C v0 → Ao (qI C h) (k161 v0 v2 h)) {v0 : Nat} {v2 : Int} {h : Hp} (c : Cl C h) (Cv0 : C v0) : Ao (qI C h) (f_mSide_readParameters_b161 k161 v0 v2 h) := by
  unfold f_mSide_readParameters_b161
  have F0 := Av.rf c
  refine ao_it ?_ ?_
  · exact ao_so F0
  · refine ao_it ao_no ?_
    refine ao_it ?_ ao_no
    refine ao_it ao_no ?_
    refine ao_b1 F0 (av_mStreams_know (F0.cl) (F0.cl.r Cv0)) (fun h35 F1 => ?_)
    exact ao_jI F1 (hk161 _ _ _ (F1.cl) Cv0)
theorem av_mSide_readParameters_b161_lp {C : Nat → Prop} (n : Nat) : ∀ {v0 : Nat} {v2 : Int} {h : Hp}, Cl C h → C v0 → Ao (qI C h) (f_mSide_readParameters_b161_lp n v0 v2 h) := by
  induction n with
  | zero => intros; exact ao_no
  | succ n ih => intro v0 v2 h c Cv0; exact av_mSide_readParameters_b161 (fun _ _ h => ih) c Cv0
theorem av_mSide_readParameters_b159 {C : Nat → Prop} {v0 : Nat} {h : Hp} (c : Cl C h) (Cv0 : C v0) : Ao (qI C h) (f_mSide_readParameters_b159 v0 h) := by
  unfold f_mSide_readParameters_b159
  have F0 := Av.rf c
  exact ao_jI F0 (av_mSide_readParameters_b161_lp FU (F0.cl) Cv0)
theorem av_mSide_readParameters_b70 {C : Nat → Prop} {k70 : Nat → Int → Hp → Option (Int × Hp)} (hk70 : ∀ (v0 : Nat) (v2 : Int) (h : Hp), Cl C h → C v0 → Ao (qI C h) (k70 v0 v2 h)) {v0 : Nat} {v2 : Int} {h : Hp} (c : Cl C h) (Cv0 : C v0) : Ao (qI C h) (f_mSide_readParameters_b70 k70 v0 v2 h) := by
  unfold f_mSide_readParameters_b70
  have F0 := Av.rf c
  refine ao_it ?_ ?_
  · refine ao_it ?_ ?_
    · exact ao_jI F0 (av_mSide_readParameters_b159 (F0.cl) Cv0)
    · refine ao_it ao_no ?_
      refine ao_it ?_ ao_no
      refine ao_it ?_ ?_
      · exact ao_so F0
      · refine ao_it ao_no ?_
        refine ao_it ao_no ?_
        refine ao_it ?_ ao_no
        refine ao_b2 F0 (av_mSide_isName (F0.cl)) (fun r24 h22 F1 => ?_)
        refine ao_it ?_ ?_
        · exact ao_jI F1 (av_mSide_readParameters_b159 (F1.cl) Cv0)
        · exact ao_so F1
  · refine ao_it ao_no ?_
    refine ao_it ao_no ?_
    refine ao_it ?_ ao_no
    refine ao_it ao_no ?_
    refine ao_it ?_ ao_no
    refine ao_it ao_no ?_
    refine ao_it ?_ ao_no
    refine ao_it ?_ ?_
    · exact ao_jI F0 (hk70 _ _ _ (F0.cl) Cv0)
    · exact ao_so F0
theorem av_mSide_readParameters_b70_lp {C : Nat → Prop} (n : Nat) : ∀ {v0 : Nat} {v2 : Int} {h : Hp}, Cl C h → C v0 → Ao (qI C h) (f_mSide_readParameters_b70_lp n v0 v2 h) := by
  induction n with
  | zero => intros; exact ao_no
  | succ n ih => intro v0 v2 h c Cv0; exact av_mSide_readParameters_b70 (fun _ _ h => ih) c Cv0
theorem av_mSide_readParameters_b27 {C : Nat → Prop} {k2 : Nat → Int → Hp → Option (Int × Hp)} (hk2 : ∀ (v0 : Nat) (v1 : Int) (h : Hp), Cl C h → C v0 → Ao (qI C h) (k2 v0 v1 h)) {v0 : Nat} {v1 : Int} {s0 : Nat} {s1 : Int} {s2 : Int} {h : Hp} (c : Cl C h) (Cv0 : C v0) (Cs0 : C s0) : Ao (qI C h) (f_mSide_readParameters_b27 k2 v0 v1 s0 s1 s2 h) := by
  unfold f_mSide_readParameters_b27
  have F0 := Av.rf c
  refine ao_it ao_no ?_
  refine ao_it ?_ ao_no
  refine ao_J F0 Cs0 (fun h16 F1 => ?_)
  exact ao_jI F1 (hk2 _ _ _ (F1.cl) Cv0)
theorem av_mSide_readParameters_b2 {C : Nat → Prop} {k2 : Nat → Int → Hp → Option (Int × Hp)} (hk2 : ∀ (v0 : Nat) (v1 : Int) (h : Hp), Cl C h → C v0 → Ao (qI C h) (k2 v0 v1 h)) {v0 : Nat} {v1 : Int} {h : Hp} (c : Cl C h) (Cv0 : C v0) : Ao (qI C h) (f_mSide_readParameters_b2 k2 v0 v1 h) := by
  unfold f_mSide_readParameters_b2
  have F0 := Av.rf c
  refine ao_it ?_ ?_
  · refine ao_it ?_ ao_no
    refine ao_nw F0 (fun h2 F1 => ?_)
    refine ao_b1 F1 (av_mWire_init (F1.cl) (F0.cl.n)) (fun h4 F2 => ?_)
    refine ao_b2 F2 (av_mSide_readsParameters (F2.cl) Cv0 (F0.cl.n)) (fun r8 h6 F3 => ?_)
    refine ao_it ?_ ?_
    · exact ao_so F3
    · refine ao_it ao_no ?_
      refine ao_it ?_ ao_no
      refine ao_it ?_ ?_
      · exact ao_jI F3 (av_mSide_readParameters_b70_lp FU (F3.cl) Cv0)
      · exact ao_so F3
  · refine ao_b2 F0 (av_mSide_hasBytes (F0.cl)) (fun r13 h11 F4 => ?_)
    refine ao_it ?_ ?_
    · exact ao_jI F4 (av_mSide_readParameters_b27 hk2 (F4.cl) Cv0 (F0.cl.r Cv0))
    · exact ao_jI F4 (av_mSide_readParameters_b27 hk2 (F4.cl) Cv0 (F0.cl.r Cv0))
theorem av_mSide_readParameters_b2_lp {C : Nat → Prop} (n : Nat) : ∀ {v0 : Nat} {v1 : Int} {h : Hp}, Cl C h → C v0 → Ao (qI C h) (f_mSide_readParameters_b2_lp n v0 v1 h) := by
  induction n with
  | zero => intros; exact ao_no
  | succ n ih => intro v0 v1 h c Cv0; exact av_mSide_readParameters_b2 (fun _ _ h => ih) c Cv0
theorem av_mSide_readParameters {C : Nat → Prop} {v0 : Nat} {h : Hp} (c : Cl C h) (Cv0 : C v0) : Ao (qI C h) (f_mSide_readParameters v0 h) := by
  unfold f_mSide_readParameters
  have F0 := Av.rf c
  exact ao_jI F0 (av_mSide_readParameters_b2_lp FU (F0.cl) Cv0)
theorem av_mSide_confirm {C : Nat → Prop} {v0 : Nat} {h : Hp} (c : Cl C h) (Cv0 : C v0) : Ao (qV C h) (f_mSide_confirm v0 h) := by
  unfold f_mSide_confirm
  have F0 := Av.rf c
  refine ao_it ao_no ?_
  refine ao_I F0 (F0.cl.r Cv0) (fun h2 F1 => ?_)
  refine ao_it ao_no ?_
  refine ao_I F1 (F1.cl.r Cv0) (fun h4 F2 => ?_)
  refine ao_b1 F2 (av_mSide_discard (F2.cl) Cv0) (fun h5 F3 => ?_)
  exact ao_so F3
theorem av_mSide_cryptoComes_b240 {C : Nat → Prop} {v0 : Nat} {h : Hp} (c : Cl C h) (Cv0 : C v0) : Ao (qI C h) (f_mSide_cryptoComes_b240 v0 h) := by
  unfold f_mSide_cryptoComes_b240
  have F0 := Av.rf c
  refine ao_it ao_no ?_
  refine ao_it ?_ ?_
  · exact ao_so F0
  · refine ao_it ?_ ?_
    · refine ao_I F0 Cv0 (fun h41 F1 => ?_)
      refine ao_b1 F1 (av_mSide_arm (F1.cl) Cv0) (fun h42 F2 => ?_)
      refine ao_it ?_ ?_
      · refine ao_I F2 Cv0 (fun h44 F3 => ?_)
        refine ao_b1 F3 (av_mSide_confirm (F3.cl) Cv0) (fun h45 F4 => ?_)
        exact ao_so F4
      · exact ao_so F2
    · exact ao_so F0
theorem av_mSide_cryptoComes_b200 {C : Nat → Prop} {v0 : Nat} {v5 : Int} {h : Hp} (c : Cl C h) (Cv0 : C v0) : Ao (qI C h) (f_mSide_cryptoComes_b200 v0 v5 h) := by
  unfold f_mSide_cryptoComes_b200
  have F0 := Av.rf c
  refine ao_it ?_ ?_
  · refine ao_it ao_no ?_
    refine ao_it ?_ ?_
    · exact ao_jI F0 (av_mSide_cryptoComes_b240 (F0.cl) Cv0)
    · refine ao_it ?_ ?_
      · exact ao_jI F0 (av_mSide_cryptoComes_b240 (F0.cl) Cv0)
      · refine ao_b2 F0 (av_mSide_readParameters (F0.cl) Cv0) (fun r38 h36 F1 => ?_)
        refine ao_it ?_ ?_
        · refine ao_I F1 Cv0 (fun h39 F2 => ?_)
          exact ao_jI F2 (av_mSide_cryptoComes_b240 (F2.cl) Cv0)
        · exact ao_so F1
  · exact ao_so F0
theorem av_mSide_cryptoComes_b147 {C : Nat → Prop} {v0 : Nat} {v1 : Int} {v3 : Int} {v4 : Int} {h : Hp} (c : Cl C h) (Cv0 : C v0) : Ao (qI C h) (f_mSide_cryptoComes_b147 v0 v1 v3 v4 h) := by
  unfold f_mSide_cryptoComes_b147
  have F0 := Av.rf c
  refine ao_it ao_no ?_
  refine ao_it ?_ ao_no
  refine ao_it ?_ ao_no
  refine ao_I F0 (F0.cl.r Cv0) (fun h25 F1 => ?_)
  refine ao_it ao_no ?_
  refine ao_b2 F1 (av_mGreet_take (F1.cl) (F1.cl.r Cv0)) (fun r29 h27 F2 => ?_)
  refine ao_it ao_no ?_
  refine ao_it ?_ ?_
  · exact ao_jI F2 (av_mSide_cryptoComes_b200 (F2.cl) Cv0)
  · refine ao_it ao_no ?_
    refine ao_it ?_ ao_no
    refine ao_it ?_ ?_
    · exact ao_jI F2 (av_mSide_cryptoComes_b200 (F2.cl) Cv0)
    · refine ao_b1 F2 (av_mSide_arm (F2.cl) Cv0) (fun h33 F3 => ?_)
      exact ao_jI F3 (av_mSide_cryptoComes_b200 (F3.cl) Cv0)
theorem av_mSide_cryptoComes_b114 {C : Nat → Prop} {k114 : Nat → Int → Int → Int → Hp → Option (Int × Hp)} (hk114 : ∀ (v0 : Nat) (v1 : Int) (v3 : Int) (v4 : Int) (h : Hp), Cl C h → C v0 → Ao (qI C h) (k114 v0 v1 v3 v4 h)) {v0 : Nat} {v1 : Int} {v3 : Int} {v4 : Int} {h : Hp} (c : Cl C h) (Cv0 : C v0) : Ao (qI C h) (f_mSide_cryptoComes_b114 k114 v0 v1 v3 v4 h) := by
  unfold f_mSide_cryptoComes_b114
  have F0 := Av.rf c
  refine ao_it ao_no ?_
  refine ao_it ?_ ao_no
  refine ao_it ?_ ?_
  · exact ao_jI F0 (av_mSide_cryptoComes_b147 (F0.cl) Cv0)
  · refine ao_it ao_no ?_
    refine ao_it ?_ ao_no
    refine ao_it ?_ ?_
    · exact ao_jI F0 (av_mSide_cryptoComes_b147 (F0.cl) Cv0)
    · exact ao_jI F0 (hk114 _ _ _ _ _ (F0.cl) Cv0)
theorem av_mSide_cryptoComes_b114_lp {C : Nat → Prop} (n : Nat) : ∀ {v0 : Nat} {v1 : Int} {v3 : Int} {v4 : Int} {h : Hp}, Cl C h → C v0 → Ao (qI C h) (f_mSide_cryptoComes_b114_lp n v0 v1 v3 v4 h) := by
  induction n with
  | zero => intros; exact ao_no
  | succ n ih => intro v0 v1 v3 v4 h c Cv0; exact av_mSide_cryptoComes_b114 (fun _ _ _ _ h => ih) c Cv0
theorem av_mSide_cryptoComes_b47 {C : Nat → Prop} {k47 : Nat → Int → Int → Int → Hp → Option (Int × Hp)} (hk47 : ∀ (v0 : Nat) (v1 : Int) (v2 : Int) (v3 : Int) (h : Hp), Cl C h → C v0 → Ao (qI C h) (k47 v0 v1 v2 v3 h)) {v0 : Nat} {v1 : Int} {v2 : Int} {v3 : Int} {h : Hp} (c : Cl C h) (Cv0 : C v0) : Ao (qI C h) (f_mSide_cryptoComes_b47 k47 v0 v1 v2 v3 h) := by
  unfold f_mSide_cryptoComes_b47
  have F0 := Av.rf c
  refine ao_it ao_no ?_
  refine ao_it ?_ ?_
  · refine ao_it ao_no ?_
    refine ao_it ?_ ao_no
    refine ao_v (fun y9 => ?_)
    exact ao_jI F0 (av_mSide_cryptoComes_b114_lp FU (F0.cl) Cv0)
  · refine ao_it ao_no ?_
    refine ao_it ?_ ao_no
    refine ao_it ao_no ?_
    refine ao_it ?_ ao_no
    refine ao_I F0 (F0.cl.r Cv0) (fun h14 F2 => ?_)
    refine ao_it ao_no ?_
    refine ao_it ?_ ao_no
    refine ao_I F2 (F2.cl.r Cv0) (fun h17 F3 => ?_)
    exact ao_jI F3 (hk47 _ _ _ _ _ (F3.cl) Cv0)
theorem av_mSide_cryptoComes_b47_lp {C : Nat → Prop} (n : Nat) : ∀ {v0 : Nat} {v1 : Int} {v2 : Int} {v3 : Int} {h : Hp}, Cl C h → C v0 → Ao (qI C h) (f_mSide_cryptoComes_b47_lp n v0 v1 v2 v3 h) := by
  induction n with
  | zero => intros; exact ao_no
  | succ n ih => intro v0 v1 v2 v3 h c Cv0; exact av_mSide_cryptoComes_b47 (fun _ _ _ _ h => ih) c Cv0
theorem av_mSide_cryptoComes {C : Nat → Prop} {v0 : Nat} {v1 : Int} {h : Hp} (c : Cl C h) (Cv0 : C v0) : Ao (qI C h) (f_mSide_cryptoComes v0 v1 h) := by
  unfold f_mSide_cryptoComes
  have F0 := Av.rf c
  refine ao_it ao_no ?_
  refine ao_it ao_no ?_
  refine ao_it ?_ ao_no
  refine ao_it ?_ ?_
  · refine ao_it ?_ ao_no
    refine ao_v (fun y5 => ?_)
    exact ao_jI F0 (av_mSide_cryptoComes_b47_lp FU (F0.cl) Cv0)
  · exact ao_so F0
theorem av_mStreams_meant_b58 {C : Nat → Prop} {v0 : Nat} {v1 : Int} {v2 : Int} {h : Hp} (c : Cl C h) : Ao (qI C h) (f_mStreams_meant_b58 v0 v1 v2 h) := by
  unfold f_mStreams_meant_b58
  have F0 := Av.rf c
  refine ao_b2 F0 (av_mStreams_opens (F0.cl)) (fun r17 h15 F1 => ?_)
  refine ao_it ?_ ?_
  · exact ao_so F1
  · refine ao_b2 F1 (av_mStreams_wayOf (F1.cl)) (fun r20 h18 F2 => ?_)
    refine ao_it ao_no ?_
    refine ao_it ?_ ao_no
    refine ao_it ?_ ?_
    · exact ao_so F2
    · exact ao_so F2
theorem av_mStreams_meant_b32 {C : Nat → Prop} {v0 : Nat} {v1 : Int} {v2 : Int} {v4 : Int} {h : Hp} (c : Cl C h) : Ao (qI C h) (f_mStreams_meant_b32 v0 v1 v2 v4 h) := by
  unfold f_mStreams_meant_b32
  have F0 := Av.rf c
  refine ao_it ?_ ?_
  · refine ao_b2 F0 (av_mStreams_receives (F0.cl)) (fun r11 h9 F1 => ?_)
    refine ao_it ?_ ?_
    · exact ao_jI F1 (av_mStreams_meant_b58 (F1.cl))
    · exact ao_so F1
  · refine ao_b2 F0 (av_mStreams_sends (F0.cl)) (fun r14 h12 F2 => ?_)
    refine ao_it ?_ ?_
    · exact ao_jI F2 (av_mStreams_meant_b58 (F2.cl))
    · exact ao_so F2
theorem av_mStreams_meant {C : Nat → Prop} {v0 : Nat} {v1 : Int} {v2 : Int} {v4 : Int} {h : Hp} (c : Cl C h) : Ao (qI C h) (f_mStreams_meant v0 v1 v2 v4 h) := by
  unfold f_mStreams_meant
  have F0 := Av.rf c
  refine ao_b2 F0 (av_mStreams_opens (F0.cl)) (fun r3 h1 F1 => ?_)
  refine ao_it ?_ ?_
  · exact ao_jI F1 (av_mStreams_meant_b32 (F1.cl))
  · refine ao_it ?_ ?_
    · exact ao_so F1
    · refine ao_b2 F1 (av_mStreams_at (F1.cl)) (fun r6 h4 F2 => ?_)
      refine ao_it ao_no ?_
      refine ao_it ?_ ao_no
      refine ao_it ?_ ?_
      · exact ao_jI F2 (av_mStreams_meant_b32 (F2.cl))
      · exact ao_so F2
theorem av_mStreams_received_b5 {C : Nat → Prop} {k5 : Nat → Int → Int → Int → Hp → Option (Int × Hp)} (hk5 : ∀ (v0 : Nat) (v1 : Int) (v2 : Int) (v4 : Int) (h : Hp), Cl C h → Ao (qI C h) (k5 v0 v1 v2 v4 h)) {v0 : Nat} {v1 : Int} {v2 : Int} {v4 : Int} {h : Hp} (c : Cl C h) : Ao (qI C h) (f_mStreams_received_b5 k5 v0 v1 v2 v4 h) := by
  unfold f_mStreams_received_b5
  have F0 := Av.rf c
  refine ao_it ?_ ?_
  · exact ao_so F0
  · refine ao_b2 F0 (av_mStreams_at (F0.cl)) (fun r3 h1 F1 => ?_)
    refine ao_it ao_no ?_
    refine ao_it ?_ ao_no
    refine ao_v (fun y6 => ?_)
    exact ao_jI F1 (hk5 _ _ _ _ _ (F1.cl))
theorem av_mStreams_received_b5_lp {C : Nat → Prop} (n : Nat) : ∀ {v0 : Nat} {v1 : Int} {v2 : Int} {v4 : Int} {h : Hp}, Cl C h → Ao (qI C h) (f_mStreams_received_b5_lp n v0 v1 v2 v4 h) := by
  induction n with
  | zero => intros; exact ao_no
  | succ n ih => intro v0 v1 v2 v4 h c; exact av_mStreams_received_b5 (fun _ _ _ _ h => ih) c
theorem av_mStreams_received {C : Nat → Prop} {v0 : Nat} {v1 : Int} {h : Hp} (c : Cl C h) : Ao (qI C h) (f_mStreams_received v0 v1 h) := by
  unfold f_mStreams_received
  have F0 := Av.rf c
  exact ao_jI F0 (av_mStreams_received_b5_lp FU (F0.cl))
theorem av_mStreams_reaches_b151 {C : Nat → Prop} {v0 : Nat} {h : Hp} (c : Cl C h) : Ao (qI C h) (f_mStreams_reaches_b151 v0 h) := by
  unfold f_mStreams_reaches_b151
  have F0 := Av.rf c
  exact ao_so F0
theorem av_mStreams_reaches_b124 {C : Nat → Prop} {v0 : Nat} {v1 : Int} {v3 : Int} {v7 : Int} {s0 : Int} {h : Hp} (c : Cl C h) : Ao (qI C h) (f_mStreams_reaches_b124 v0 v1 v3 v7 s0 h) := by
  unfold f_mStreams_reaches_b124
  have F0 := Av.rf c
  refine ao_it ?_ ?_
  · exact ao_jI F0 (av_mStreams_reaches_b151 (F0.cl))
  · refine ao_b2 F0 (av_mStreams_received (F0.cl)) (fun r22 h20 F1 => ?_)
    refine ao_it ao_no ?_
    refine ao_it ?_ ao_no
    refine ao_it ?_ ?_
    · exact ao_so F1
    · exact ao_jI F1 (av_mStreams_reaches_b151 (F1.cl))
theorem av_mStreams_reaches_b97 {C : Nat → Prop} {v0 : Nat} {v1 : Int} {v3 : Int} {v6 : Int} {s0 : Int} {h : Hp} (c : Cl C h) : Ao (qI C h) (f_mStreams_reaches_b97 v0 v1 v3 v6 s0 h) := by
  unfold f_mStreams_reaches_b97
  have F0 := Av.rf c
  refine ao_it ao_no ?_
  refine ao_it ?_ ao_no
  refine ao_it ?_ ?_
  · exact ao_jI F0 (av_mStreams_reaches_b124 (F0.cl))
  · refine ao_it ?_ ao_no
    exact ao_jI F0 (av_mStreams_reaches_b124 (F0.cl))
theorem av_mStreams_reaches_b71 {C : Nat → Prop} {v0 : Nat} {v1 : Int} {v2 : Int} {v3 : Int} {v6 : Int} {h : Hp} (c : Cl C h) : Ao (qI C h) (f_mStreams_reaches_b71 v0 v1 v2 v3 v6 h) := by
  unfold f_mStreams_reaches_b71
  have F0 := Av.rf c
  refine ao_it ao_no ?_
  refine ao_it ?_ ao_no
  refine ao_it ?_ ?_
  · refine ao_b2 F0 (av_mStreams_grantOf (F0.cl)) (fun r14 h12 F1 => ?_)
    exact ao_jI F1 (av_mStreams_reaches_b97 (F1.cl))
  · refine ao_it ao_no ?_
    refine ao_it ?_ ao_no
    exact ao_jI F0 (av_mStreams_reaches_b97 (F0.cl))
theorem av_mStreams_reaches_b51 {C : Nat → Prop} {v0 : Nat} {v1 : Int} {v2 : Int} {v3 : Int} {v5 : Int} {v6 : Int} {h : Hp} (c : Cl C h) : Ao (qI C h) (f_mStreams_reaches_b51 v0 v1 v2 v3 v5 v6 h) := by
  unfold f_mStreams_reaches_b51
  have F0 := Av.rf c
  refine ao_it ?_ ?_
  · exact ao_jI F0 (av_mStreams_reaches_b71 (F0.cl))
  · refine ao_it ao_no ?_
    refine ao_it ?_ ao_no
    refine ao_it ?_ ?_
    · exact ao_jI F0 (av_mStreams_reaches_b71 (F0.cl))
    · exact ao_so F0
theorem av_mStreams_reaches {C : Nat → Prop} {v0 : Nat} {v1 : Int} {v2 : Int} {v3 : Int} {v5 : Int} {h : Hp} (c : Cl C h) : Ao (qI C h) (f_mStreams_reaches v0 v1 v2 v3 v5 h) := by
  unfold f_mStreams_reaches
  have F0 := Av.rf c
  refine ao_b2 F0 (av_mStreams_at (F0.cl)) (fun r3 h1 F1 => ?_)
  refine ao_it ao_no ?_
  refine ao_it ?_ ao_no
  refine ao_it ?_ ?_
  · exact ao_jI F1 (av_mStreams_reaches_b51 (F1.cl))
  · refine ao_it ?_ ao_no
    refine ao_it ?_ ?_
    · exact ao_so F1
    · refine ao_it ?_ ?_
      · exact ao_jI F1 (av_mStreams_reaches_b51 (F1.cl))
      · refine ao_it ?_ ao_no
        refine ao_it ?_ ?_
        · exact ao_jI F1 (av_mStreams_reaches_b51 (F1.cl))
        · exact ao_so F1
theorem av_mStreams_comesThere_b20 {C : Nat → Prop} {k20 : Nat → Int → Int → Int → Hp → Option (Hp)} (hk20 : ∀ (v0 : Nat) (v1 : Int) (v2 : Int) (v3 : Int) (h : Hp), Cl C h → C v0 → Ao (qV C h) (k20 v0 v1 v2 v3 h)) {v0 : Nat} {v1 : Int} {v2 : Int} {v3 : Int} {h : Hp} (c : Cl C h) (Cv0 : C v0) : Ao (qV C h) (f_mStreams_comesThere_b20 k20 v0 v1 v2 v3 h) := by
  unfold f_mStreams_comesThere_b20
  have F0 := Av.rf c
  refine ao_it ao_no ?_
  refine ao_it ?_ ao_no
  refine ao_it ?_ ?_
  · exact ao_so F0
  · refine ao_it ?_ ao_no
    refine ao_b1 F0 (av_mStreams_begin (F0.cl) Cv0) (fun h11 F1 => ?_)
    refine ao_it ao_no ?_
    refine ao_it ?_ ao_no
    refine ao_it ?_ ao_no
    refine ao_I F1 (F1.cl.r Cv0) (fun h16 F2 => ?_)
    exact ao_jV F2 (hk20 _ _ _ _ _ (F2.cl) Cv0)
theorem av_mStreams_comesThere_b20_lp {C : Nat → Prop} (n : Nat) : ∀ {v0 : Nat} {v1 : Int} {v2 : Int} {v3 : Int} {h : Hp}, Cl C h → C v0 → Ao (qV C h) (f_mStreams_comesThere_b20_lp n v0 v1 v2 v3 h) := by
  induction n with
  | zero => intros; exact ao_no
  | succ n ih => intro v0 v1 v2 v3 h c Cv0; exact av_mStreams_comesThere_b20 (fun _ _ _ _ h => ih) c Cv0
theorem av_mStreams_comesThere {C : Nat → Prop} {v0 : Nat} {v1 : Int} {v2 : Int} {h : Hp} (c : Cl C h) (Cv0 : C v0) : Ao (qV C h) (f_mStreams_comesThere v0 v1 v2 h) := by
  unfold f_mStreams_comesThere
  have F0 := Av.rf c
  refine ao_b2 F0 (av_mStreams_wayOf (F0.cl)) (fun r3 h1 F1 => ?_)
  refine ao_v (fun y4 => ?_)
  refine ao_b2 F1 (av_mStreams_opens (F1.cl)) (fun r7 h5 F3 => ?_)
  refine ao_it ?_ ?_
  · exact ao_jV F3 (av_mStreams_comesThere_b20_lp FU (F3.cl) Cv0)
  · exact ao_so F3
theorem av_mStreams_greater {C : Nat → Prop} {v0 : Int} {v2 : Int} {h : Hp} (c : Cl C h) : Ao (qI C h) (f_mStreams_greater v0 v2 h) := by
  unfold f_mStreams_greater
  have F0 := Av.rf c
  refine ao_it ?_ ?_
  · exact ao_so F0
  · exact ao_so F0
theorem av_mStreams_comes_b83 {C : Nat → Prop} {v0 : Nat} {v3 : Int} {v4 : Int} {v6 : Int} {h : Hp} (c : Cl C h) (Cv0 : C v0) : Ao (qV C h) (f_mStreams_comes_b83 v0 v3 v4 v6 h) := by
  unfold f_mStreams_comes_b83
  have F0 := Av.rf c
  refine ao_it ao_no ?_
  refine ao_it ?_ ao_no
  refine ao_it ?_ ?_
  · refine ao_it ?_ ao_no
    refine ao_it ?_ ao_no
    refine ao_J F0 (F0.cl.r Cv0) (fun h28 F1 => ?_)
    refine ao_it ao_no ?_
    refine ao_it ?_ ao_no
    refine ao_I F1 (F1.cl.r Cv0) (fun h31 F2 => ?_)
    exact ao_so F2
  · exact ao_so F0
theorem av_mStreams_comes {C : Nat → Prop} {v0 : Nat} {v1 : Int} {v2 : Int} {v3 : Int} {v4 : Int} {h : Hp} (c : Cl C h) (Cv0 : C v0) : Ao (qV C h) (f_mStreams_comes v0 v1 v2 v3 v4 h) := by
  unfold f_mStreams_comes
  have F0 := Av.rf c
  refine ao_b2 F0 (av_mStreams_at (F0.cl)) (fun r3 h1 F1 => ?_)
  refine ao_b2 F1 (av_mStreams_pieceAt (F1.cl)) (fun r6 h4 F2 => ?_)
  refine ao_it ?_ ?_
  · exact ao_jV F2 (av_mStreams_comes_b83 (F2.cl) Cv0)
  · refine ao_it ao_no ?_
    refine ao_it ?_ ao_no
    refine ao_v (fun y9 => ?_)
    refine ao_it ?_ ao_no
    refine ao_it ?_ ao_no
    refine ao_I F2 (F2.cl.r Cv0) (fun h12 F4 => ?_)
    refine ao_it ao_no ?_
    refine ao_it ?_ ao_no
    refine ao_I F4 (F4.cl.r Cv0) (fun h15 F5 => ?_)
    refine ao_it ao_no ?_
    refine ao_it ?_ ao_no
    refine ao_it ao_no ?_
    refine ao_it ?_ ao_no
    refine ao_I F5 (F5.cl.r Cv0) (fun h20 F6 => ?_)
    refine ao_it ao_no ?_
    refine ao_it ?_ ao_no
    refine ao_I F6 (F6.cl.r Cv0) (fun h23 F7 => ?_)
    exact ao_jV F7 (av_mStreams_comes_b83 (F7.cl) Cv0)
theorem av_mStreams_makeReady_b15 {C : Nat → Prop} {k15 : Nat → Int → Int → Hp → Option (Hp)} (hk15 : ∀ (v0 : Nat) (v1 : Int) (v2 : Int) (h : Hp), Cl C h → C v0 → Ao (qV C h) (k15 v0 v1 v2 h)) {v0 : Nat} {v1 : Int} {v2 : Int} {h : Hp} (c : Cl C h) (Cv0 : C v0) : Ao (qV C h) (f_mStreams_makeReady_b15 k15 v0 v1 v2 h) := by
  unfold f_mStreams_makeReady_b15
  have F0 := Av.rf c
  refine ao_it ?_ ?_
  · exact ao_so F0
  · refine ao_it ao_no ?_
    refine ao_it ?_ ao_no
    refine ao_it ao_no ?_
    refine ao_it ?_ ao_no
    refine ao_it ?_ ?_
    · exact ao_so F0
    · refine ao_it ?_ ao_no
      refine ao_it ?_ ao_no
      refine ao_I F0 (F0.cl.r Cv0) (fun h12 F1 => ?_)
      refine ao_it ao_no ?_
      refine ao_it ?_ ao_no
      refine ao_it ?_ ?_
      · exact ao_jV F1 (hk15 _ _ _ _ (F1.cl) Cv0)
      · refine ao_it ?_ ao_no
        refine ao_b2 F1 (av_mStreams_pieceAt (F1.cl)) (fun r18 h16 F2 => ?_)
        exact ao_jV F2 (hk15 _ _ _ _ (F2.cl) Cv0)
theorem av_mStreams_makeReady_b15_lp {C : Nat → Prop} (n : Nat) : ∀ {v0 : Nat} {v1 : Int} {v2 : Int} {h : Hp}, Cl C h → C v0 → Ao (qV C h) (f_mStreams_makeReady_b15_lp n v0 v1 v2 h) := by
  induction n with
  | zero => intros; exact ao_no
  | succ n ih => intro v0 v1 v2 h c Cv0; exact av_mStreams_makeReady_b15 (fun _ _ _ h => ih) c Cv0
theorem av_mStreams_makeReady {C : Nat → Prop} {v0 : Nat} {v1 : Int} {h : Hp} (c : Cl C h) (Cv0 : C v0) : Ao (qV C h) (f_mStreams_makeReady v0 v1 h) := by
  unfold f_mStreams_makeReady
  have F0 := Av.rf c
  refine ao_it ao_no ?_
  refine ao_it ?_ ao_no
  refine ao_b2 F0 (av_mStreams_pieceAt (F0.cl)) (fun r5 h3 F1 => ?_)
  exact ao_jV F1 (av_mStreams_makeReady_b15_lp FU (F1.cl) Cv0)
theorem av_mStreams_takeStream_b177 {C : Nat → Prop} {v0 : Nat} {v1 : Int} {v5 : Int} {v6 : Int} {h : Hp} (c : Cl C h) (Cv0 : C v0) : Ao (qI C h) (f_mStreams_takeStream_b177 v0 v1 v5 v6 h) := by
  unfold f_mStreams_takeStream_b177
  have F0 := Av.rf c
  refine ao_b1 F0 (av_mStreams_makeReady (F0.cl) Cv0) (fun h32 F1 => ?_)
  refine ao_b1 F1 (av_mStreams_looksOver (F1.cl) Cv0) (fun h34 F2 => ?_)
  exact ao_so F2
theorem av_mStreams_takeStream_b135 {C : Nat → Prop} {k135 : Nat → Int → Nat → Int → Int → Int → Int → Int → Hp → Option (Int × Hp)} (hk135 : ∀ (v0 : Nat) (v1 : Int) (v2 : Nat) (v3 : Int) (v5 : Int) (v6 : Int) (v9 : Int) (v10 : Int) (h : Hp), Cl C h → C v0 → Ao (qI C h) (k135 v0 v1 v2 v3 v5 v6 v9 v10 h)) {v0 : Nat} {v1 : Int} {v2 : Nat} {v3 : Int} {v5 : Int} {v6 : Int} {v9 : Int} {v10 : Int} {h : Hp} (c : Cl C h) (Cv0 : C v0) : Ao (qI C h) (f_mStreams_takeStream_b135 k135 v0 v1 v2 v3 v5 v6 v9 v10 h) := by
  unfold f_mStreams_takeStream_b135
  have F0 := Av.rf c
  refine ao_it ?_ ?_
  · exact ao_jI F0 (av_mStreams_takeStream_b177 (F0.cl) Cv0)
  · refine ao_it ?_ ?_
    · exact ao_jI F0 (av_mStreams_takeStream_b177 (F0.cl) Cv0)
    · refine ao_it ao_no ?_
      refine ao_it ?_ ao_no
      refine ao_b1 F0 (av_mStreams_comes (F0.cl) Cv0) (fun h30 F1 => ?_)
      exact ao_jI F1 (hk135 _ _ _ _ _ _ _ _ _ (F1.cl) Cv0)
theorem av_mStreams_takeStream_b135_lp {C : Nat → Prop} (n : Nat) : ∀ {v0 : Nat} {v1 : Int} {v2 : Nat} {v3 : Int} {v5 : Int} {v6 : Int} {v9 : Int} {v10 : Int} {h : Hp}, Cl C h → C v0 → Ao (qI C h) (f_mStreams_takeStream_b135_lp n v0 v1 v2 v3 v5 v6 v9 v10 h) := by
  induction n with
  | zero => intros; exact ao_no
  | succ n ih => intro v0 v1 v2 v3 v5 v6 v9 v10 h c Cv0; exact av_mStreams_takeStream_b135 (fun _ _ _ _ _ _ _ _ h => ih) c Cv0
theorem av_mStreams_takeStream_b132 {C : Nat → Prop} {v0 : Nat} {v1 : Int} {v2 : Nat} {v3 : Int} {v5 : Int} {v6 : Int} {v9 : Int} {h : Hp} (c : Cl C h) (Cv0 : C v0) : Ao (qI C h) (f_mStreams_takeStream_b132 v0 v1 v2 v3 v5 v6 v9 h) := by
  unfold f_mStreams_takeStream_b132
  have F0 := Av.rf c
  exact ao_jI F0 (av_mStreams_takeStream_b135_lp FU (F0.cl) Cv0)
theorem av_mStreams_takeStream_b67 {C : Nat → Prop} {v0 : Nat} {v1 : Int} {v2 : Nat} {v3 : Int} {v5 : Int} {v6 : Int} {v7 : Int} {s0 : Nat} {s1 : Int} {s2 : Int} {s3 : Int} {s4 : Int} {h : Hp} (c : Cl C h) (Cv0 : C v0) : Ao (qI C h) (f_mStreams_takeStream_b67 v0 v1 v2 v3 v5 v6 v7 s0 s1 s2 s3 s4 h) := by
  unfold f_mStreams_takeStream_b67
  have F0 := Av.rf c
  refine ao_it ao_no ?_
  refine ao_b2 F0 (av_mStreams_reaches (F0.cl)) (fun r12 h10 F1 => ?_)
  refine ao_it ?_ ?_
  · refine ao_b1 F1 (av_mStreams_comesThere (F1.cl) Cv0) (fun h13 F2 => ?_)
    refine ao_b2 F2 (av_mStreams_receiving (F2.cl)) (fun r17 h15 F3 => ?_)
    refine ao_it ao_no ?_
    refine ao_it ?_ ao_no
    refine ao_b2 F3 (av_mStreams_greater (F3.cl)) (fun r22 h20 F4 => ?_)
    refine ao_it ?_ ao_no
    refine ao_J F4 (F3.cl.r Cv0) (fun h24 F5 => ?_)
    refine ao_it ?_ ?_
    · exact ao_jI F5 (av_mStreams_takeStream_b132 (F5.cl) Cv0)
    · refine ao_it ao_no ?_
      refine ao_it ?_ ao_no
      refine ao_J F5 (F5.cl.r Cv0) (fun h27 F6 => ?_)
      exact ao_jI F6 (av_mStreams_takeStream_b132 (F6.cl) Cv0)
  · exact ao_so F1
theorem av_mStreams_takeStream {C : Nat → Prop} {v0 : Nat} {v1 : Int} {v2 : Nat} {v3 : Int} {h : Hp} (c : Cl C h) (Cv0 : C v0) : Ao (qI C h) (f_mStreams_takeStream v0 v1 v2 v3 h) := by
  unfold f_mStreams_takeStream
  have F0 := Av.rf c
  refine ao_b2 F0 (av_mStreams_meant (F0.cl)) (fun r3 h1 F1 => ?_)
  refine ao_it ?_ ?_
  · refine ao_v (fun y4 => ?_)
    refine ao_b2 F1 (av_mStreams_at (F1.cl)) (fun r7 h5 F3 => ?_)
    refine ao_v (fun y8 => ?_)
    refine ao_it ?_ ?_
    · exact ao_jI F3 (av_mStreams_takeStream_b67 (F3.cl) Cv0)
    · exact ao_jI F3 (av_mStreams_takeStream_b67 (F3.cl) Cv0)
  · exact ao_so F1
theorem av_mStreams_takeReset {C : Nat → Prop} {v0 : Nat} {v1 : Int} {h : Hp} (c : Cl C h) (Cv0 : C v0) : Ao (qI C h) (f_mStreams_takeReset v0 v1 h) := by
  unfold f_mStreams_takeReset
  have F0 := Av.rf c
  refine ao_b2 F0 (av_mStreams_meant (F0.cl)) (fun r3 h1 F1 => ?_)
  refine ao_it ?_ ?_
  · refine ao_v (fun y4 => ?_)
    refine ao_b2 F1 (av_mStreams_at (F1.cl)) (fun r7 h5 F3 => ?_)
    refine ao_b2 F3 (av_mStreams_reaches (F3.cl)) (fun r10 h8 F4 => ?_)
    refine ao_it ?_ ?_
    · refine ao_b1 F4 (av_mStreams_comesThere (F4.cl) Cv0) (fun h11 F5 => ?_)
      refine ao_b2 F5 (av_mStreams_receiving (F5.cl)) (fun r15 h13 F6 => ?_)
      refine ao_it ao_no ?_
      refine ao_it ?_ ao_no
      refine ao_J F6 (F6.cl.r Cv0) (fun h18 F7 => ?_)
      refine ao_it ao_no ?_
      refine ao_it ?_ ao_no
      refine ao_J F7 (F7.cl.r Cv0) (fun h21 F8 => ?_)
      refine ao_it ?_ ?_
      · refine ao_it ao_no ?_
        refine ao_it ?_ ao_no
        refine ao_I F8 (F8.cl.r Cv0) (fun h24 F9 => ?_)
        refine ao_it ao_no ?_
        refine ao_it ?_ ao_no
        refine ao_J F9 (F9.cl.r Cv0) (fun h27 F10 => ?_)
        refine ao_b1 F10 (av_mStreams_growData (F10.cl) Cv0) (fun h28 F11 => ?_)
        refine ao_b1 F11 (av_mStreams_looksOver (F11.cl) Cv0) (fun h30 F12 => ?_)
        exact ao_so F12
      · exact ao_so F8
    · exact ao_so F4
  · exact ao_so F1
theorem av_mStreams_takeOther_b73 {C : Nat → Prop} {v0 : Nat} {v1 : Int} {v3 : Int} {h : Hp} (c : Cl C h) (Cv0 : C v0) : Ao (qI C h) (f_mStreams_takeOther_b73 v0 v1 v3 h) := by
  unfold f_mStreams_takeOther_b73
  have F0 := Av.rf c
  refine ao_it ?_ ?_
  · exact ao_so F0
  · refine ao_b2 F0 (av_mStreams_at (F0.cl)) (fun r18 h16 F1 => ?_)
    refine ao_b2 F1 (av_mStreams_at (F1.cl)) (fun r21 h19 F2 => ?_)
    refine ao_it ao_no ?_
    refine ao_it ?_ ao_no
    refine ao_b2 F2 (av_mStreams_greater (F2.cl)) (fun r26 h24 F3 => ?_)
    refine ao_it ao_no ?_
    refine ao_it ?_ ao_no
    refine ao_J F3 (F0.cl.r Cv0) (fun h29 F4 => ?_)
    exact ao_so F4
theorem av_mStreams_takeOther_b20 {C : Nat → Prop} {v0 : Nat} {v1 : Int} {s0 : Nat} {s1 : Int} {s2 : Int} {s3 : Int} {h : Hp} (c : Cl C h) (Cv0 : C v0) : Ao (qI C h) (f_mStreams_takeOther_b20 v0 v1 s0 s1 s2 s3 h) := by
  unfold f_mStreams_takeOther_b20
  have F0 := Av.rf c
  refine ao_it ao_no ?_
  refine ao_b2 F0 (av_mStreams_meant (F0.cl)) (fun r4 h2 F1 => ?_)
  refine ao_it ?_ ?_
  · refine ao_v (fun y5 => ?_)
    refine ao_b1 F1 (av_mStreams_comesThere (F1.cl) Cv0) (fun h6 F3 => ?_)
    refine ao_it ?_ ?_
    · exact ao_jI F3 (av_mStreams_takeOther_b73 (F3.cl) Cv0)
    · refine ao_b2 F3 (av_mStreams_at (F3.cl)) (fun r10 h8 F4 => ?_)
      refine ao_b2 F4 (av_mStreams_sending (F4.cl)) (fun r13 h11 F5 => ?_)
      refine ao_it ?_ ?_
      · exact ao_jI F5 (av_mStreams_takeOther_b73 (F5.cl) Cv0)
      · refine ao_b1 F5 (av_mStreams_doReset (F5.cl) Cv0) (fun h14 F6 => ?_)
        exact ao_jI F6 (av_mStreams_takeOther_b73 (F6.cl) Cv0)
  · exact ao_so F1
theorem av_mStreams_takeOther {C : Nat → Prop} {v0 : Nat} {v1 : Int} {h : Hp} (c : Cl C h) (Cv0 : C v0) : Ao (qI C h) (f_mStreams_takeOther v0 v1 h) := by
  unfold f_mStreams_takeOther
  have F0 := Av.rf c
  refine ao_it ?_ ?_
  · exact ao_jI F0 (av_mStreams_takeOther_b20 (F0.cl) Cv0)
  · exact ao_jI F0 (av_mStreams_takeOther_b20 (F0.cl) Cv0)
theorem av_mStreams_takes_b209 {C : Nat → Prop} {v0 : Nat} {s0 : Nat} {s1 : Int} {s2 : Int} {s3 : Int} {h : Hp} (c : Cl C h) (Cs0 : C s0) : Ao (qI C h) (f_mStreams_takes_b209 v0 s0 s1 s2 s3 h) := by
  unfold f_mStreams_takes_b209
  have F0 := Av.rf c
  refine ao_b2 F0 (av_mStreams_greater (F0.cl)) (fun r34 h32 F1 => ?_)
  refine ao_it ao_no ?_
  refine ao_it ?_ ao_no
  refine ao_J F1 Cs0 (fun h37 F2 => ?_)
  exact ao_so F2
theorem av_mStreams_takes_b165 {C : Nat → Prop} {v0 : Nat} {v1 : Int} {h : Hp} (c : Cl C h) (Cv0 : C v0) : Ao (qI C h) (f_mStreams_takes_b165 v0 v1 h) := by
  unfold f_mStreams_takes_b165
  have F0 := Av.rf c
  refine ao_v (fun y29 => ?_)
  refine ao_it ao_no ?_
  refine ao_it ?_ ao_no
  refine ao_it ?_ ?_
  · exact ao_jI F0 (av_mStreams_takes_b209 (F0.cl) (F0.cl.r Cv0))
  · exact ao_jI F0 (av_mStreams_takes_b209 (F0.cl) (F0.cl.r Cv0))
theorem av_mStreams_takes_b147 {C : Nat → Prop} {v0 : Nat} {v1 : Int} {h : Hp} (c : Cl C h) (Cv0 : C v0) : Ao (qI C h) (f_mStreams_takes_b147 v0 v1 h) := by
  unfold f_mStreams_takes_b147
  have F0 := Av.rf c
  refine ao_it ?_ ?_
  · exact ao_jI F0 (av_mStreams_takes_b165 (F0.cl) Cv0)
  · refine ao_it ?_ ?_
    · exact ao_so F0
    · exact ao_jI F0 (av_mStreams_takes_b165 (F0.cl) Cv0)
theorem av_mStreams_takes_b109 {C : Nat → Prop} {v0 : Nat} {v1 : Int} {h : Hp} (c : Cl C h) (Cv0 : C v0) : Ao (qI C h) (f_mStreams_takes_b109 v0 v1 h) := by
  unfold f_mStreams_takes_b109
  have F0 := Av.rf c
  refine ao_b2 F0 (av_mStreams_takeOther (F0.cl) Cv0) (fun r28 h26 F1 => ?_)
  exact ao_so F1
theorem av_mStreams_takes {C : Nat → Prop} {v0 : Nat} {v1 : Int} {v2 : Nat} {h : Hp} (c : Cl C h) (Cv0 : C v0) : Ao (qI C h) (f_mStreams_takes v0 v1 v2 h) := by
  unfold f_mStreams_takes
  have F0 := Av.rf c
  refine ao_it ao_no ?_
  refine ao_I F0 Cv0 (fun h2 F1 => ?_)
  refine ao_it ao_no ?_
  refine ao_it ?_ ao_no
  refine ao_J F1 Cv0 (fun h5 F2 => ?_)
  refine ao_it ao_no ?_
  refine ao_it ?_ ao_no
  refine ao_J F2 Cv0 (fun h8 F3 => ?_)
  refine ao_it ao_no ?_
  refine ao_it ?_ ao_no
  refine ao_J F3 Cv0 (fun h11 F4 => ?_)
  refine ao_I F4 Cv0 (fun h12 F5 => ?_)
  refine ao_it ?_ ?_
  · refine ao_it ?_ ?_
    · refine ao_it ?_ ?_
      · exact ao_jI F5 (av_mStreams_takes_b109 (F5.cl) Cv0)
      · refine ao_it ?_ ?_
        · exact ao_jI F5 (av_mStreams_takes_b109 (F5.cl) Cv0)
        · refine ao_it ?_ ?_
          · refine ao_it ?_ ?_
            · exact ao_jI F5 (av_mStreams_takes_b147 (F5.cl) Cv0)
            · refine ao_it ao_no ?_
              refine ao_it ?_ ao_no
              refine ao_b2 F5 (av_mStreams_greater (F5.cl)) (fun r17 h15 F6 => ?_)
              refine ao_it ?_ ao_no
              refine ao_J F6 (F5.cl.r Cv0) (fun h19 F7 => ?_)
              exact ao_jI F7 (av_mStreams_takes_b147 (F7.cl) Cv0)
          · exact ao_jI F5 (av_mStreams_takes_b109 (F5.cl) Cv0)
    · refine ao_b2 F5 (av_mStreams_takeReset (F5.cl) Cv0) (fun r22 h20 F8 => ?_)
      exact ao_so F8
  · refine ao_b2 F5 (av_mStreams_takeStream (F5.cl) Cv0) (fun r25 h23 F9 => ?_)
    exact ao_so F9
theorem av_mSide_does_b317 {C : Nat → Prop} {v0 : Nat} {h : Hp} (c : Cl C h) (Cv0 : C v0) : Ao (qI C h) (f_mSide_does_b317 v0 h) := by
  unfold f_mSide_does_b317
  have F0 := Av.rf c
  refine ao_it ao_no ?_
  refine ao_b2 F0 (av_mStreams_takes (F0.cl) (F0.cl.r Cv0)) (fun r91 h89 F1 => ?_)
  exact ao_so F1
theorem av_mSide_does_b288 {C : Nat → Prop} {v0 : Nat} {s0 : Nat} {s1 : Int} {s2 : Int} {h : Hp} (c : Cl C h) (Cv0 : C v0) (Cs0 : C s0) : Ao (qI C h) (f_mSide_does_b288 v0 s0 s1 s2 h) := by
  unfold f_mSide_does_b288
  have F0 := Av.rf c
  refine ao_it ao_no ?_
  refine ao_I F0 Cs0 (fun h85 F1 => ?_)
  refine ao_b1 F1 (av_mSide_end (F1.cl) Cv0) (fun h86 F2 => ?_)
  exact ao_so F2
theorem av_mSide_does_b257 {C : Nat → Prop} {v0 : Nat} {s0 : Nat} {s1 : Int} {h : Hp} (c : Cl C h) (Cv0 : C v0) (Cs0 : C s0) : Ao (qI C h) (f_mSide_does_b257 v0 s0 s1 h) := by
  unfold f_mSide_does_b257
  have F0 := Av.rf c
  refine ao_it ao_no ?_
  refine ao_it ao_no ?_
  refine ao_it ?_ ao_no
  refine ao_it ?_ ?_
  · refine ao_it ?_ ao_no
    exact ao_jI F0 (av_mSide_does_b288 (F0.cl) Cv0 Cs0)
  · exact ao_jI F0 (av_mSide_does_b288 (F0.cl) Cv0 Cs0)
theorem av_mSide_does_b235 {C : Nat → Prop} {v0 : Nat} {h : Hp} (c : Cl C h) (Cv0 : C v0) : Ao (qI C h) (f_mSide_does_b235 v0 h) := by
  unfold f_mSide_does_b235
  have F0 := Av.rf c
  refine ao_it ao_no ?_
  refine ao_it ?_ ?_
  · exact ao_jI F0 (av_mSide_does_b257 (F0.cl) Cv0 Cv0)
  · exact ao_jI F0 (av_mSide_does_b257 (F0.cl) Cv0 Cv0)
theorem av_mSide_does_b146 {C : Nat → Prop} {v0 : Nat} {v1 : Int} {h : Hp} (c : Cl C h) (Cv0 : C v0) : Ao (qI C h) (f_mSide_does_b146 v0 v1 h) := by
  unfold f_mSide_does_b146
  have F0 := Av.rf c
  refine ao_b2 F0 (av_mSide_acknowledged (F0.cl) Cv0) (fun r78 h76 F1 => ?_)
  exact ao_so F1
theorem av_mSide_does_b181 {C : Nat → Prop} {v0 : Nat} {h : Hp} (c : Cl C h) : Ao (qI C h) (f_mSide_does_b181 v0 h) := by
  unfold f_mSide_does_b181
  have F0 := Av.rf c
  exact ao_so F0
theorem av_mSide_does {C : Nat → Prop} {v0 : Nat} {v1 : Int} {h : Hp} (c : Cl C h) (Cv0 : C v0) : Ao (qI C h) (f_mSide_does v0 v1 h) := by
  unfold f_mSide_does
  have F0 := Av.rf c
  refine ao_it ao_no ?_
  refine ao_it ?_ ?_
  · exact ao_so F0
  · refine ao_it ?_ ?_
    · exact ao_so F0
    · refine ao_it ?_ ?_
      · exact ao_jI F0 (av_mSide_does_b146 (F0.cl) Cv0)
      · refine ao_it ?_ ?_
        · exact ao_jI F0 (av_mSide_does_b146 (F0.cl) Cv0)
        · refine ao_it ?_ ?_
          · exact ao_jI F0 (av_mSide_does_b317 (F0.cl) Cv0)
          · refine ao_it ?_ ?_
            · exact ao_jI F0 (av_mSide_does_b317 (F0.cl) Cv0)
            · refine ao_it ?_ ?_
              · refine ao_it ?_ ?_
                · refine ao_b2 F0 (av_mSide_cryptoComes (F0.cl) Cv0) (fun r18 h16 F1 => ?_)
                  exact ao_so F1
                · refine ao_it ao_no ?_
                  refine ao_it ?_ ao_no
                  refine ao_it ?_ ?_
                  · exact ao_jI F0 (av_mSide_does_b181 (F0.cl))
                  · refine ao_it ?_ ?_
                    · exact ao_so F0
                    · exact ao_jI F0 (av_mSide_does_b181 (F0.cl))
              · refine ao_it ?_ ?_
                · refine ao_it ?_ ?_
                  · exact ao_so F0
                  · exact ao_so F0
                · refine ao_it ?_ ?_
                  · exact ao_jI F0 (av_mSide_does_b317 (F0.cl) Cv0)
                  · refine ao_it ?_ ?_
                    · exact ao_jI F0 (av_mSide_does_b317 (F0.cl) Cv0)
                    · refine ao_it ?_ ?_
                      · exact ao_jI F0 (av_mSide_does_b317 (F0.cl) Cv0)
                      · refine ao_it ?_ ?_
                        · exact ao_jI F0 (av_mSide_does_b317 (F0.cl) Cv0)
                        · refine ao_it ?_ ?_
                          · exact ao_jI F0 (av_mSide_does_b317 (F0.cl) Cv0)
                          · refine ao_it ?_ ?_
                            · exact ao_jI F0 (av_mSide_does_b317 (F0.cl) Cv0)
                            · refine ao_it ?_ ?_
                              · exact ao_jI F0 (av_mSide_does_b317 (F0.cl) Cv0)
                              · refine ao_it ?_ ?_
                                · exact ao_jI F0 (av_mSide_does_b317 (F0.cl) Cv0)
                                · refine ao_it ?_ ?_
                                  · exact ao_jI F0 (av_mSide_does_b317 (F0.cl) Cv0)
                                  · refine ao_it ?_ ?_
                                    · exact ao_jI F0 (av_mSide_does_b317 (F0.cl) Cv0)
                                    · refine ao_it ?_ ?_
                                      · exact ao_jI F0 (av_mSide_does_b317 (F0.cl) Cv0)
                                      · refine ao_it ?_ ?_
                                        · exact ao_jI F0 (av_mSide_does_b317 (F0.cl) Cv0)
                                        · refine ao_it ?_ ?_
                                          · exact ao_jI F0 (av_mSide_does_b317 (F0.cl) Cv0)
                                          · refine ao_it ?_ ?_
                                            · exact ao_jI F0 (av_mSide_does_b317 (F0.cl) Cv0)
                                            · refine ao_it ?_ ?_
                                              · exact ao_jI F0 (av_mSide_does_b317 (F0.cl) Cv0)
                                              · refine ao_it ?_ ?_
                                                · exact ao_jI F0 (av_mSide_does_b317 (F0.cl) Cv0)
                                                · refine ao_it ?_ ?_
                                                  · exact ao_so F0
                                                  · refine ao_it ?_ ?_
                                                    · exact ao_so F0
                                                    · refine ao_it ?_ ?_
                                                      · refine ao_I F0 Cv0 (fun h61 F2 => ?_)
                                                        refine ao_it ao_no ?_
                                                        refine ao_it ao_no ?_
                                                        refine ao_it ?_ ao_no
                                                        refine ao_J F2 Cv0 (fun h65 F3 => ?_)
                                                        exact ao_so F3
                                                      · refine ao_it ?_ ?_
                                                        · exact ao_so F0
                                                        · refine ao_it ?_ ?_
                                                          · exact ao_jI F0 (av_mSide_does_b235 (F0.cl) Cv0)
                                                          · refine ao_it ?_ ?_
                                                            · exact ao_jI F0 (av_mSide_does_b235 (F0.cl) Cv0)
                                                            · refine ao_it ?_ ?_
                                                              · refine ao_it ?_ ?_
                                                                · refine ao_b1 F0 (av_mSide_confirm (F0.cl) Cv0) (fun h74 F4 => ?_)
                                                                  exact ao_so F4
                                                                · exact ao_so F0
                                                              · exact ao_jI F0 (av_mSide_does_b317 (F0.cl) Cv0)
theorem av_mBook_takeOut_b12 {C : Nat → Prop} {k12 : Nat → Int → Int → Hp → Option (Hp)} (hk12 : ∀ (v0 : Nat) (v1 : Int) (v3 : Int) (h : Hp), Cl C h → C v0 → Ao (qV C h) (k12 v0 v1 v3 h)) {v0 : Nat} {v1 : Int} {v3 : Int} {h : Hp} (c : Cl C h) (Cv0 : C v0) : Ao (qV C h) (f_mBook_takeOut_b12 k12 v0 v1 v3 h) := by
  unfold f_mBook_takeOut_b12
  have F0 := Av.rf c
  refine ao_it ao_no ?_
  refine ao_it ?_ ao_no
  refine ao_it ?_ ?_
  · exact ao_so F0
  · refine ao_it ao_no ?_
    refine ao_it ?_ ao_no
    refine ao_it ?_ ao_no
    refine ao_J F0 (F0.cl.r Cv0) (fun h10 F1 => ?_)
    refine ao_it ao_no ?_
    refine ao_it ?_ ao_no
    refine ao_it ?_ ao_no
    refine ao_J F1 (F1.cl.r Cv0) (fun h14 F2 => ?_)
    exact ao_jV F2 (hk12 _ _ _ _ (F2.cl) Cv0)
theorem av_mBook_takeOut_b12_lp {C : Nat → Prop} (n : Nat) : ∀ {v0 : Nat} {v1 : Int} {v3 : Int} {h : Hp}, Cl C h → C v0 → Ao (qV C h) (f_mBook_takeOut_b12_lp n v0 v1 v3 h) := by
  induction n with
  | zero => intros; exact ao_no
  | succ n ih => intro v0 v1 v3 h c Cv0; exact av_mBook_takeOut_b12 (fun _ _ _ h => ih) c Cv0
theorem av_mBook_takeOut {C : Nat → Prop} {v0 : Nat} {v1 : Int} {v2 : Int} {h : Hp} (c : Cl C h) (Cv0 : C v0) : Ao (qV C h) (f_mBook_takeOut v0 v1 v2 h) := by
  unfold f_mBook_takeOut
  have F0 := Av.rf c
  refine ao_it ao_no ?_
  refine ao_it ?_ ao_no
  refine ao_it ?_ ao_no
  refine ao_I F0 (F0.cl.r Cv0) (fun h4 F1 => ?_)
  exact ao_jV F1 (av_mBook_takeOut_b12_lp FU (F1.cl) Cv0)
theorem av_mBook_comeIn_b207 {C : Nat → Prop} {v0 : Nat} {v1 : Int} {h : Hp} (c : Cl C h) (Cv0 : C v0) : Ao (qV C h) (f_mBook_comeIn_b207 v0 v1 h) := by
  unfold f_mBook_comeIn_b207
  have F0 := Av.rf c
  refine ao_it ao_no ?_
  refine ao_it ?_ ao_no
  refine ao_it ?_ ?_
  · exact ao_so F0
  · refine ao_it ao_no ?_
    refine ao_it ?_ ao_no
    refine ao_it ao_no ?_
    refine ao_it ?_ ao_no
    refine ao_J F0 (F0.cl.r Cv0) (fun h46 F1 => ?_)
    refine ao_b1 F1 (av_mBook_takeOut (F1.cl) Cv0) (fun h47 F2 => ?_)
    exact ao_so F2
theorem av_mBook_comeIn_b159 {C : Nat → Prop} {v0 : Nat} {v1 : Int} {v2 : Int} {v4 : Int} {h : Hp} (c : Cl C h) (Cv0 : C v0) : Ao (qV C h) (f_mBook_comeIn_b159 v0 v1 v2 v4 h) := by
  unfold f_mBook_comeIn_b159
  have F0 := Av.rf c
  refine ao_it ?_ ?_
  · exact ao_jV F0 (av_mBook_comeIn_b207 (F0.cl) Cv0)
  · refine ao_it ao_no ?_
    refine ao_it ?_ ao_no
    refine ao_it ?_ ?_
    · exact ao_jV F0 (av_mBook_comeIn_b207 (F0.cl) Cv0)
    · refine ao_it ?_ ao_no
      refine ao_it ?_ ao_no
      refine ao_J F0 (F0.cl.r Cv0) (fun h37 F1 => ?_)
      refine ao_b1 F1 (av_mBook_takeOut (F1.cl) Cv0) (fun h38 F2 => ?_)
      exact ao_jV F2 (av_mBook_comeIn_b207 (F2.cl) Cv0)
theorem av_mBook_comeIn_b74 {C : Nat → Prop} {v0 : Nat} {v1 : Int} {v2 : Int} {v4 : Int} {h : Hp} (c : Cl C h) (Cv0 : C v0) : Ao (qV C h) (f_mBook_comeIn_b74 v0 v1 v2 v4 h) := by
  unfold f_mBook_comeIn_b74
  have F0 := Av.rf c
  refine ao_it ao_no ?_
  refine ao_it ?_ ao_no
  refine ao_J F0 (F0.cl.r Cv0) (fun h15 F1 => ?_)
  refine ao_it ao_no ?_
  refine ao_it ?_ ao_no
  refine ao_J F1 (F1.cl.r Cv0) (fun h18 F2 => ?_)
  refine ao_it ao_no ?_
  refine ao_it ?_ ao_no
  refine ao_it ?_ ao_no
  refine ao_I F2 (F2.cl.r Cv0) (fun h22 F3 => ?_)
  refine ao_it ao_no ?_
  refine ao_it ?_ ao_no
  refine ao_it ?_ ?_
  · exact ao_jV F3 (av_mBook_comeIn_b159 (F3.cl) Cv0)
  · refine ao_it ao_no ?_
    refine ao_it ?_ ao_no
    refine ao_it ?_ ?_
    · exact ao_jV F3 (av_mBook_comeIn_b159 (F3.cl) Cv0)
    · refine ao_it ao_no ?_
      refine ao_it ?_ ao_no
      refine ao_it ?_ ao_no
      refine ao_J F3 (F3.cl.r Cv0) (fun h30 F4 => ?_)
      refine ao_b1 F4 (av_mBook_takeOut (F4.cl) Cv0) (fun h31 F5 => ?_)
      exact ao_jV F5 (av_mBook_comeIn_b159 (F5.cl) Cv0)
theorem av_mBook_comeIn_b13 {C : Nat → Prop} {k13 : Nat → Int → Int → Int → Hp → Option (Hp)} (hk13 : ∀ (v0 : Nat) (v1 : Int) (v2 : Int) (v4 : Int) (h : Hp), Cl C h → C v0 → Ao (qV C h) (k13 v0 v1 v2 v4 h)) {v0 : Nat} {v1 : Int} {v2 : Int} {v4 : Int} {h : Hp} (c : Cl C h) (Cv0 : C v0) : Ao (qV C h) (f_mBook_comeIn_b13 k13 v0 v1 v2 v4 h) := by
  unfold f_mBook_comeIn_b13
  have F0 := Av.rf c
  refine ao_it ?_ ?_
  · exact ao_jV F0 (av_mBook_comeIn_b74 (F0.cl) Cv0)
  · refine ao_it ao_no ?_
    refine ao_it ?_ ao_no
    refine ao_it ?_ ?_
    · exact ao_jV F0 (av_mBook_comeIn_b74 (F0.cl) Cv0)
    · refine ao_it ?_ ao_no
      refine ao_it ?_ ao_no
      refine ao_J F0 (F0.cl.r Cv0) (fun h8 F1 => ?_)
      refine ao_it ao_no ?_
      refine ao_it ?_ ao_no
      refine ao_it ?_ ao_no
      refine ao_J F1 (F1.cl.r Cv0) (fun h12 F2 => ?_)
      exact ao_jV F2 (hk13 _ _ _ _ _ (F2.cl) Cv0)
theorem av_mBook_comeIn_b13_lp {C : Nat → Prop} (n : Nat) : ∀ {v0 : Nat} {v1 : Int} {v2 : Int} {v4 : Int} {h : Hp}, Cl C h → C v0 → Ao (qV C h) (f_mBook_comeIn_b13_lp n v0 v1 v2 v4 h) := by
  induction n with
  | zero => intros; exact ao_no
  | succ n ih => intro v0 v1 v2 v4 h c Cv0; exact av_mBook_comeIn_b13 (fun _ _ _ _ h => ih) c Cv0
theorem av_mBook_comeIn {C : Nat → Prop} {v0 : Nat} {v1 : Int} {v2 : Int} {h : Hp} (c : Cl C h) (Cv0 : C v0) : Ao (qV C h) (f_mBook_comeIn v0 v1 v2 h) := by
  unfold f_mBook_comeIn
  have F0 := Av.rf c
  refine ao_it ao_no ?_
  refine ao_it ?_ ao_no
  refine ao_v (fun y3 => ?_)
  exact ao_jV F0 (av_mBook_comeIn_b13_lp FU (F0.cl) Cv0)
theorem av_mBook_came_b103 {C : Nat → Prop} {v0 : Nat} {s0 : Nat} {s1 : Int} {s2 : Int} {h : Hp} (c : Cl C h) (Cs0 : C s0) : Ao (qV C h) (f_mBook_came_b103 v0 s0 s1 s2 h) := by
  unfold f_mBook_came_b103
  have F0 := Av.rf c
  refine ao_it ao_no ?_
  refine ao_it ?_ ao_no
  refine ao_it ao_no ?_
  refine ao_I F0 Cs0 (fun h25 F1 => ?_)
  exact ao_so F1
theorem av_mBook_came_b98 {C : Nat → Prop} {v0 : Nat} {s0 : Nat} {s1 : Int} {h : Hp} (c : Cl C h) (Cs0 : C s0) : Ao (qV C h) (f_mBook_came_b98 v0 s0 s1 h) := by
  unfold f_mBook_came_b98
  have F0 := Av.rf c
  exact ao_jV F0 (av_mBook_came_b103 (F0.cl) Cs0)
theorem av_mBook_came_b65 {C : Nat → Prop} {v0 : Nat} {v1 : Int} {v2 : Int} {v5 : Int} {h : Hp} (c : Cl C h) (Cv0 : C v0) : Ao (qV C h) (f_mBook_came_b65 v0 v1 v2 v5 h) := by
  unfold f_mBook_came_b65
  have F0 := Av.rf c
  refine ao_it ao_no ?_
  refine ao_it ?_ ao_no
  refine ao_it ?_ ao_no
  refine ao_I F0 (F0.cl.r Cv0) (fun h20 F1 => ?_)
  refine ao_it ao_no ?_
  refine ao_it ?_ ao_no
  refine ao_it ?_ ?_
  · exact ao_jV F1 (av_mBook_came_b98 (F1.cl) (F1.cl.r Cv0))
  · refine ao_it ?_ ?_
    · exact ao_jV F1 (av_mBook_came_b103 (F1.cl) (F1.cl.r Cv0))
    · exact ao_jV F1 (av_mBook_came_b98 (F1.cl) (F1.cl.r Cv0))
theorem av_mBook_came_b34 {C : Nat → Prop} {v0 : Nat} {v1 : Int} {v2 : Int} {v4 : Int} {v5 : Int} {h : Hp} (c : Cl C h) (Cv0 : C v0) : Ao (qV C h) (f_mBook_came_b34 v0 v1 v2 v4 v5 h) := by
  unfold f_mBook_came_b34
  have F0 := Av.rf c
  refine ao_b1 F0 (av_mBook_comeIn (F0.cl) Cv0) (fun h10 F1 => ?_)
  refine ao_it ?_ ?_
  · refine ao_it ao_no ?_
    refine ao_it ?_ ao_no
    refine ao_it ?_ ?_
    · exact ao_jV F1 (av_mBook_came_b65 (F1.cl) Cv0)
    · refine ao_it ao_no ?_
      refine ao_it ?_ ao_no
      refine ao_I F1 (F1.cl.r Cv0) (fun h16 F2 => ?_)
      exact ao_jV F2 (av_mBook_came_b65 (F2.cl) Cv0)
  · exact ao_so F1
theorem av_mBook_came {C : Nat → Prop} {v0 : Nat} {v1 : Int} {v2 : Int} {v4 : Int} {h : Hp} (c : Cl C h) (Cv0 : C v0) : Ao (qV C h) (f_mBook_came v0 v1 v2 v4 h) := by
  unfold f_mBook_came
  have F0 := Av.rf c
  refine ao_b2 F0 (av_mBook_isOld (F0.cl)) (fun r3 h1 F1 => ?_)
  refine ao_it ?_ ?_
  · refine ao_b2 F1 (av_mBook_greatest (F1.cl)) (fun r6 h4 F2 => ?_)
    refine ao_it ?_ ?_
    · exact ao_jV F2 (av_mBook_came_b34 (F2.cl) Cv0)
    · refine ao_it ao_no ?_
      refine ao_it ?_ ao_no
      refine ao_I F2 (F2.cl.r Cv0) (fun h9 F3 => ?_)
      exact ao_jV F3 (av_mBook_came_b34 (F3.cl) Cv0)
  · exact ao_so F1
theorem av_mSide_frames_b134 {C : Nat → Prop} {k13 : Nat → Nat → Int → Int → Int → Int → Hp → Option (Hp)} (hk13 : ∀ (v0 : Nat) (v1 : Nat) (v3 : Int) (v4 : Int) (v5 : Int) (v7 : Int) (h : Hp), Cl C h → C v0 → C v1 → Ao (qV C h) (k13 v0 v1 v3 v4 v5 v7 h)) {v0 : Nat} {v1 : Nat} {v3 : Int} {v4 : Int} {v5 : Int} {v7 : Int} {v9 : Int} {h : Hp} (c : Cl C h) (Cv0 : C v0) (Cv1 : C v1) : Ao (qV C h) (f_mSide_frames_b134 k13 v0 v1 v3 v4 v5 v7 v9 h) := by
  unfold f_mSide_frames_b134
  have F0 := Av.rf c
  refine ao_b2 F0 (av_mSide_isAlive (F0.cl)) (fun r23 h21 F1 => ?_)
  refine ao_it ?_ ?_
  · refine ao_it ao_no ?_
    refine ao_b1 F1 (av_mWire_look (F1.cl) (F1.cl.r Cv0) Cv1) (fun h25 F2 => ?_)
    exact ao_jV F2 (hk13 _ _ _ _ _ _ _ (F2.cl) Cv0 Cv1)
  · exact ao_so F1
theorem av_mSide_frames_b102 {C : Nat → Prop} {k13 : Nat → Nat → Int → Int → Int → Int → Hp → Option (Hp)} (hk13 : ∀ (v0 : Nat) (v1 : Nat) (v3 : Int) (v4 : Int) (v5 : Int) (v7 : Int) (h : Hp), Cl C h → C v0 → C v1 → Ao (qV C h) (k13 v0 v1 v3 v4 v5 v7 h)) {v0 : Nat} {v1 : Nat} {v3 : Int} {v4 : Int} {v5 : Int} {s0 : Int} {h : Hp} (c : Cl C h) (Cv0 : C v0) (Cv1 : C v1) : Ao (qV C h) (f_mSide_frames_b102 k13 v0 v1 v3 v4 v5 s0 h) := by
  unfold f_mSide_frames_b102
  have F0 := Av.rf c
  refine ao_it ao_no ?_
  refine ao_v (fun y15 => ?_)
  refine ao_b2 F0 (av_mSide_does (F0.cl) Cv0) (fun r18 h16 F2 => ?_)
  refine ao_it ?_ ?_
  · exact ao_jV F2 (av_mSide_frames_b134 hk13 (F2.cl) Cv0 Cv1)
  · refine ao_b1 F2 (av_mSide_closes (F2.cl) Cv0) (fun h19 F3 => ?_)
    exact ao_jV F3 (av_mSide_frames_b134 hk13 (F3.cl) Cv0 Cv1)
theorem av_mSide_frames_b101 {C : Nat → Prop} {k13 : Nat → Nat → Int → Int → Int → Int → Hp → Option (Hp)} (hk13 : ∀ (v0 : Nat) (v1 : Nat) (v3 : Int) (v4 : Int) (v5 : Int) (v7 : Int) (h : Hp), Cl C h → C v0 → C v1 → Ao (qV C h) (k13 v0 v1 v3 v4 v5 v7 h)) {v0 : Nat} {v1 : Nat} {v3 : Int} {v4 : Int} {v5 : Int} {h : Hp} (c : Cl C h) (Cv0 : C v0) (Cv1 : C v1) : Ao (qV C h) (f_mSide_frames_b101 k13 v0 v1 v3 v4 v5 h) := by
  unfold f_mSide_frames_b101
  have F0 := Av.rf c
  exact ao_jV F0 (av_mSide_frames_b102 hk13 (F0.cl) Cv0 Cv1)
theorem av_mSide_frames_b54 {C : Nat → Prop} {v0 : Nat} {s0 : Nat} {s1 : Int} {h : Hp} (c : Cl C h) (Cs0 : C s0) : Ao (qV C h) (f_mSide_frames_b54 v0 s0 s1 h) := by
  unfold f_mSide_frames_b54
  have F0 := Av.rf c
  refine ao_it ao_no ?_
  refine ao_b1 F0 (av_mSide_closes (F0.cl) Cs0) (fun h28 F1 => ?_)
  exact ao_so F1
theorem av_mSide_frames_b97 {C : Nat → Prop} {k13 : Nat → Nat → Int → Int → Int → Int → Hp → Option (Hp)} (hk13 : ∀ (v0 : Nat) (v1 : Nat) (v3 : Int) (v4 : Int) (v5 : Int) (v7 : Int) (h : Hp), Cl C h → C v0 → C v1 → Ao (qV C h) (k13 v0 v1 v3 v4 v5 v7 h)) {v0 : Nat} {v1 : Nat} {v3 : Int} {v4 : Int} {v5 : Int} {h : Hp} (c : Cl C h) (Cv0 : C v0) (Cv1 : C v1) : Ao (qV C h) (f_mSide_frames_b97 k13 v0 v1 v3 v4 v5 h) := by
  unfold f_mSide_frames_b97
  have F0 := Av.rf c
  exact ao_jV F0 (av_mSide_frames_b102 hk13 (F0.cl) Cv0 Cv1)
theorem av_mSide_frames_b13 {C : Nat → Prop} {k13 : Nat → Nat → Int → Int → Int → Int → Hp → Option (Hp)} (hk13 : ∀ (v0 : Nat) (v1 : Nat) (v3 : Int) (v4 : Int) (v5 : Int) (v7 : Int) (h : Hp), Cl C h → C v0 → C v1 → Ao (qV C h) (k13 v0 v1 v3 v4 v5 v7 h)) {v0 : Nat} {v1 : Nat} {v3 : Int} {v4 : Int} {v5 : Int} {v7 : Int} {h : Hp} (c : Cl C h) (Cv0 : C v0) (Cv1 : C v1) : Ao (qV C h) (f_mSide_frames_b13 k13 v0 v1 v3 v4 v5 v7 h) := by
  unfold f_mSide_frames_b13
  have F0 := Av.rf c
  refine ao_it ao_no ?_
  refine ao_it ?_ ?_
  · refine ao_it ao_no ?_
    refine ao_it ao_no ?_
    refine ao_it ?_ ao_no
    refine ao_it ?_ ?_
    · exact ao_so F0
    · refine ao_b1 F0 (av_mBook_came (F0.cl) (F0.cl.r Cv0)) (fun h8 F1 => ?_)
      exact ao_so F1
  · refine ao_b2 F0 (av_mWire_read (F0.cl) (F0.cl.r Cv0)) (fun r12 h10 F2 => ?_)
    refine ao_it ?_ ?_
    · refine ao_it ?_ ?_
      · exact ao_jV F2 (av_mSide_frames_b97 hk13 (F2.cl) Cv0 Cv1)
      · refine ao_it ao_no ?_
        refine ao_it ?_ ?_
        · exact ao_jV F2 (av_mSide_frames_b101 hk13 (F2.cl) Cv0 Cv1)
        · refine ao_it ?_ ?_
          · exact ao_jV F2 (av_mSide_frames_b101 hk13 (F2.cl) Cv0 Cv1)
          · refine ao_it ?_ ?_
            · exact ao_jV F2 (av_mSide_frames_b101 hk13 (F2.cl) Cv0 Cv1)
            · exact ao_jV F2 (av_mSide_frames_b97 hk13 (F2.cl) Cv0 Cv1)
    · refine ao_it ?_ ?_
      · exact ao_jV F2 (av_mSide_frames_b54 (F2.cl) Cv0)
      · exact ao_jV F2 (av_mSide_frames_b54 (F2.cl) Cv0)
theorem av_mSide_frames_b13_lp {C : Nat → Prop} (n : Nat) : ∀ {v0 : Nat} {v1 : Nat} {v3 : Int} {v4 : Int} {v5 : Int} {v7 : Int} {h : Hp}, Cl C h → C v0 → C v1 → Ao (qV C h) (f_mSide_frames_b13_lp n v0 v1 v3 v4 v5 v7 h) := by
  induction n with
  | zero => intros; exact ao_no
  | succ n ih => intro v0 v1 v3 v4 v5 v7 h c Cv0 Cv1; exact av_mSide_frames_b13 (fun _ _ _ _ _ _ h => ih) c Cv0 Cv1
theorem av_mSide_frames {C : Nat → Prop} {v0 : Nat} {v1 : Nat} {v2 : Int} {v3 : Int} {v4 : Int} {v5 : Int} {h : Hp} (c : Cl C h) (Cv0 : C v0) (Cv1 : C v1) : Ao (qV C h) (f_mSide_frames v0 v1 v2 v3 v4 v5 h) := by
  unfold f_mSide_frames
  have F0 := Av.rf c
  refine ao_it ao_no ?_
  refine ao_b1 F0 (av_mWire_look (F0.cl) (F0.cl.r Cv0) Cv1) (fun h2 F1 => ?_)
  exact ao_jV F1 (av_mSide_frames_b13_lp FU (F1.cl) Cv0 Cv1)
theorem av_mSide_packet_b336 {C : Nat → Prop} {v0 : Nat} {h : Hp} (c : Cl C h) (Cv0 : C v0) : Ao (qV C h) (f_mSide_packet_b336 v0 h) := by
  unfold f_mSide_packet_b336
  have F0 := Av.rf c
  refine ao_b1 F0 (av_mSide_closes (F0.cl) Cv0) (fun h70 F1 => ?_)
  exact ao_so F1
theorem av_mSide_packet_b314 {C : Nat → Prop} {v0 : Nat} {v1 : Nat} {v2 : Nat} {v4 : Int} {v5 : Int} {v11 : Int} {v13 : Int} {s0 : Int} {s1 : Int} {h : Hp} (c : Cl C h) (Cv0 : C v0) (Cv1 : C v1) : Ao (qV C h) (f_mSide_packet_b314 v0 v1 v2 v4 v5 v11 v13 s0 s1 h) := by
  unfold f_mSide_packet_b314
  have F0 := Av.rf c
  refine ao_v (fun y64 => ?_)
  refine ao_it ?_ ?_
  · exact ao_jV F0 (av_mSide_packet_b336 (F0.cl) Cv0)
  · refine ao_it ao_no ?_
    refine ao_it ?_ ao_no
    refine ao_it ?_ ?_
    · refine ao_it ?_ ao_no
      refine ao_b1 F0 (av_mSide_frames (F0.cl) Cv0 Cv1) (fun h68 F2 => ?_)
      exact ao_so F2
    · exact ao_jV F0 (av_mSide_packet_b336 (F0.cl) Cv0)
theorem av_mSide_packet_b188 {C : Nat → Prop} {k188 : Nat → Nat → Nat → Int → Int → Int → Int → Int → Int → Hp → Option (Hp)} (hk188 : ∀ (v0 : Nat) (v1 : Nat) (v2 : Nat) (v4 : Int) (v5 : Int) (v7 : Int) (v8 : Int) (v9 : Int) (v11 : Int) (h : Hp), Cl C h → C v0 → C v1 → Ao (qV C h) (k188 v0 v1 v2 v4 v5 v7 v8 v9 v11 h)) {v0 : Nat} {v1 : Nat} {v2 : Nat} {v4 : Int} {v5 : Int} {v7 : Int} {v8 : Int} {v9 : Int} {v11 : Int} {h : Hp} (c : Cl C h) (Cv0 : C v0) (Cv1 : C v1) : Ao (qV C h) (f_mSide_packet_b188 k188 v0 v1 v2 v4 v5 v7 v8 v9 v11 h) := by
  unfold f_mSide_packet_b188
  have F0 := Av.rf c
  refine ao_it ?_ ?_
  · refine ao_it ao_no ?_
    refine ao_b2 F0 (av_mBook_greatest (F0.cl)) (fun r38 h36 F1 => ?_)
    refine ao_b2 F1 (av_mSide_grown (F1.cl)) (fun r41 h39 F2 => ?_)
    refine ao_it ao_no ?_
    refine ao_it ?_ ao_no
    refine ao_v (fun y44 => ?_)
    refine ao_it ao_no ?_
    refine ao_b2 F2 (av_mBook_isOld (F2.cl)) (fun r48 h46 F4 => ?_)
    refine ao_it ?_ ?_
    · exact ao_so F4
    · refine ao_it ?_ ao_no
      refine ao_it ao_no ?_
      refine ao_b2 F4 (av_mSeals_open (F4.cl) (F4.cl.r Cv0) Cv1) (fun r53 h51 F5 => ?_)
      refine ao_it ?_ ?_
      · refine ao_b1 F5 (av_mSide_opened (F5.cl) Cv0) (fun h54 F6 => ?_)
        refine ao_it ao_no ?_
        refine ao_it ?_ ao_no
        refine ao_it ?_ ao_no
        refine ao_it ?_ ?_
        · exact ao_jV F6 (av_mSide_packet_b314 (F6.cl) Cv0 Cv1)
        · exact ao_jV F6 (av_mSide_packet_b314 (F6.cl) Cv0 Cv1)
      · exact ao_so F5
  · refine ao_it ao_no ?_
    refine ao_it ?_ ao_no
    refine ao_it ao_no ?_
    refine ao_it ?_ ao_no
    refine ao_v (fun y63 => ?_)
    exact ao_jV F0 (hk188 _ _ _ _ _ _ _ _ _ _ (F0.cl) Cv0 Cv1)
theorem av_mSide_packet_b188_lp {C : Nat → Prop} (n : Nat) : ∀ {v0 : Nat} {v1 : Nat} {v2 : Nat} {v4 : Int} {v5 : Int} {v7 : Int} {v8 : Int} {v9 : Int} {v11 : Int} {h : Hp}, Cl C h → C v0 → C v1 → Ao (qV C h) (f_mSide_packet_b188_lp n v0 v1 v2 v4 v5 v7 v8 v9 v11 h) := by
  induction n with
  | zero => intros; exact ao_no
  | succ n ih => intro v0 v1 v2 v4 v5 v7 v8 v9 v11 h c Cv0 Cv1; exact av_mSide_packet_b188 (fun _ _ _ _ _ _ _ _ _ h => ih) c Cv0 Cv1
theorem av_mSide_packet_b149 {C : Nat → Prop} {v0 : Nat} {v1 : Nat} {v2 : Nat} {v4 : Int} {v5 : Int} {h : Hp} (c : Cl C h) (Cv0 : C v0) (Cv1 : C v1) : Ao (qV C h) (f_mSide_packet_b149 v0 v1 v2 v4 v5 h) := by
  unfold f_mSide_packet_b149
  have F0 := Av.rf c
  refine ao_v (fun y28 => ?_)
  refine ao_it ao_no ?_
  refine ao_it ?_ ao_no
  refine ao_it ao_no ?_
  refine ao_b2 F0 (av_mSeals_shield (F0.cl) (F0.cl.r Cv0) Cv1) (fun r34 h32 F2 => ?_)
  exact ao_jV F2 (av_mSide_packet_b188_lp FU (F2.cl) Cv0 Cv1)
theorem av_mSide_packet_b139 {C : Nat → Prop} {v0 : Nat} {v1 : Nat} {v2 : Nat} {v4 : Int} {v5 : Int} {h : Hp} (c : Cl C h) (Cv0 : C v0) (Cv1 : C v1) : Ao (qV C h) (f_mSide_packet_b139 v0 v1 v2 v4 v5 h) := by
  unfold f_mSide_packet_b139
  have F0 := Av.rf c
  refine ao_b2 F0 (av_mSide_hasGuards (F0.cl)) (fun r27 h25 F1 => ?_)
  refine ao_it ?_ ?_
  · exact ao_jV F1 (av_mSide_packet_b149 (F1.cl) Cv0 Cv1)
  · exact ao_so F1
theorem av_mSide_packet_b60 {C : Nat → Prop} {v0 : Nat} {v1 : Nat} {v2 : Nat} {v4 : Int} {v5 : Int} {v6 : Int} {h : Hp} (c : Cl C h) (Cv0 : C v0) (Cv1 : C v1) : Ao (qV C h) (f_mSide_packet_b60 v0 v1 v2 v4 v5 v6 h) := by
  unfold f_mSide_packet_b60
  have F0 := Av.rf c
  refine ao_it ?_ ?_
  · refine ao_it ao_no ?_
    refine ao_it ?_ ao_no
    refine ao_it ?_ ao_no
    refine ao_it ao_no ?_
    refine ao_b2 F0 (av_mSide_isName (F0.cl)) (fun r14 h12 F1 => ?_)
    refine ao_it ?_ ?_
    · exact ao_jV F1 (av_mSide_packet_b139 (F1.cl) Cv0 Cv1)
    · refine ao_it ?_ ?_
      · exact ao_so F1
      · refine ao_it ?_ ao_no
        refine ao_it ?_ ao_no
        refine ao_b2 F1 (av_mSide_isName (F1.cl)) (fun r19 h17 F2 => ?_)
        refine ao_it ?_ ?_
        · exact ao_so F2
        · exact ao_jV F2 (av_mSide_packet_b139 (F2.cl) Cv0 Cv1)
  · refine ao_it ?_ ?_
    · exact ao_so F0
    · refine ao_it ao_no ?_
      refine ao_it ?_ ao_no
      refine ao_it ?_ ?_
      · exact ao_so F0
      · refine ao_b2 F0 (av_mSide_tries (F0.cl) Cv0) (fun r24 h22 F3 => ?_)
        refine ao_it ?_ ?_
        · exact ao_jV F3 (av_mSide_packet_b149 (F3.cl) Cv0 Cv1)
        · exact ao_so F3
theorem av_mSide_packet_b44 {C : Nat → Prop} {v0 : Nat} {v1 : Nat} {v2 : Nat} {v4 : Int} {v5 : Int} {v6 : Int} {h : Hp} (c : Cl C h) (Cv0 : C v0) (Cv1 : C v1) : Ao (qV C h) (f_mSide_packet_b44 v0 v1 v2 v4 v5 v6 h) := by
  unfold f_mSide_packet_b44
  have F0 := Av.rf c
  refine ao_it ?_ ?_
  · exact ao_jV F0 (av_mSide_packet_b60 (F0.cl) Cv0 Cv1)
  · refine ao_it ao_no ?_
    refine ao_it ?_ ao_no
    refine ao_it ?_ ?_
    · exact ao_jV F0 (av_mSide_packet_b60 (F0.cl) Cv0 Cv1)
    · exact ao_so F0
theorem av_mSide_packet_b30 {C : Nat → Prop} {v0 : Nat} {v1 : Nat} {v2 : Nat} {v3 : Int} {v4 : Int} {v5 : Int} {s0 : Int} {h : Hp} (c : Cl C h) (Cv0 : C v0) (Cv1 : C v1) : Ao (qV C h) (f_mSide_packet_b30 v0 v1 v2 v3 v4 v5 s0 h) := by
  unfold f_mSide_packet_b30
  have F0 := Av.rf c
  refine ao_it ?_ ?_
  · exact ao_jV F0 (av_mSide_packet_b44 (F0.cl) Cv0 Cv1)
  · refine ao_it ?_ ?_
    · exact ao_so F0
    · exact ao_jV F0 (av_mSide_packet_b44 (F0.cl) Cv0 Cv1)
theorem av_mSide_packet_b29 {C : Nat → Prop} {v0 : Nat} {v1 : Nat} {v2 : Nat} {v3 : Int} {v4 : Int} {v5 : Int} {h : Hp} (c : Cl C h) (Cv0 : C v0) (Cv1 : C v1) : Ao (qV C h) (f_mSide_packet_b29 v0 v1 v2 v3 v4 v5 h) := by
  unfold f_mSide_packet_b29
  have F0 := Av.rf c
  exact ao_jV F0 (av_mSide_packet_b30 (F0.cl) Cv0 Cv1)
theorem av_mSide_packet {C : Nat → Prop} {v0 : Nat} {v1 : Nat} {v2 : Nat} {v3 : Int} {h : Hp} (c : Cl C h) (Cv0 : C v0) (Cv1 : C v1) : Ao (qV C h) (f_mSide_packet v0 v1 v2 v3 h) := by
  unfold f_mSide_packet
  have F0 := Av.rf c
  refine ao_it ao_no ?_
  refine ao_it ?_ ao_no
  refine ao_v (fun y3 => ?_)
  refine ao_it ?_ ao_no
  refine ao_v (fun y5 => ?_)
  refine ao_it ?_ ?_
  · exact ao_jV F0 (av_mSide_packet_b29 (F0.cl) Cv0 Cv1)
  · refine ao_it ?_ ?_
    · exact ao_jV F0 (av_mSide_packet_b29 (F0.cl) Cv0 Cv1)
    · exact ao_jV F0 (av_mSide_packet_b30 (F0.cl) Cv0 Cv1)
theorem av_mP_comes_b177 {C : Nat → Prop} {k86 : Nat → Int → Nat → Int → Hp → Option (Hp)} (hk86 : ∀ (v0 : Nat) (v2 : Int) (v3 : Nat) (v4 : Int) (h : Hp), Cl C h → C v0 → C v3 → Ao (qV C h) (k86 v0 v2 v3 v4 h)) {v0 : Nat} {v2 : Int} {v3 : Nat} {v5 : Int} {h : Hp} (c : Cl C h) (Cv0 : C v0) (Cv3 : C v3) : Ao (qV C h) (f_mP_comes_b177 k86 v0 v2 v3 v5 h) := by
  unfold f_mP_comes_b177
  have F0 := Av.rf c
  refine ao_b2 F0 (av_mP_isSame (F0.cl)) (fun r21 h19 F1 => ?_)
  refine ao_it ?_ ?_
  · refine ao_it ao_no ?_
    refine ao_b1 F1 (av_mSide_packet (F1.cl) Cv3 (F1.cl.r Cv0)) (fun h23 F2 => ?_)
    exact ao_jV F2 (hk86 _ _ _ _ _ (F2.cl) Cv0 Cv3)
  · exact ao_so F1
theorem av_mP_comes_b140 {C : Nat → Prop} {k86 : Nat → Int → Nat → Int → Hp → Option (Hp)} (hk86 : ∀ (v0 : Nat) (v2 : Int) (v3 : Nat) (v4 : Int) (h : Hp), Cl C h → C v0 → C v3 → Ao (qV C h) (k86 v0 v2 v3 v4 h)) {k140 : Nat → Int → Nat → Int → Int → Hp → Option (Hp)} (hk140 : ∀ (v0 : Nat) (v2 : Int) (v3 : Nat) (v5 : Int) (v6 : Int) (h : Hp), Cl C h → C v0 → C v3 → Ao (qV C h) (k140 v0 v2 v3 v5 v6 h)) {v0 : Nat} {v2 : Int} {v3 : Nat} {v5 : Int} {v6 : Int} {h : Hp} (c : Cl C h) (Cv0 : C v0) (Cv3 : C v3) : Ao (qV C h) (f_mP_comes_b140 k86 k140 v0 v2 v3 v5 v6 h) := by
  unfold f_mP_comes_b140
  have F0 := Av.rf c
  refine ao_it ?_ ?_
  · exact ao_jV F0 (av_mP_comes_b177 hk86 (F0.cl) Cv0 Cv3)
  · refine ao_it ao_no ?_
    refine ao_it ?_ ao_no
    refine ao_it ao_no ?_
    refine ao_it ?_ ao_no
    refine ao_it ao_no ?_
    refine ao_it ?_ ao_no
    refine ao_I F0 (F0.cl.r Cv0) (fun h31 F1 => ?_)
    exact ao_jV F1 (hk140 _ _ _ _ _ _ (F1.cl) Cv0 Cv3)
theorem av_mP_comes_b140_lp {C : Nat → Prop} {k86 : Nat → Int → Nat → Int → Hp → Option (Hp)} (hk86 : ∀ (v0 : Nat) (v2 : Int) (v3 : Nat) (v4 : Int) (h : Hp), Cl C h → C v0 → C v3 → Ao (qV C h) (k86 v0 v2 v3 v4 h)) (n : Nat) : ∀ {v0 : Nat} {v2 : Int} {v3 : Nat} {v5 : Int} {v6 : Int} {h : Hp}, Cl C h → C v0 → C v3 → Ao (qV C h) (f_mP_comes_b140_lp k86 n v0 v2 v3 v5 v6 h) := by
  induction n with
  | zero => intros; exact ao_no
  | succ n ih => intro v0 v2 v3 v5 v6 h c Cv0 Cv3; exact av_mP_comes_b140 hk86 (fun _ _ _ _ _ h => ih) c Cv0 Cv3
theorem av_mP_comes_b106 {C : Nat → Prop} {k86 : Nat → Int → Nat → Int → Hp → Option (Hp)} (hk86 : ∀ (v0 : Nat) (v2 : Int) (v3 : Nat) (v4 : Int) (h : Hp), Cl C h → C v0 → C v3 → Ao (qV C h) (k86 v0 v2 v3 v4 h)) {v0 : Nat} {v2 : Int} {v3 : Nat} {v4 : Int} {h : Hp} (c : Cl C h) (Cv0 : C v0) (Cv3 : C v3) : Ao (qV C h) (f_mP_comes_b106 k86 v0 v2 v3 v4 h) := by
  unfold f_mP_comes_b106
  have F0 := Av.rf c
  refine ao_b2 F0 (av_mP_reads (F0.cl) Cv0) (fun r15 h13 F1 => ?_)
  refine ao_it ?_ ?_
  · refine ao_it ?_ ?_
    · exact ao_jV F1 (av_mP_comes_b177 hk86 (F1.cl) Cv0 Cv3)
    · refine ao_it ao_no ?_
      refine ao_it ?_ ao_no
      refine ao_I F1 Cv0 (fun h18 F2 => ?_)
      exact ao_jV F2 (av_mP_comes_b140_lp hk86 FU (F2.cl) Cv0 Cv3)
  · exact ao_so F1
theorem av_mP_comes_b86 {C : Nat → Prop} {k86 : Nat → Int → Nat → Int → Hp → Option (Hp)} (hk86 : ∀ (v0 : Nat) (v2 : Int) (v3 : Nat) (v4 : Int) (h : Hp), Cl C h → C v0 → C v3 → Ao (qV C h) (k86 v0 v2 v3 v4 h)) {v0 : Nat} {v2 : Int} {v3 : Nat} {v4 : Int} {h : Hp} (c : Cl C h) (Cv0 : C v0) (Cv3 : C v3) : Ao (qV C h) (f_mP_comes_b86 k86 v0 v2 v3 v4 h) := by
  unfold f_mP_comes_b86
  have F0 := Av.rf c
  refine ao_it ?_ ?_
  · exact ao_so F0
  · refine ao_it ao_no ?_
    refine ao_it ?_ ?_
    · exact ao_jV F0 (av_mP_comes_b106 hk86 (F0.cl) Cv0 Cv3)
    · refine ao_b2 F0 (av_mSide_isAlive (F0.cl)) (fun r12 h10 F1 => ?_)
      refine ao_it ?_ ?_
      · exact ao_so F1
      · exact ao_jV F1 (av_mP_comes_b106 hk86 (F1.cl) Cv0 Cv3)
theorem av_mP_comes_b86_lp {C : Nat → Prop} (n : Nat) : ∀ {v0 : Nat} {v2 : Int} {v3 : Nat} {v4 : Int} {h : Hp}, Cl C h → C v0 → C v3 → Ao (qV C h) (f_mP_comes_b86_lp n v0 v2 v3 v4 h) := by
  induction n with
  | zero => intros; exact ao_no
  | succ n ih => intro v0 v2 v3 v4 h c Cv0 Cv3; exact av_mP_comes_b86 (fun _ _ _ _ h => ih) c Cv0 Cv3
theorem av_mP_comes_b35 {C : Nat → Prop} {v0 : Nat} {v2 : Int} {v3 : Nat} {h : Hp} (c : Cl C h) (Cv0 : C v0) (Cv3 : C v3) : Ao (qV C h) (f_mP_comes_b35 v0 v2 v3 h) := by
  unfold f_mP_comes_b35
  have F0 := Av.rf c
  refine ao_it ao_no ?_
  refine ao_I F0 Cv3 (fun h6 F1 => ?_)
  refine ao_it ?_ ?_
  · exact ao_jV F1 (av_mP_comes_b86_lp FU (F1.cl) Cv0 Cv3)
  · refine ao_I F1 Cv3 (fun h7 F2 => ?_)
    refine ao_it ?_ ?_
    · exact ao_so F2
    · refine ao_I F2 Cv3 (fun h8 F3 => ?_)
      exact ao_so F3
theorem av_mP_comes {C : Nat → Prop} {v0 : Nat} {v1 : Int} {v2 : Int} {h : Hp} (c : Cl C h) (Cv0 : C v0) : Ao (qV C h) (f_mP_comes v0 v1 v2 h) := by
  unfold f_mP_comes
  have F0 := Av.rf c
  refine ao_it ao_no ?_
  refine ao_it ?_ ao_no
  refine ao_m (F0.cl.r (F0.cl.r Cv0)) (fun y3 Cy3 => ?_)
  refine ao_it ao_no ?_
  refine ao_it ?_ ?_
  · exact ao_so F0
  · refine ao_it ?_ ?_
    · exact ao_so F0
    · refine ao_it ?_ ?_
      · exact ao_jV F0 (av_mP_comes_b35 (F0.cl) Cv0 Cy3)
      · refine ao_it ?_ ?_
        · exact ao_jV F0 (av_mP_comes_b35 (F0.cl) Cv0 Cy3)
        · exact ao_so F0
theorem av_mP_delivers {C : Nat → Prop} {v0 : Nat} {v1 : Int} {v2 : Int} {h : Hp} (c : Cl C h) (Cv0 : C v0) : Ao (qI C h) (f_mP_delivers v0 v1 v2 h) := by
  unfold f_mP_delivers
  have F0 := Av.rf c
  refine ao_b1 F0 (av_mP_lift (F0.cl) Cv0) (fun h1 F1 => ?_)
  refine ao_b2 F1 (av_mP_remove (F1.cl) Cv0) (fun r5 h3 F2 => ?_)
  refine ao_b1 F2 (av_mP_comes (F2.cl) Cv0) (fun h6 F3 => ?_)
  exact ao_so F3
theorem av_mP_deliver {C : Nat → Prop} {v0 : Nat} {v1 : Int} {v2 : Int} {h : Hp} (c : Cl C h) (Cv0 : C v0) : Ao (qI C h) (f_mP_deliver v0 v1 v2 h) := by
  unfold f_mP_deliver
  have F0 := Av.rf c
  refine ao_b2 F0 (av_mP_no (F0.cl)) (fun r3 h1 F1 => ?_)
  refine ao_b2 F1 (av_mP_fails (F1.cl) Cv0) (fun r6 h4 F2 => ?_)
  refine ao_it ?_ ?_
  · exact ao_so F2
  · refine ao_b2 F2 (av_mP_isNone (F2.cl)) (fun r9 h7 F3 => ?_)
    refine ao_b2 F3 (av_mP_fails (F3.cl) Cv0) (fun r12 h10 F4 => ?_)
    refine ao_it ?_ ?_
    · refine ao_b2 F4 (av_mP_delivers (F4.cl) Cv0) (fun r15 h13 F5 => ?_)
      exact ao_so F5
    · exact ao_so F4
theorem av_mP_drop {C : Nat → Prop} {v0 : Nat} {v1 : Int} {v2 : Int} {h : Hp} (c : Cl C h) (Cv0 : C v0) : Ao (qI C h) (f_mP_drop v0 v1 v2 h) := by
  unfold f_mP_drop
  have F0 := Av.rf c
  refine ao_b2 F0 (av_mP_no (F0.cl)) (fun r3 h1 F1 => ?_)
  refine ao_b2 F1 (av_mP_fails (F1.cl) Cv0) (fun r6 h4 F2 => ?_)
  refine ao_it ?_ ?_
  · exact ao_so F2
  · refine ao_b2 F2 (av_mP_isNone (F2.cl)) (fun r9 h7 F3 => ?_)
    refine ao_b2 F3 (av_mP_fails (F3.cl) Cv0) (fun r12 h10 F4 => ?_)
    refine ao_it ?_ ?_
    · refine ao_b2 F4 (av_mP_remove (F4.cl) Cv0) (fun r15 h13 F5 => ?_)
      exact ao_so F5
    · exact ao_so F4
theorem av_mP_twice {C : Nat → Prop} {v0 : Nat} {v1 : Int} {v2 : Int} {h : Hp} (c : Cl C h) (Cv0 : C v0) : Ao (qI C h) (f_mP_twice v0 v1 v2 h) := by
  unfold f_mP_twice
  have F0 := Av.rf c
  refine ao_b2 F0 (av_mP_no (F0.cl)) (fun r3 h1 F1 => ?_)
  refine ao_b2 F1 (av_mP_fails (F1.cl) Cv0) (fun r6 h4 F2 => ?_)
  refine ao_it ?_ ?_
  · exact ao_so F2
  · refine ao_b2 F2 (av_mP_isNone (F2.cl)) (fun r9 h7 F3 => ?_)
    refine ao_b2 F3 (av_mP_fails (F3.cl) Cv0) (fun r12 h10 F4 => ?_)
    refine ao_it ?_ ?_
    · refine ao_b1 F4 (av_mP_lift (F4.cl) Cv0) (fun h13 F5 => ?_)
      refine ao_b2 F5 (av_mP_place (F5.cl)) (fun r17 h15 F6 => ?_)
      refine ao_it ao_no ?_
      refine ao_it ?_ ao_no
      refine ao_b2 F6 (av_mP_place (F6.cl)) (fun r22 h20 F7 => ?_)
      refine ao_it ao_no ?_
      refine ao_it ?_ ao_no
      refine ao_b1 F7 (av_mP_lies (F7.cl) Cv0) (fun h25 F8 => ?_)
      refine ao_it ao_no ?_
      refine ao_it ?_ ao_no
      exact ao_so F8
    · exact ao_so F4
theorem av_mP_alter_b46 {C : Nat → Prop} {v0 : Nat} {v1 : Int} {v2 : Int} {v3 : Int} {v4 : Int} {s0 : Nat} {s1 : Int} {h : Hp} (c : Cl C h) (Cv0 : C v0) (Cs0 : C s0) : Ao (qI C h) (f_mP_alter_b46 v0 v1 v2 v3 v4 s0 s1 h) := by
  unfold f_mP_alter_b46
  have F0 := Av.rf c
  refine ao_it ao_no ?_
  refine ao_b2 F0 (av_mP_fails (F0.cl) Cs0) (fun r18 h16 F1 => ?_)
  refine ao_it ?_ ?_
  · refine ao_b2 F1 (av_mP_place (F1.cl)) (fun r21 h19 F2 => ?_)
    refine ao_v (fun y22 => ?_)
    refine ao_it ao_no ?_
    refine ao_it ?_ ao_no
    refine ao_it ?_ ao_no
    refine ao_I F2 (F2.cl.r Cv0) (fun h26 F4 => ?_)
    refine ao_it ao_no ?_
    refine ao_it ?_ ao_no
    exact ao_so F4
  · exact ao_so F1
theorem av_mP_alter_b41 {C : Nat → Prop} {v0 : Nat} {v1 : Int} {v2 : Int} {v3 : Int} {v4 : Int} {s0 : Nat} {h : Hp} (c : Cl C h) (Cv0 : C v0) (Cs0 : C s0) : Ao (qI C h) (f_mP_alter_b41 v0 v1 v2 v3 v4 s0 h) := by
  unfold f_mP_alter_b41
  have F0 := Av.rf c
  exact ao_jI F0 (av_mP_alter_b46 (F0.cl) Cv0 Cs0)
theorem av_mP_alter {C : Nat → Prop} {v0 : Nat} {v1 : Int} {v2 : Int} {v3 : Int} {v4 : Int} {h : Hp} (c : Cl C h) (Cv0 : C v0) : Ao (qI C h) (f_mP_alter v0 v1 v2 v3 v4 h) := by
  unfold f_mP_alter
  have F0 := Av.rf c
  refine ao_b2 F0 (av_mP_no (F0.cl)) (fun r3 h1 F1 => ?_)
  refine ao_b2 F1 (av_mP_fails (F1.cl) Cv0) (fun r6 h4 F2 => ?_)
  refine ao_it ?_ ?_
  · exact ao_so F2
  · refine ao_b2 F2 (av_mP_isNone (F2.cl)) (fun r9 h7 F3 => ?_)
    refine ao_it ?_ ?_
    · exact ao_jI F3 (av_mP_alter_b41 (F3.cl) Cv0 Cv0)
    · refine ao_it ?_ ?_
      · exact ao_jI F3 (av_mP_alter_b41 (F3.cl) Cv0 Cv0)
      · refine ao_b2 F3 (av_mP_place (F3.cl)) (fun r12 h10 F4 => ?_)
        refine ao_it ao_no ?_
        refine ao_it ?_ ao_no
        refine ao_it ?_ ?_
        · exact ao_jI F4 (av_mP_alter_b46 (F4.cl) Cv0 Cv0)
        · exact ao_jI F4 (av_mP_alter_b41 (F4.cl) Cv0 Cv0)
theorem av_mP_flow_b17 {C : Nat → Prop} {v0 : Nat} {v1 : Int} {s0 : Nat} {s1 : Int} {h : Hp} (c : Cl C h) (Cv0 : C v0) (Cs0 : C s0) : Ao (qV C h) (f_mP_flow_b17 v0 v1 s0 s1 h) := by
  unfold f_mP_flow_b17
  have F0 := Av.rf c
  refine ao_it ao_no ?_
  refine ao_b2 F0 (av_mP_fails (F0.cl) Cs0) (fun r4 h2 F1 => ?_)
  refine ao_it ?_ ?_
  · refine ao_I F1 Cv0 (fun h5 F2 => ?_)
    exact ao_so F2
  · exact ao_so F1
theorem av_mP_flow_b12 {C : Nat → Prop} {v0 : Nat} {v1 : Int} {s0 : Nat} {h : Hp} (c : Cl C h) (Cv0 : C v0) (Cs0 : C s0) : Ao (qV C h) (f_mP_flow_b12 v0 v1 s0 h) := by
  unfold f_mP_flow_b12
  have F0 := Av.rf c
  exact ao_jV F0 (av_mP_flow_b17 (F0.cl) Cv0 Cs0)
theorem av_mP_flow {C : Nat → Prop} {v0 : Nat} {v1 : Int} {h : Hp} (c : Cl C h) (Cv0 : C v0) : Ao (qV C h) (f_mP_flow v0 v1 h) := by
  unfold f_mP_flow
  have F0 := Av.rf c
  refine ao_it ?_ ?_
  · exact ao_jV F0 (av_mP_flow_b12 (F0.cl) Cv0 Cv0)
  · refine ao_it ?_ ?_
    · exact ao_jV F0 (av_mP_flow_b17 (F0.cl) Cv0 Cv0)
    · exact ao_jV F0 (av_mP_flow_b12 (F0.cl) Cv0 Cv0)
theorem av_mBook_oldest_b43 {C : Nat → Prop} {k7 : Nat → Int → Int → Hp → Option (Int × Hp)} (hk7 : ∀ (v0 : Nat) (v1 : Int) (v2 : Int) (h : Hp), Cl C h → Ao (qI C h) (k7 v0 v1 v2 h)) {v0 : Nat} {v1 : Int} {v2 : Int} {h : Hp} (c : Cl C h) : Ao (qI C h) (f_mBook_oldest_b43 k7 v0 v1 v2 h) := by
  unfold f_mBook_oldest_b43
  have F0 := Av.rf c
  exact ao_jI F0 (hk7 _ _ _ _ (F0.cl))
theorem av_mBook_oldest_b7 {C : Nat → Prop} {k7 : Nat → Int → Int → Hp → Option (Int × Hp)} (hk7 : ∀ (v0 : Nat) (v1 : Int) (v2 : Int) (h : Hp), Cl C h → Ao (qI C h) (k7 v0 v1 v2 h)) {v0 : Nat} {v1 : Int} {v2 : Int} {h : Hp} (c : Cl C h) : Ao (qI C h) (f_mBook_oldest_b7 k7 v0 v1 v2 h) := by
  unfold f_mBook_oldest_b7
  have F0 := Av.rf c
  refine ao_it ao_no ?_
  refine ao_it ?_ ao_no
  refine ao_it ?_ ?_
  · exact ao_so F0
  · refine ao_b2 F0 (av_mBook_isOut (F0.cl)) (fun r8 h6 F1 => ?_)
    refine ao_it ?_ ?_
    · exact ao_jI F1 (av_mBook_oldest_b43 hk7 (F1.cl))
    · refine ao_it ao_no ?_
      refine ao_it ?_ ao_no
      refine ao_it ?_ ?_
      · exact ao_jI F1 (av_mBook_oldest_b43 hk7 (F1.cl))
      · exact ao_so F1
theorem av_mBook_oldest_b7_lp {C : Nat → Prop} (n : Nat) : ∀ {v0 : Nat} {v1 : Int} {v2 : Int} {h : Hp}, Cl C h → Ao (qI C h) (f_mBook_oldest_b7_lp n v0 v1 v2 h) := by
  induction n with
  | zero => intros; exact ao_no
  | succ n ih => intro v0 v1 v2 h c; exact av_mBook_oldest_b7 (fun _ _ _ h => ih) c
theorem av_mBook_oldest {C : Nat → Prop} {v0 : Nat} {v1 : Int} {h : Hp} (c : Cl C h) : Ao (qI C h) (f_mBook_oldest v0 v1 h) := by
  unfold f_mBook_oldest
  have F0 := Av.rf c
  refine ao_it ao_no ?_
  refine ao_it ?_ ao_no
  refine ao_v (fun y3 => ?_)
  exact ao_jI F0 (av_mBook_oldest_b7_lp FU (F0.cl))
theorem av_mBook_firstSpace_b2 {C : Nat → Prop} {k2 : Nat → Int → Hp → Option (Int × Hp)} (hk2 : ∀ (v0 : Nat) (v1 : Int) (h : Hp), Cl C h → Ao (qI C h) (k2 v0 v1 h)) {v0 : Nat} {v1 : Int} {h : Hp} (c : Cl C h) : Ao (qI C h) (f_mBook_firstSpace_b2 k2 v0 v1 h) := by
  unfold f_mBook_firstSpace_b2
  have F0 := Av.rf c
  refine ao_it ?_ ?_
  · exact ao_so F0
  · refine ao_it ao_no ?_
    refine ao_it ?_ ao_no
    refine ao_it ?_ ?_
    · exact ao_so F0
    · exact ao_jI F0 (hk2 _ _ _ (F0.cl))
theorem av_mBook_firstSpace_b2_lp {C : Nat → Prop} (n : Nat) : ∀ {v0 : Nat} {v1 : Int} {h : Hp}, Cl C h → Ao (qI C h) (f_mBook_firstSpace_b2_lp n v0 v1 h) := by
  induction n with
  | zero => intros; exact ao_no
  | succ n ih => intro v0 v1 h c; exact av_mBook_firstSpace_b2 (fun _ _ h => ih) c
theorem av_mBook_firstSpace {C : Nat → Prop} {v0 : Nat} {h : Hp} (c : Cl C h) : Ao (qI C h) (f_mBook_firstSpace v0 h) := by
  unfold f_mBook_firstSpace
  have F0 := Av.rf c
  exact ao_jI F0 (av_mBook_firstSpace_b2_lp FU (F0.cl))
theorem av_mBook_probeTime_b125 {C : Nat → Prop} {v0 : Nat} {v1 : Int} {v2 : Int} {s0 : Int} {h : Hp} (c : Cl C h) : Ao (qI C h) (f_mBook_probeTime_b125 v0 v1 v2 s0 h) := by
  unfold f_mBook_probeTime_b125
  have F0 := Av.rf c
  refine ao_it ?_ ?_
  · exact ao_so F0
  · refine ao_it ?_ ?_
    · exact ao_so F0
    · refine ao_b2 F0 (av_mBook_firstSpace (F0.cl)) (fun r25 h23 F1 => ?_)
      refine ao_it ?_ ?_
      · exact ao_so F1
      · exact ao_so F1
theorem av_mBook_probeTime_b60 {C : Nat → Prop} {k60 : Nat → Int → Int → Int → Hp → Option (Int × Hp)} (hk60 : ∀ (v0 : Nat) (v1 : Int) (v2 : Int) (v3 : Int) (h : Hp), Cl C h → Ao (qI C h) (k60 v0 v1 v2 v3 h)) {v0 : Nat} {v1 : Int} {v2 : Int} {v3 : Int} {h : Hp} (c : Cl C h) : Ao (qI C h) (f_mBook_probeTime_b60 k60 v0 v1 v2 v3 h) := by
  unfold f_mBook_probeTime_b60
  have F0 := Av.rf c
  refine ao_it ao_no ?_
  refine ao_it ?_ ao_no
  refine ao_it ?_ ?_
  · refine ao_it ao_no ?_
    refine ao_it ?_ ao_no
    exact ao_so F0
  · exact ao_jI F0 (hk60 _ _ _ _ _ (F0.cl))
theorem av_mBook_probeTime_b60_lp {C : Nat → Prop} (n : Nat) : ∀ {v0 : Nat} {v1 : Int} {v2 : Int} {v3 : Int} {h : Hp}, Cl C h → Ao (qI C h) (f_mBook_probeTime_b60_lp n v0 v1 v2 v3 h) := by
  induction n with
  | zero => intros; exact ao_no
  | succ n ih => intro v0 v1 v2 v3 h c; exact av_mBook_probeTime_b60 (fun _ _ _ _ h => ih) c
theorem av_mBook_probeTime_b120 {C : Nat → Prop} {v0 : Nat} {v1 : Int} {v2 : Int} {h : Hp} (c : Cl C h) : Ao (qI C h) (f_mBook_probeTime_b120 v0 v1 v2 h) := by
  unfold f_mBook_probeTime_b120
  have F0 := Av.rf c
  exact ao_jI F0 (av_mBook_probeTime_b125 (F0.cl))
theorem av_mBook_probeTime_b34 {C : Nat → Prop} {v0 : Nat} {v1 : Int} {s0 : Nat} {s1 : Int} {h : Hp} (c : Cl C h) : Ao (qI C h) (f_mBook_probeTime_b34 v0 v1 s0 s1 h) := by
  unfold f_mBook_probeTime_b34
  have F0 := Av.rf c
  refine ao_it ao_no ?_
  refine ao_b2 F0 (av_mBook_patience (F0.cl)) (fun r6 h4 F1 => ?_)
  refine ao_v (fun y7 => ?_)
  refine ao_b2 F1 (av_mBook_oldest (F1.cl)) (fun r10 h8 F3 => ?_)
  refine ao_it ?_ ?_
  · refine ao_b2 F3 (av_mBook_oldest (F3.cl)) (fun r13 h11 F4 => ?_)
    refine ao_it ?_ ?_
    · exact ao_jI F4 (av_mBook_probeTime_b120 (F4.cl))
    · refine ao_b2 F4 (av_mBook_oldest (F4.cl)) (fun r16 h14 F5 => ?_)
      refine ao_it ?_ ?_
      · exact ao_jI F5 (av_mBook_probeTime_b120 (F5.cl))
      · refine ao_b2 F5 (av_mBook_oldest (F5.cl)) (fun r19 h17 F6 => ?_)
        refine ao_it ?_ ?_
        · exact ao_jI F6 (av_mBook_probeTime_b125 (F6.cl))
        · exact ao_jI F6 (av_mBook_probeTime_b120 (F6.cl))
  · refine ao_it ao_no ?_
    refine ao_it ?_ ao_no
    refine ao_v (fun y22 => ?_)
    exact ao_jI F3 (av_mBook_probeTime_b60_lp FU (F3.cl))
theorem av_mBook_probeTime_b23 {C : Nat → Prop} {v0 : Nat} {v1 : Int} {h : Hp} (c : Cl C h) : Ao (qI C h) (f_mBook_probeTime_b23 v0 v1 h) := by
  unfold f_mBook_probeTime_b23
  have F0 := Av.rf c
  refine ao_it ?_ ?_
  · exact ao_jI F0 (av_mBook_probeTime_b34 (F0.cl))
  · exact ao_jI F0 (av_mBook_probeTime_b34 (F0.cl))
theorem av_mBook_probeTime {C : Nat → Prop} {v0 : Nat} {v1 : Int} {h : Hp} (c : Cl C h) : Ao (qI C h) (f_mBook_probeTime v0 v1 h) := by
  unfold f_mBook_probeTime
  have F0 := Av.rf c
  refine ao_it ao_no ?_
  refine ao_it ?_ ao_no
  refine ao_it ?_ ?_
  · exact ao_so F0
  · refine ao_it ?_ ?_
    · exact ao_jI F0 (av_mBook_probeTime_b23 (F0.cl))
    · refine ao_it ?_ ?_
      · exact ao_jI F0 (av_mBook_probeTime_b23 (F0.cl))
      · exact ao_so F0
theorem av_mBook_tick_b127 {C : Nat → Prop} {k83 : Nat → Int → Int → Int → Hp → Option (Int × Hp)} (hk83 : ∀ (v0 : Nat) (v1 : Int) (v2 : Int) (v3 : Int) (h : Hp), Cl C h → C v0 → Ao (qI C h) (k83 v0 v1 v2 v3 h)) {v0 : Nat} {v1 : Int} {v2 : Int} {v3 : Int} {h : Hp} (c : Cl C h) (Cv0 : C v0) : Ao (qI C h) (f_mBook_tick_b127 k83 v0 v1 v2 v3 h) := by
  unfold f_mBook_tick_b127
  have F0 := Av.rf c
  exact ao_jI F0 (hk83 _ _ _ _ _ (F0.cl) Cv0)
theorem av_mBook_tick_b160 {C : Nat → Prop} {v0 : Nat} {v1 : Int} {s0 : Nat} {s1 : Int} {h : Hp} (c : Cl C h) (Cs0 : C s0) : Ao (qI C h) (f_mBook_tick_b160 v0 v1 s0 s1 h) := by
  unfold f_mBook_tick_b160
  have F0 := Av.rf c
  refine ao_it ao_no ?_
  refine ao_I F0 Cs0 (fun h13 F1 => ?_)
  exact ao_so F1
theorem av_mBook_tick_b122 {C : Nat → Prop} {k83 : Nat → Int → Int → Int → Hp → Option (Int × Hp)} (hk83 : ∀ (v0 : Nat) (v1 : Int) (v2 : Int) (v3 : Int) (h : Hp), Cl C h → C v0 → Ao (qI C h) (k83 v0 v1 v2 v3 h)) {v0 : Nat} {v3 : Int} {v4 : Int} {h : Hp} (c : Cl C h) (Cv0 : C v0) : Ao (qI C h) (f_mBook_tick_b122 k83 v0 v3 v4 h) := by
  unfold f_mBook_tick_b122
  have F0 := Av.rf c
  exact ao_jI F0 (av_mBook_tick_b127 hk83 (F0.cl) Cv0)
theorem av_mBook_tick_b83 {C : Nat → Prop} {k83 : Nat → Int → Int → Int → Hp → Option (Int × Hp)} (hk83 : ∀ (v0 : Nat) (v1 : Int) (v2 : Int) (v3 : Int) (h : Hp), Cl C h → C v0 → Ao (qI C h) (k83 v0 v1 v2 v3 h)) {v0 : Nat} {v1 : Int} {v2 : Int} {v3 : Int} {h : Hp} (c : Cl C h) (Cv0 : C v0) : Ao (qI C h) (f_mBook_tick_b83 k83 v0 v1 v2 v3 h) := by
  unfold f_mBook_tick_b83
  have F0 := Av.rf c
  refine ao_it ?_ ?_
  · refine ao_it ?_ ?_
    · refine ao_it ?_ ?_
      · exact ao_jI F0 (av_mBook_tick_b160 (F0.cl) Cv0)
      · exact ao_jI F0 (av_mBook_tick_b160 (F0.cl) Cv0)
    · exact ao_so F0
  · refine ao_b2 F0 (av_mBook_probeTime (F0.cl)) (fun r11 h9 F1 => ?_)
    refine ao_it ?_ ?_
    · exact ao_jI F1 (av_mBook_tick_b127 hk83 (F1.cl) Cv0)
    · refine ao_it ?_ ?_
      · exact ao_jI F1 (av_mBook_tick_b127 hk83 (F1.cl) Cv0)
      · refine ao_it ?_ ?_
        · exact ao_jI F1 (av_mBook_tick_b122 hk83 (F1.cl) Cv0)
        · refine ao_it ?_ ?_
          · exact ao_jI F1 (av_mBook_tick_b122 hk83 (F1.cl) Cv0)
          · exact ao_jI F1 (av_mBook_tick_b127 hk83 (F1.cl) Cv0)
theorem av_mBook_tick_b83_lp {C : Nat → Prop} (n : Nat) : ∀ {v0 : Nat} {v1 : Int} {v2 : Int} {v3 : Int} {h : Hp}, Cl C h → C v0 → Ao (qI C h) (f_mBook_tick_b83_lp n v0 v1 v2 v3 h) := by
  induction n with
  | zero => intros; exact ao_no
  | succ n ih => intro v0 v1 v2 v3 h c Cv0; exact av_mBook_tick_b83 (fun _ _ _ _ h => ih) c Cv0
theorem av_mBook_tick_b62 {C : Nat → Prop} {k14 : Nat → Int → Int → Hp → Option (Int × Hp)} (hk14 : ∀ (v0 : Nat) (v1 : Int) (v2 : Int) (h : Hp), Cl C h → C v0 → Ao (qI C h) (k14 v0 v1 v2 h)) {v0 : Nat} {v1 : Int} {v2 : Int} {h : Hp} (c : Cl C h) (Cv0 : C v0) : Ao (qI C h) (f_mBook_tick_b62 k14 v0 v1 v2 h) := by
  unfold f_mBook_tick_b62
  have F0 := Av.rf c
  exact ao_jI F0 (hk14 _ _ _ _ (F0.cl) Cv0)
theorem av_mBook_tick_b60 {C : Nat → Prop} {k14 : Nat → Int → Int → Hp → Option (Int × Hp)} (hk14 : ∀ (v0 : Nat) (v1 : Int) (v2 : Int) (h : Hp), Cl C h → C v0 → Ao (qI C h) (k14 v0 v1 v2 h)) {v0 : Nat} {v2 : Int} {h : Hp} (c : Cl C h) (Cv0 : C v0) : Ao (qI C h) (f_mBook_tick_b60 k14 v0 v2 h) := by
  unfold f_mBook_tick_b60
  have F0 := Av.rf c
  exact ao_jI F0 (av_mBook_tick_b62 hk14 (F0.cl) Cv0)
theorem av_mBook_tick_b14 {C : Nat → Prop} {k14 : Nat → Int → Int → Hp → Option (Int × Hp)} (hk14 : ∀ (v0 : Nat) (v1 : Int) (v2 : Int) (h : Hp), Cl C h → C v0 → Ao (qI C h) (k14 v0 v1 v2 h)) {v0 : Nat} {v1 : Int} {v2 : Int} {h : Hp} (c : Cl C h) (Cv0 : C v0) : Ao (qI C h) (f_mBook_tick_b14 k14 v0 v1 v2 h) := by
  unfold f_mBook_tick_b14
  have F0 := Av.rf c
  refine ao_it ?_ ?_
  · refine ao_it ?_ ?_
    · exact ao_jI F0 (av_mBook_tick_b83_lp FU (F0.cl) Cv0)
    · refine ao_b1 F0 (av_mBook_losses (F0.cl) Cv0) (fun h2 F1 => ?_)
      exact ao_so F1
  · refine ao_it ao_no ?_
    refine ao_it ?_ ao_no
    refine ao_it ?_ ?_
    · exact ao_jI F0 (av_mBook_tick_b62 hk14 (F0.cl) Cv0)
    · refine ao_it ?_ ao_no
      refine ao_it ?_ ?_
      · exact ao_jI F0 (av_mBook_tick_b62 hk14 (F0.cl) Cv0)
      · refine ao_it ?_ ?_
        · exact ao_jI F0 (av_mBook_tick_b60 hk14 (F0.cl) Cv0)
        · refine ao_it ?_ ao_no
          refine ao_it ?_ ao_no
          refine ao_it ?_ ?_
          · exact ao_jI F0 (av_mBook_tick_b62 hk14 (F0.cl) Cv0)
          · exact ao_jI F0 (av_mBook_tick_b60 hk14 (F0.cl) Cv0)
theorem av_mBook_tick_b14_lp {C : Nat → Prop} (n : Nat) : ∀ {v0 : Nat} {v1 : Int} {v2 : Int} {h : Hp}, Cl C h → C v0 → Ao (qI C h) (f_mBook_tick_b14_lp n v0 v1 v2 h) := by
  induction n with
  | zero => intros; exact ao_no
  | succ n ih => intro v0 v1 v2 h c Cv0; exact av_mBook_tick_b14 (fun _ _ _ h => ih) c Cv0
theorem av_mBook_tick {C : Nat → Prop} {v0 : Nat} {h : Hp} (c : Cl C h) (Cv0 : C v0) : Ao (qI C h) (f_mBook_tick v0 h) := by
  unfold f_mBook_tick
  have F0 := Av.rf c
  refine ao_I F0 Cv0 (fun h1 F1 => ?_)
  exact ao_jI F1 (av_mBook_tick_b14_lp FU (F1.cl) Cv0)
theorem av_mSide_quietLimit_b52 {C : Nat → Prop} {v0 : Nat} {s0 : Int} {h : Hp} (c : Cl C h) : Ao (qI C h) (f_mSide_quietLimit_b52 v0 s0 h) := by
  unfold f_mSide_quietLimit_b52
  have F0 := Av.rf c
  refine ao_it ao_no ?_
  refine ao_b2 F0 (av_mBook_patience (F0.cl)) (fun r9 h7 F1 => ?_)
  refine ao_v (fun y10 => ?_)
  refine ao_it ?_ ?_
  · refine ao_it ?_ ?_
    · exact ao_so F1
    · exact ao_so F1
  · exact ao_so F1
theorem av_mSide_quietLimit_b47 {C : Nat → Prop} {v0 : Nat} {v1 : Int} {h : Hp} (c : Cl C h) : Ao (qI C h) (f_mSide_quietLimit_b47 v0 v1 h) := by
  unfold f_mSide_quietLimit_b47
  have F0 := Av.rf c
  exact ao_jI F0 (av_mSide_quietLimit_b52 (F0.cl))
theorem av_mSide_quietLimit_b24 {C : Nat → Prop} {v0 : Nat} {v1 : Int} {s0 : Int} {h : Hp} (c : Cl C h) : Ao (qI C h) (f_mSide_quietLimit_b24 v0 v1 s0 h) := by
  unfold f_mSide_quietLimit_b24
  have F0 := Av.rf c
  refine ao_it ?_ ?_
  · refine ao_it ?_ ?_
    · exact ao_jI F0 (av_mSide_quietLimit_b47 (F0.cl))
    · refine ao_it ?_ ?_
      · exact ao_jI F0 (av_mSide_quietLimit_b52 (F0.cl))
      · exact ao_jI F0 (av_mSide_quietLimit_b47 (F0.cl))
  · exact ao_jI F0 (av_mSide_quietLimit_b52 (F0.cl))
theorem av_mSide_quietLimit {C : Nat → Prop} {v0 : Nat} {h : Hp} (c : Cl C h) : Ao (qI C h) (f_mSide_quietLimit v0 h) := by
  unfold f_mSide_quietLimit
  have F0 := Av.rf c
  refine ao_it ao_no ?_
  refine ao_it ?_ ao_no
  refine ao_v (fun y3 => ?_)
  refine ao_it ?_ ?_
  · exact ao_jI F0 (av_mSide_quietLimit_b24 (F0.cl))
  · refine ao_it ao_no ?_
    refine ao_it ?_ ao_no
    exact ao_jI F0 (av_mSide_quietLimit_b24 (F0.cl))
theorem av_mSide_tick_b114 {C : Nat → Prop} {v0 : Nat} {h : Hp} (c : Cl C h) (Cv0 : C v0) : Ao (qV C h) (f_mSide_tick_b114 v0 h) := by
  unfold f_mSide_tick_b114
  have F0 := Av.rf c
  refine ao_b2 F0 (av_mSide_quietLimit (F0.cl)) (fun r22 h20 F1 => ?_)
  refine ao_it ?_ ?_
  · exact ao_so F1
  · refine ao_it ao_no ?_
    refine ao_it ?_ ?_
    · refine ao_I F1 Cv0 (fun h24 F2 => ?_)
      refine ao_I F2 Cv0 (fun h25 F3 => ?_)
      exact ao_so F3
    · exact ao_so F1
theorem av_mSide_tick_b24 {C : Nat → Prop} {v0 : Nat} {h : Hp} (c : Cl C h) (Cv0 : C v0) : Ao (qV C h) (f_mSide_tick_b24 v0 h) := by
  unfold f_mSide_tick_b24
  have F0 := Av.rf c
  refine ao_it ao_no ?_
  refine ao_it ?_ ?_
  · exact ao_so F0
  · refine ao_I F0 Cv0 (fun h27 F1 => ?_)
    exact ao_so F1
theorem av_mSide_tick_b59 {C : Nat → Prop} {k59 : Nat → Int → Hp → Option (Hp)} (hk59 : ∀ (v0 : Nat) (v2 : Int) (h : Hp), Cl C h → C v0 → Ao (qV C h) (k59 v0 v2 h)) {v0 : Nat} {v2 : Int} {h : Hp} (c : Cl C h) (Cv0 : C v0) : Ao (qV C h) (f_mSide_tick_b59 k59 v0 v2 h) := by
  unfold f_mSide_tick_b59
  have F0 := Av.rf c
  refine ao_it ?_ ?_
  · exact ao_jV F0 (av_mSide_tick_b114 (F0.cl) Cv0)
  · refine ao_b1 F0 (av_mSide_tellFound (F0.cl) Cv0) (fun h18 F1 => ?_)
    exact ao_jV F1 (hk59 _ _ _ (F1.cl) Cv0)
theorem av_mSide_tick_b59_lp {C : Nat → Prop} (n : Nat) : ∀ {v0 : Nat} {v2 : Int} {h : Hp}, Cl C h → C v0 → Ao (qV C h) (f_mSide_tick_b59_lp n v0 v2 h) := by
  induction n with
  | zero => intros; exact ao_no
  | succ n ih => intro v0 v2 h c Cv0; exact av_mSide_tick_b59 (fun _ _ h => ih) c Cv0
theorem av_mSide_tick {C : Nat → Prop} {v0 : Nat} {h : Hp} (c : Cl C h) (Cv0 : C v0) : Ao (qV C h) (f_mSide_tick v0 h) := by
  unfold f_mSide_tick
  have F0 := Av.rf c
  refine ao_it ao_no ?_
  refine ao_b2 F0 (av_mBook_tick (F0.cl) (F0.cl.r Cv0)) (fun r4 h2 F1 => ?_)
  refine ao_it ?_ ?_
  · exact ao_jV F1 (av_mSide_tick_b24 (F1.cl) Cv0)
  · refine ao_it ?_ ?_
    · refine ao_b2 F1 (av_mSide_isAlive (F1.cl)) (fun r7 h5 F2 => ?_)
      refine ao_it ?_ ?_
      · refine ao_it ?_ ?_
        · refine ao_it ?_ ?_
          · exact ao_jV F2 (av_mSide_tick_b114 (F2.cl) Cv0)
          · refine ao_v (fun y8 => ?_)
            refine ao_it ao_no ?_
            refine ao_it ?_ ao_no
            refine ao_I F2 (F2.cl.r Cv0) (fun h11 F4 => ?_)
            refine ao_it ao_no ?_
            refine ao_b2 F4 (av_mBook_oldest (F4.cl)) (fun r15 h13 F5 => ?_)
            refine ao_it ?_ ?_
            · exact ao_jV F5 (av_mSide_tick_b114 (F5.cl) Cv0)
            · refine ao_b1 F5 (av_mSide_tellPacket (F5.cl) Cv0) (fun h16 F6 => ?_)
              exact ao_jV F6 (av_mSide_tick_b114 (F6.cl) Cv0)
        · exact ao_jV F2 (av_mSide_tick_b59_lp FU (F2.cl) Cv0)
      · exact ao_so F2
    · exact ao_jV F1 (av_mSide_tick_b24 (F1.cl) Cv0)
theorem av_mSide_isFull_b56 {C : Nat → Prop} {k4 : Nat → Int → Int → Hp → Option (Int × Hp)} (hk4 : ∀ (v0 : Nat) (v1 : Int) (v2 : Int) (h : Hp), Cl C h → Ao (qI C h) (k4 v0 v1 v2 h)) {v0 : Nat} {v2 : Int} {s0 : Int} {h : Hp} (c : Cl C h) : Ao (qI C h) (f_mSide_isFull_b56 k4 v0 v2 s0 h) := by
  unfold f_mSide_isFull_b56
  have F0 := Av.rf c
  exact ao_jI F0 (hk4 _ _ _ _ (F0.cl))
theorem av_mSide_isFull_b51 {C : Nat → Prop} {k4 : Nat → Int → Int → Hp → Option (Int × Hp)} (hk4 : ∀ (v0 : Nat) (v1 : Int) (v2 : Int) (h : Hp), Cl C h → Ao (qI C h) (k4 v0 v1 v2 h)) {v0 : Nat} {v2 : Int} {h : Hp} (c : Cl C h) : Ao (qI C h) (f_mSide_isFull_b51 k4 v0 v2 h) := by
  unfold f_mSide_isFull_b51
  have F0 := Av.rf c
  exact ao_jI F0 (av_mSide_isFull_b56 hk4 (F0.cl))
theorem av_mSide_isFull_b55 {C : Nat → Prop} {k4 : Nat → Int → Int → Hp → Option (Int × Hp)} (hk4 : ∀ (v0 : Nat) (v1 : Int) (v2 : Int) (h : Hp), Cl C h → Ao (qI C h) (k4 v0 v1 v2 h)) {v0 : Nat} {v2 : Int} {h : Hp} (c : Cl C h) : Ao (qI C h) (f_mSide_isFull_b55 k4 v0 v2 h) := by
  unfold f_mSide_isFull_b55
  have F0 := Av.rf c
  exact ao_jI F0 (av_mSide_isFull_b56 hk4 (F0.cl))
theorem av_mSide_isFull_b4 {C : Nat → Prop} {k4 : Nat → Int → Int → Hp → Option (Int × Hp)} (hk4 : ∀ (v0 : Nat) (v1 : Int) (v2 : Int) (h : Hp), Cl C h → Ao (qI C h) (k4 v0 v1 v2 h)) {v0 : Nat} {v1 : Int} {v2 : Int} {h : Hp} (c : Cl C h) : Ao (qI C h) (f_mSide_isFull_b4 k4 v0 v1 v2 h) := by
  unfold f_mSide_isFull_b4
  have F0 := Av.rf c
  refine ao_it ?_ ?_
  · refine ao_it ?_ ao_no
    exact ao_so F0
  · refine ao_it ?_ ?_
    · exact ao_jI F0 (av_mSide_isFull_b51 hk4 (F0.cl))
    · refine ao_b2 F0 (av_mSide_hasGuards (F0.cl)) (fun r4 h2 F1 => ?_)
      refine ao_it ?_ ?_
      · exact ao_jI F1 (av_mSide_isFull_b55 hk4 (F1.cl))
      · refine ao_it ao_no ?_
        refine ao_it ao_no ?_
        refine ao_it ?_ ao_no
        refine ao_it ?_ ?_
        · exact ao_jI F1 (av_mSide_isFull_b51 hk4 (F1.cl))
        · refine ao_it ao_no ?_
          refine ao_it ?_ ao_no
          refine ao_it ao_no ?_
          refine ao_it ?_ ?_
          · exact ao_jI F1 (av_mSide_isFull_b55 hk4 (F1.cl))
          · exact ao_jI F1 (av_mSide_isFull_b51 hk4 (F1.cl))
theorem av_mSide_isFull_b4_lp {C : Nat → Prop} (n : Nat) : ∀ {v0 : Nat} {v1 : Int} {v2 : Int} {h : Hp}, Cl C h → Ao (qI C h) (f_mSide_isFull_b4_lp n v0 v1 v2 h) := by
  induction n with
  | zero => intros; exact ao_no
  | succ n ih => intro v0 v1 v2 h c; exact av_mSide_isFull_b4 (fun _ _ _ h => ih) c
theorem av_mSide_isFull {C : Nat → Prop} {v0 : Nat} {h : Hp} (c : Cl C h) : Ao (qI C h) (f_mSide_isFull v0 h) := by
  unfold f_mSide_isFull
  have F0 := Av.rf c
  exact ao_jI F0 (av_mSide_isFull_b4_lp FU (F0.cl))
theorem av_mSide_headerOf {C : Nat → Prop} {v0 : Int} {h : Hp} (c : Cl C h) : Ao (qI C h) (f_mSide_headerOf v0 h) := by
  unfold f_mSide_headerOf
  have F0 := Av.rf c
  refine ao_it ?_ ?_
  · refine ao_it ?_ ?_
    · exact ao_so F0
    · exact ao_so F0
  · exact ao_so F0
theorem av_mDraft_put_b5 {C : Nat → Prop} {k5 : Nat → Int → Int → Hp → Option (Hp)} (hk5 : ∀ (v0 : Nat) (v1 : Int) (v4 : Int) (h : Hp), Cl C h → C v0 → Ao (qV C h) (k5 v0 v1 v4 h)) {v0 : Nat} {v1 : Int} {v4 : Int} {h : Hp} (c : Cl C h) (Cv0 : C v0) : Ao (qV C h) (f_mDraft_put_b5 k5 v0 v1 v4 h) := by
  unfold f_mDraft_put_b5
  have F0 := Av.rf c
  refine ao_it ?_ ?_
  · exact ao_so F0
  · refine ao_it ao_no ?_
    refine ao_it ?_ ao_no
    refine ao_I F0 (F0.cl.r Cv0) (fun h4 F1 => ?_)
    refine ao_I F1 Cv0 (fun h5 F2 => ?_)
    exact ao_jV F2 (hk5 _ _ _ _ (F2.cl) Cv0)
theorem av_mDraft_put_b5_lp {C : Nat → Prop} (n : Nat) : ∀ {v0 : Nat} {v1 : Int} {v4 : Int} {h : Hp}, Cl C h → C v0 → Ao (qV C h) (f_mDraft_put_b5_lp n v0 v1 v4 h) := by
  induction n with
  | zero => intros; exact ao_no
  | succ n ih => intro v0 v1 v4 h c Cv0; exact av_mDraft_put_b5 (fun _ _ _ h => ih) c Cv0
theorem av_mDraft_put {C : Nat → Prop} {v0 : Nat} {v1 : Int} {v3 : Int} {h : Hp} (c : Cl C h) (Cv0 : C v0) : Ao (qV C h) (f_mDraft_put v0 v1 v3 h) := by
  unfold f_mDraft_put
  have F0 := Av.rf c
  refine ao_v (fun y1 => ?_)
  exact ao_jV F0 (av_mDraft_put_b5_lp FU (F0.cl) Cv0)
theorem av_mDraft_sized_b32 {C : Nat → Prop} {v0 : Nat} {v1 : Int} {v3 : Int} {s0 : Int} {h : Hp} (c : Cl C h) (Cv0 : C v0) : Ao (qV C h) (f_mDraft_sized_b32 v0 v1 v3 s0 h) := by
  unfold f_mDraft_sized_b32
  have F0 := Av.rf c
  refine ao_b1 F0 (av_mDraft_put (F0.cl) Cv0) (fun h1 F1 => ?_)
  exact ao_so F1
theorem av_mDraft_sized {C : Nat → Prop} {v0 : Nat} {v1 : Int} {v3 : Int} {h : Hp} (c : Cl C h) (Cv0 : C v0) : Ao (qV C h) (f_mDraft_sized v0 v1 v3 h) := by
  unfold f_mDraft_sized
  have F0 := Av.rf c
  refine ao_it ?_ ?_
  · refine ao_it ?_ ?_
    · refine ao_it ?_ ?_
      · exact ao_jV F0 (av_mDraft_sized_b32 (F0.cl) Cv0)
      · exact ao_jV F0 (av_mDraft_sized_b32 (F0.cl) Cv0)
    · exact ao_jV F0 (av_mDraft_sized_b32 (F0.cl) Cv0)
  · exact ao_jV F0 (av_mDraft_sized_b32 (F0.cl) Cv0)
theorem av_mDraft_number {C : Nat → Prop} {v0 : Nat} {v1 : Int} {h : Hp} (c : Cl C h) (Cv0 : C v0) : Ao (qV C h) (f_mDraft_number v0 v1 h) := by
  unfold f_mDraft_number
  have F0 := Av.rf c
  refine ao_b2 F0 (av_mWire_needs (F0.cl)) (fun r3 h1 F1 => ?_)
  refine ao_b1 F1 (av_mDraft_sized (F1.cl) Cv0) (fun h4 F2 => ?_)
  exact ao_so F2
theorem av_mSide_laysClose_b124 {C : Nat → Prop} {v0 : Nat} {v6 : Nat} {h : Hp} (c : Cl C h) (Cv0 : C v0) (Cv6 : C v6) : Ao (qV C h) (f_mSide_laysClose_b124 v0 v6 h) := by
  unfold f_mSide_laysClose_b124
  have F0 := Av.rf c
  refine ao_it ao_no ?_
  refine ao_b1 F0 (av_mDraft_number (F0.cl) Cv6) (fun h17 F1 => ?_)
  refine ao_I F1 Cv0 (fun h19 F2 => ?_)
  exact ao_so F2
theorem av_mSide_laysClose_b102 {C : Nat → Prop} {v0 : Nat} {v3 : Int} {v4 : Int} {v6 : Nat} {s0 : Nat} {s1 : Int} {h : Hp} (c : Cl C h) (Cv0 : C v0) (Cv6 : C v6) (Cs0 : C s0) : Ao (qV C h) (f_mSide_laysClose_b102 v0 v3 v4 v6 s0 s1 h) := by
  unfold f_mSide_laysClose_b102
  have F0 := Av.rf c
  refine ao_it ao_no ?_
  refine ao_b1 F0 (av_mDraft_put (F0.cl) Cs0) (fun h9 F1 => ?_)
  refine ao_it ao_no ?_
  refine ao_b1 F1 (av_mDraft_number (F1.cl) Cv6) (fun h12 F2 => ?_)
  refine ao_it ?_ ?_
  · exact ao_jV F2 (av_mSide_laysClose_b124 (F2.cl) Cv0 Cv6)
  · refine ao_b1 F2 (av_mDraft_number (F2.cl) Cv6) (fun h14 F3 => ?_)
    exact ao_jV F3 (av_mSide_laysClose_b124 (F3.cl) Cv0 Cv6)
theorem av_mSide_laysClose_b62 {C : Nat → Prop} {v0 : Nat} {v1 : Int} {v2 : Int} {v3 : Int} {v4 : Int} {s0 : Int} {s1 : Int} {h : Hp} (c : Cl C h) (Cv0 : C v0) : Ao (qV C h) (f_mSide_laysClose_b62 v0 v1 v2 v3 v4 s0 s1 h) := by
  unfold f_mSide_laysClose_b62
  have F0 := Av.rf c
  refine ao_v (fun y4 => ?_)
  refine ao_it ?_ ?_
  · exact ao_so F0
  · refine ao_it ?_ ?_
    · refine ao_it ao_no ?_
      refine ao_it ?_ ao_no
      refine ao_m (F0.cl.r (F0.cl.r Cv0)) (fun y7 Cy7 => ?_)
      refine ao_it ?_ ?_
      · exact ao_jV F0 (av_mSide_laysClose_b102 (F0.cl) Cv0 Cy7 Cy7)
      · exact ao_jV F0 (av_mSide_laysClose_b102 (F0.cl) Cv0 Cy7 Cy7)
    · exact ao_so F0
theorem av_mSide_laysClose_b43 {C : Nat → Prop} {v0 : Nat} {v1 : Int} {v2 : Int} {v3 : Int} {s0 : Int} {h : Hp} (c : Cl C h) (Cv0 : C v0) : Ao (qV C h) (f_mSide_laysClose_b43 v0 v1 v2 v3 s0 h) := by
  unfold f_mSide_laysClose_b43
  have F0 := Av.rf c
  refine ao_b2 F0 (av_mWire_needs (F0.cl)) (fun r3 h1 F1 => ?_)
  refine ao_it ?_ ?_
  · exact ao_jV F1 (av_mSide_laysClose_b62 (F1.cl) Cv0)
  · exact ao_jV F1 (av_mSide_laysClose_b62 (F1.cl) Cv0)
theorem av_mSide_laysClose_b39 {C : Nat → Prop} {v0 : Nat} {v1 : Int} {v2 : Int} {v3 : Int} {h : Hp} (c : Cl C h) (Cv0 : C v0) : Ao (qV C h) (f_mSide_laysClose_b39 v0 v1 v2 v3 h) := by
  unfold f_mSide_laysClose_b39
  have F0 := Av.rf c
  exact ao_jV F0 (av_mSide_laysClose_b43 (F0.cl) Cv0)
theorem av_mSide_laysClose_b19 {C : Nat → Prop} {v0 : Nat} {v1 : Int} {v2 : Int} {s0 : Int} {h : Hp} (c : Cl C h) (Cv0 : C v0) : Ao (qV C h) (f_mSide_laysClose_b19 v0 v1 v2 s0 h) := by
  unfold f_mSide_laysClose_b19
  have F0 := Av.rf c
  refine ao_it ?_ ?_
  · exact ao_jV F0 (av_mSide_laysClose_b39 (F0.cl) Cv0)
  · refine ao_it ?_ ?_
    · exact ao_jV F0 (av_mSide_laysClose_b39 (F0.cl) Cv0)
    · exact ao_jV F0 (av_mSide_laysClose_b43 (F0.cl) Cv0)
theorem av_mSide_laysClose_b14 {C : Nat → Prop} {v0 : Nat} {v1 : Int} {v2 : Int} {h : Hp} (c : Cl C h) (Cv0 : C v0) : Ao (qV C h) (f_mSide_laysClose_b14 v0 v1 v2 h) := by
  unfold f_mSide_laysClose_b14
  have F0 := Av.rf c
  exact ao_jV F0 (av_mSide_laysClose_b19 (F0.cl) Cv0)
theorem av_mSide_laysClose {C : Nat → Prop} {v0 : Nat} {v1 : Int} {v2 : Int} {h : Hp} (c : Cl C h) (Cv0 : C v0) : Ao (qV C h) (f_mSide_laysClose v0 v1 v2 h) := by
  unfold f_mSide_laysClose
  have F0 := Av.rf c
  refine ao_it ?_ ?_
  · exact ao_jV F0 (av_mSide_laysClose_b14 (F0.cl) Cv0)
  · refine ao_it ?_ ?_
    · exact ao_jV F0 (av_mSide_laysClose_b19 (F0.cl) Cv0)
    · exact ao_jV F0 (av_mSide_laysClose_b14 (F0.cl) Cv0)
theorem av_mDraft_bytes_b3 {C : Nat → Prop} {k3 : Nat → Nat → Int → Int → Int → Hp → Option (Hp)} (hk3 : ∀ (v0 : Nat) (v1 : Nat) (v2 : Int) (v3 : Int) (v4 : Int) (h : Hp), Cl C h → C v0 → Ao (qV C h) (k3 v0 v1 v2 v3 v4 h)) {v0 : Nat} {v1 : Nat} {v2 : Int} {v3 : Int} {v4 : Int} {h : Hp} (c : Cl C h) (Cv0 : C v0) : Ao (qV C h) (f_mDraft_bytes_b3 k3 v0 v1 v2 v3 v4 h) := by
  unfold f_mDraft_bytes_b3
  have F0 := Av.rf c
  refine ao_it ?_ ?_
  · exact ao_so F0
  · refine ao_it ao_no ?_
    refine ao_it ?_ ao_no
    refine ao_b1 F0 (av_mDraft_put (F0.cl) Cv0) (fun h3 F1 => ?_)
    exact ao_jV F1 (hk3 _ _ _ _ _ _ (F1.cl) Cv0)
theorem av_mDraft_bytes_b3_lp {C : Nat → Prop} (n : Nat) : ∀ {v0 : Nat} {v1 : Nat} {v2 : Int} {v3 : Int} {v4 : Int} {h : Hp}, Cl C h → C v0 → Ao (qV C h) (f_mDraft_bytes_b3_lp n v0 v1 v2 v3 v4 h) := by
  induction n with
  | zero => intros; exact ao_no
  | succ n ih => intro v0 v1 v2 v3 v4 h c Cv0; exact av_mDraft_bytes_b3 (fun _ _ _ _ _ h => ih) c Cv0
theorem av_mDraft_bytes {C : Nat → Prop} {v0 : Nat} {v1 : Nat} {v2 : Int} {v3 : Int} {h : Hp} (c : Cl C h) (Cv0 : C v0) : Ao (qV C h) (f_mDraft_bytes v0 v1 v2 v3 h) := by
  unfold f_mDraft_bytes
  have F0 := Av.rf c
  exact ao_jV F0 (av_mDraft_bytes_b3_lp FU (F0.cl) Cv0)
theorem av_mBook_range {C : Nat → Prop} {v0 : Nat} {v1 : Int} {v2 : Int} {v3 : Int} {h : Hp} (c : Cl C h) : Ao (qI C h) (f_mBook_range v0 v1 v2 v3 h) := by
  unfold f_mBook_range
  have F0 := Av.rf c
  refine ao_it ao_no ?_
  refine ao_it ?_ ao_no
  refine ao_v (fun y3 => ?_)
  refine ao_it ?_ ?_
  · refine ao_it ao_no ?_
    refine ao_it ?_ ao_no
    exact ao_so F0
  · refine ao_it ao_no ?_
    refine ao_it ?_ ao_no
    exact ao_so F0
theorem av_mBook_delay {C : Nat → Prop} {v0 : Nat} {v1 : Int} {h : Hp} (c : Cl C h) : Ao (qI C h) (f_mBook_delay v0 v1 h) := by
  unfold f_mBook_delay
  have F0 := Av.rf c
  refine ao_it ao_no ?_
  refine ao_it ?_ ao_no
  refine ao_it ?_ ?_
  · refine ao_it ao_no ?_
    refine ao_it ?_ ao_no
    exact ao_so F0
  · exact ao_so F0
theorem av_mSide_ackSize_b59 {C : Nat → Prop} {k59 : Nat → Int → Int → Int → Int → Hp → Option (Int × Hp)} (hk59 : ∀ (v0 : Nat) (v1 : Int) (v2 : Int) (v5 : Int) (v6 : Int) (h : Hp), Cl C h → Ao (qI C h) (k59 v0 v1 v2 v5 v6 h)) {v0 : Nat} {v1 : Int} {v2 : Int} {v5 : Int} {v6 : Int} {h : Hp} (c : Cl C h) : Ao (qI C h) (f_mSide_ackSize_b59 k59 v0 v1 v2 v5 v6 h) := by
  unfold f_mSide_ackSize_b59
  have F0 := Av.rf c
  refine ao_it ?_ ?_
  · exact ao_so F0
  · refine ao_it ao_no ?_
    refine ao_b2 F0 (av_mBook_range (F0.cl)) (fun r29 h27 F1 => ?_)
    refine ao_it ao_no ?_
    refine ao_b2 F1 (av_mBook_range (F1.cl)) (fun r33 h31 F2 => ?_)
    refine ao_b2 F2 (av_mWire_needs (F2.cl)) (fun r36 h34 F3 => ?_)
    refine ao_it ao_no ?_
    refine ao_b2 F3 (av_mBook_range (F3.cl)) (fun r40 h38 F4 => ?_)
    refine ao_it ao_no ?_
    refine ao_b2 F4 (av_mBook_range (F4.cl)) (fun r44 h42 F5 => ?_)
    refine ao_b2 F5 (av_mWire_needs (F5.cl)) (fun r47 h45 F6 => ?_)
    refine ao_v (fun y48 => ?_)
    exact ao_jI F6 (hk59 _ _ _ _ _ _ (F6.cl))
theorem av_mSide_ackSize_b59_lp {C : Nat → Prop} (n : Nat) : ∀ {v0 : Nat} {v1 : Int} {v2 : Int} {v5 : Int} {v6 : Int} {h : Hp}, Cl C h → Ao (qI C h) (f_mSide_ackSize_b59_lp n v0 v1 v2 v5 v6 h) := by
  induction n with
  | zero => intros; exact ao_no
  | succ n ih => intro v0 v1 v2 v5 v6 h c; exact av_mSide_ackSize_b59 (fun _ _ _ _ _ h => ih) c
theorem av_mSide_ackSize {C : Nat → Prop} {v0 : Nat} {v1 : Int} {v2 : Int} {h : Hp} (c : Cl C h) : Ao (qI C h) (f_mSide_ackSize v0 v1 v2 h) := by
  unfold f_mSide_ackSize
  have F0 := Av.rf c
  refine ao_it ao_no ?_
  refine ao_b2 F0 (av_mBook_range (F0.cl)) (fun r4 h2 F1 => ?_)
  refine ao_b2 F1 (av_mWire_needs (F1.cl)) (fun r7 h5 F2 => ?_)
  refine ao_it ao_no ?_
  refine ao_b2 F2 (av_mBook_delay (F2.cl)) (fun r11 h9 F3 => ?_)
  refine ao_b2 F3 (av_mWire_needs (F3.cl)) (fun r14 h12 F4 => ?_)
  refine ao_b2 F4 (av_mWire_needs (F4.cl)) (fun r17 h15 F5 => ?_)
  refine ao_it ao_no ?_
  refine ao_b2 F5 (av_mBook_range (F5.cl)) (fun r21 h19 F6 => ?_)
  refine ao_b2 F6 (av_mWire_needs (F6.cl)) (fun r24 h22 F7 => ?_)
  refine ao_v (fun y25 => ?_)
  exact ao_jI F7 (av_mSide_ackSize_b59_lp FU (F7.cl))
theorem av_mSide_laysAck_b153 {C : Nat → Prop} {k108 : Nat → Int → Int → Nat → Int → Hp → Option (Int × Hp)} (hk108 : ∀ (v0 : Nat) (v1 : Int) (v3 : Int) (v4 : Nat) (v5 : Int) (h : Hp), Cl C h → C v4 → Ao (qI C h) (k108 v0 v1 v3 v4 v5 h)) {v0 : Nat} {v1 : Int} {v3 : Int} {v4 : Nat} {v5 : Int} {h : Hp} (c : Cl C h) (Cv4 : C v4) : Ao (qI C h) (f_mSide_laysAck_b153 k108 v0 v1 v3 v4 v5 h) := by
  unfold f_mSide_laysAck_b153
  have F0 := Av.rf c
  refine ao_it ao_no ?_
  refine ao_b2 F0 (av_mBook_range (F0.cl)) (fun r44 h42 F1 => ?_)
  refine ao_it ao_no ?_
  refine ao_b2 F1 (av_mBook_range (F1.cl)) (fun r48 h46 F2 => ?_)
  refine ao_it ao_no ?_
  refine ao_b1 F2 (av_mDraft_number (F2.cl) Cv4) (fun h50 F3 => ?_)
  exact ao_jI F3 (hk108 _ _ _ _ _ _ (F3.cl) Cv4)
theorem av_mSide_laysAck_b108 {C : Nat → Prop} {k108 : Nat → Int → Int → Nat → Int → Hp → Option (Int × Hp)} (hk108 : ∀ (v0 : Nat) (v1 : Int) (v3 : Int) (v4 : Nat) (v5 : Int) (h : Hp), Cl C h → C v4 → Ao (qI C h) (k108 v0 v1 v3 v4 v5 h)) {v0 : Nat} {v1 : Int} {v3 : Int} {v4 : Nat} {v5 : Int} {h : Hp} (c : Cl C h) (Cv4 : C v4) : Ao (qI C h) (f_mSide_laysAck_b108 k108 v0 v1 v3 v4 v5 h) := by
  unfold f_mSide_laysAck_b108
  have F0 := Av.rf c
  refine ao_it ?_ ?_
  · exact ao_so F0
  · refine ao_it ?_ ?_
    · exact ao_jI F0 (av_mSide_laysAck_b153 hk108 (F0.cl) Cv4)
    · refine ao_it ao_no ?_
      refine ao_b2 F0 (av_mBook_range (F0.cl)) (fun r33 h31 F1 => ?_)
      refine ao_it ao_no ?_
      refine ao_b2 F1 (av_mBook_range (F1.cl)) (fun r37 h35 F2 => ?_)
      refine ao_it ao_no ?_
      refine ao_b1 F2 (av_mDraft_number (F2.cl) Cv4) (fun h39 F3 => ?_)
      exact ao_jI F3 (av_mSide_laysAck_b153 hk108 (F3.cl) Cv4)
theorem av_mSide_laysAck_b108_lp {C : Nat → Prop} (n : Nat) : ∀ {v0 : Nat} {v1 : Int} {v3 : Int} {v4 : Nat} {v5 : Int} {h : Hp}, Cl C h → C v4 → Ao (qI C h) (f_mSide_laysAck_b108_lp n v0 v1 v3 v4 v5 h) := by
  induction n with
  | zero => intros; exact ao_no
  | succ n ih => intro v0 v1 v3 v4 v5 h c Cv4; exact av_mSide_laysAck_b108 (fun _ _ _ _ _ h => ih) c Cv4
theorem av_mSide_laysAck_b44 {C : Nat → Prop} {v0 : Nat} {v1 : Int} {v3 : Int} {h : Hp} (c : Cl C h) (Cv0 : C v0) : Ao (qI C h) (f_mSide_laysAck_b44 v0 v1 v3 h) := by
  unfold f_mSide_laysAck_b44
  have F0 := Av.rf c
  refine ao_it ?_ ?_
  · refine ao_it ao_no ?_
    refine ao_it ?_ ao_no
    refine ao_m (F0.cl.r (F0.cl.r Cv0)) (fun y12 Cy12 => ?_)
    refine ao_it ao_no ?_
    refine ao_b1 F0 (av_mDraft_put (F0.cl) Cy12) (fun h14 F2 => ?_)
    refine ao_it ao_no ?_
    refine ao_b2 F2 (av_mBook_range (F2.cl)) (fun r19 h17 F3 => ?_)
    refine ao_b1 F3 (av_mDraft_number (F3.cl) Cy12) (fun h20 F4 => ?_)
    refine ao_it ao_no ?_
    refine ao_b2 F4 (av_mBook_delay (F4.cl)) (fun r25 h23 F5 => ?_)
    refine ao_b1 F5 (av_mDraft_number (F5.cl) Cy12) (fun h26 F6 => ?_)
    refine ao_b1 F6 (av_mDraft_number (F6.cl) Cy12) (fun h28 F7 => ?_)
    exact ao_jI F7 (av_mSide_laysAck_b108_lp FU (F7.cl) Cy12)
  · exact ao_so F0
theorem av_mSide_laysAck_b24 {C : Nat → Prop} {k24 : Nat → Int → Int → Int → Hp → Option (Int × Hp)} (hk24 : ∀ (v0 : Nat) (v1 : Int) (v2 : Int) (v3 : Int) (h : Hp), Cl C h → C v0 → Ao (qI C h) (k24 v0 v1 v2 v3 h)) {v0 : Nat} {v1 : Int} {v2 : Int} {v3 : Int} {h : Hp} (c : Cl C h) (Cv0 : C v0) : Ao (qI C h) (f_mSide_laysAck_b24 k24 v0 v1 v2 v3 h) := by
  unfold f_mSide_laysAck_b24
  have F0 := Av.rf c
  refine ao_it ?_ ?_
  · exact ao_jI F0 (av_mSide_laysAck_b44 (F0.cl) Cv0)
  · refine ao_b2 F0 (av_mSide_ackSize (F0.cl)) (fun r9 h7 F1 => ?_)
    refine ao_it ?_ ?_
    · exact ao_jI F1 (av_mSide_laysAck_b44 (F1.cl) Cv0)
    · exact ao_jI F1 (hk24 _ _ _ _ _ (F1.cl) Cv0)
theorem av_mSide_laysAck_b24_lp {C : Nat → Prop} (n : Nat) : ∀ {v0 : Nat} {v1 : Int} {v2 : Int} {v3 : Int} {h : Hp}, Cl C h → C v0 → Ao (qI C h) (f_mSide_laysAck_b24_lp n v0 v1 v2 v3 h) := by
  induction n with
  | zero => intros; exact ao_no
  | succ n ih => intro v0 v1 v2 v3 h c Cv0; exact av_mSide_laysAck_b24 (fun _ _ _ _ h => ih) c Cv0
theorem av_mSide_laysAck {C : Nat → Prop} {v0 : Nat} {v1 : Int} {v2 : Int} {h : Hp} (c : Cl C h) (Cv0 : C v0) : Ao (qI C h) (f_mSide_laysAck v0 v1 v2 h) := by
  unfold f_mSide_laysAck
  have F0 := Av.rf c
  refine ao_it ao_no ?_
  refine ao_it ao_no ?_
  refine ao_it ?_ ao_no
  refine ao_it ?_ ?_
  · refine ao_it ao_no ?_
    refine ao_it ?_ ao_no
    refine ao_v (fun y6 => ?_)
    exact ao_jI F0 (av_mSide_laysAck_b24_lp FU (F0.cl) Cv0)
  · exact ao_so F0
theorem av_mBook_flight_b67 {C : Nat → Prop} {k4 : Nat → Int → Int → Hp → Option (Int × Hp)} (hk4 : ∀ (v0 : Nat) (v1 : Int) (v2 : Int) (h : Hp), Cl C h → Ao (qI C h) (k4 v0 v1 v2 h)) {k16 : Nat → Int → Int → Int → Hp → Option (Int × Hp)} (hk16 : ∀ (v0 : Nat) (v1 : Int) (v2 : Int) (v3 : Int) (h : Hp), Cl C h → Ao (qI C h) (k16 v0 v1 v2 v3 h)) {v0 : Nat} {v2 : Int} {v3 : Int} {s0 : Int} {s1 : Int} {h : Hp} (c : Cl C h) : Ao (qI C h) (f_mBook_flight_b67 k4 k16 v0 v2 v3 s0 s1 h) := by
  unfold f_mBook_flight_b67
  have F0 := Av.rf c
  refine ao_v (fun y13 => ?_)
  exact ao_jI F0 (hk16 _ _ _ _ _ (F0.cl))
theorem av_mBook_flight_b66 {C : Nat → Prop} {k4 : Nat → Int → Int → Hp → Option (Int × Hp)} (hk4 : ∀ (v0 : Nat) (v1 : Int) (v2 : Int) (h : Hp), Cl C h → Ao (qI C h) (k4 v0 v1 v2 h)) {k16 : Nat → Int → Int → Int → Hp → Option (Int × Hp)} (hk16 : ∀ (v0 : Nat) (v1 : Int) (v2 : Int) (v3 : Int) (h : Hp), Cl C h → Ao (qI C h) (k16 v0 v1 v2 v3 h)) {v0 : Nat} {v2 : Int} {v3 : Int} {s0 : Int} {h : Hp} (c : Cl C h) : Ao (qI C h) (f_mBook_flight_b66 k4 k16 v0 v2 v3 s0 h) := by
  unfold f_mBook_flight_b66
  have F0 := Av.rf c
  exact ao_jI F0 (av_mBook_flight_b67 hk4 hk16 (F0.cl))
theorem av_mBook_flight_b16 {C : Nat → Prop} {k4 : Nat → Int → Int → Hp → Option (Int × Hp)} (hk4 : ∀ (v0 : Nat) (v1 : Int) (v2 : Int) (h : Hp), Cl C h → Ao (qI C h) (k4 v0 v1 v2 h)) {k16 : Nat → Int → Int → Int → Hp → Option (Int × Hp)} (hk16 : ∀ (v0 : Nat) (v1 : Int) (v2 : Int) (v3 : Int) (h : Hp), Cl C h → Ao (qI C h) (k16 v0 v1 v2 v3 h)) {v0 : Nat} {v1 : Int} {v2 : Int} {v3 : Int} {h : Hp} (c : Cl C h) : Ao (qI C h) (f_mBook_flight_b16 k4 k16 v0 v1 v2 v3 h) := by
  unfold f_mBook_flight_b16
  have F0 := Av.rf c
  refine ao_it ao_no ?_
  refine ao_it ?_ ao_no
  refine ao_it ?_ ?_
  · exact ao_jI F0 (hk4 _ _ _ _ (F0.cl))
  · refine ao_b2 F0 (av_mBook_isOut (F0.cl)) (fun r8 h6 F1 => ?_)
    refine ao_it ?_ ?_
    · exact ao_jI F1 (av_mBook_flight_b66 hk4 hk16 (F1.cl))
    · refine ao_it ao_no ?_
      refine ao_it ?_ ao_no
      refine ao_it ?_ ?_
      · exact ao_jI F1 (av_mBook_flight_b66 hk4 hk16 (F1.cl))
      · refine ao_it ao_no ?_
        refine ao_it ?_ ao_no
        exact ao_jI F1 (av_mBook_flight_b67 hk4 hk16 (F1.cl))
theorem av_mBook_flight_b16_lp {C : Nat → Prop} {k4 : Nat → Int → Int → Hp → Option (Int × Hp)} (hk4 : ∀ (v0 : Nat) (v1 : Int) (v2 : Int) (h : Hp), Cl C h → Ao (qI C h) (k4 v0 v1 v2 h)) (n : Nat) : ∀ {v0 : Nat} {v1 : Int} {v2 : Int} {v3 : Int} {h : Hp}, Cl C h → Ao (qI C h) (f_mBook_flight_b16_lp k4 n v0 v1 v2 v3 h) := by
  induction n with
  | zero => intros; exact ao_no
  | succ n ih => intro v0 v1 v2 v3 h c; exact av_mBook_flight_b16 hk4 (fun _ _ _ _ h => ih) c
theorem av_mBook_flight_b4 {C : Nat → Prop} {k4 : Nat → Int → Int → Hp → Option (Int × Hp)} (hk4 : ∀ (v0 : Nat) (v1 : Int) (v2 : Int) (h : Hp), Cl C h → Ao (qI C h) (k4 v0 v1 v2 h)) {v0 : Nat} {v1 : Int} {v2 : Int} {h : Hp} (c : Cl C h) : Ao (qI C h) (f_mBook_flight_b4 k4 v0 v1 v2 h) := by
  unfold f_mBook_flight_b4
  have F0 := Av.rf c
  refine ao_it ?_ ?_
  · exact ao_so F0
  · refine ao_it ao_no ?_
    refine ao_it ?_ ao_no
    refine ao_v (fun y3 => ?_)
    exact ao_jI F0 (av_mBook_flight_b16_lp hk4 FU (F0.cl))
theorem av_mBook_flight_b4_lp {C : Nat → Prop} (n : Nat) : ∀ {v0 : Nat} {v1 : Int} {v2 : Int} {h : Hp}, Cl C h → Ao (qI C h) (f_mBook_flight_b4_lp n v0 v1 v2 h) := by
  induction n with
  | zero => intros; exact ao_no
  | succ n ih => intro v0 v1 v2 h c; exact av_mBook_flight_b4 (fun _ _ _ h => ih) c
theorem av_mBook_flight {C : Nat → Prop} {v0 : Nat} {h : Hp} (c : Cl C h) : Ao (qI C h) (f_mBook_flight v0 h) := by
  unfold f_mBook_flight
  have F0 := Av.rf c
  exact ao_jI F0 (av_mBook_flight_b4_lp FU (F0.cl))
theorem av_mCargo_grow_b50 {C : Nat → Prop} {k50 : Nat → Nat → Nat → Nat → Nat → Nat → Int → Hp → Option (Hp)} (hk50 : ∀ (v0 : Nat) (v1 : Nat) (v2 : Nat) (v3 : Nat) (v4 : Nat) (v5 : Nat) (v6 : Int) (h : Hp), Cl C h → C v0 → C v1 → C v2 → C v3 → C v4 → C v5 → Ao (qV C h) (k50 v0 v1 v2 v3 v4 v5 v6 h)) {v0 : Nat} {v1 : Nat} {v2 : Nat} {v3 : Nat} {v4 : Nat} {v5 : Nat} {v6 : Int} {h : Hp} (c : Cl C h) (Cv0 : C v0) (Cv1 : C v1) (Cv2 : C v2) (Cv3 : C v3) (Cv4 : C v4) (Cv5 : C v5) : Ao (qV C h) (f_mCargo_grow_b50 k50 v0 v1 v2 v3 v4 v5 v6 h) := by
  unfold f_mCargo_grow_b50
  have F0 := Av.rf c
  refine ao_it ?_ ?_
  · refine ao_R F0 Cv0 Cv1 (fun h26 F1 => ?_)
    refine ao_R F1 Cv0 Cv2 (fun h27 F2 => ?_)
    refine ao_R F2 Cv0 Cv3 (fun h28 F3 => ?_)
    refine ao_R F3 Cv0 Cv4 (fun h29 F4 => ?_)
    refine ao_R F4 Cv0 Cv5 (fun h30 F5 => ?_)
    exact ao_so F5
  · refine ao_it ao_no ?_
    refine ao_it ?_ ao_no
    refine ao_it ao_no ?_
    refine ao_it ?_ ao_no
    refine ao_I F0 Cv1 (fun h35 F6 => ?_)
    refine ao_it ao_no ?_
    refine ao_it ?_ ao_no
    refine ao_it ao_no ?_
    refine ao_it ?_ ao_no
    refine ao_I F6 Cv2 (fun h40 F7 => ?_)
    refine ao_it ao_no ?_
    refine ao_it ?_ ao_no
    refine ao_it ao_no ?_
    refine ao_it ?_ ao_no
    refine ao_J F7 Cv3 (fun h45 F8 => ?_)
    refine ao_it ao_no ?_
    refine ao_it ?_ ao_no
    refine ao_it ao_no ?_
    refine ao_it ?_ ao_no
    refine ao_J F8 Cv4 (fun h50 F9 => ?_)
    refine ao_it ao_no ?_
    refine ao_it ?_ ao_no
    refine ao_it ao_no ?_
    refine ao_it ?_ ao_no
    refine ao_I F9 Cv5 (fun h55 F10 => ?_)
    exact ao_jV F10 (hk50 _ _ _ _ _ _ _ _ (F10.cl) Cv0 Cv1 Cv2 Cv3 Cv4 Cv5)
theorem av_mCargo_grow_b50_lp {C : Nat → Prop} (n : Nat) : ∀ {v0 : Nat} {v1 : Nat} {v2 : Nat} {v3 : Nat} {v4 : Nat} {v5 : Nat} {v6 : Int} {h : Hp}, Cl C h → C v0 → C v1 → C v2 → C v3 → C v4 → C v5 → Ao (qV C h) (f_mCargo_grow_b50_lp n v0 v1 v2 v3 v4 v5 v6 h) := by
  induction n with
  | zero => intros; exact ao_no
  | succ n ih => intro v0 v1 v2 v3 v4 v5 v6 h c Cv0 Cv1 Cv2 Cv3 Cv4 Cv5; exact av_mCargo_grow_b50 (fun _ _ _ _ _ _ _ h => ih) c Cv0 Cv1 Cv2 Cv3 Cv4 Cv5
theorem av_mCargo_grow {C : Nat → Prop} {v0 : Nat} {h : Hp} (c : Cl C h) (Cv0 : C v0) : Ao (qV C h) (f_mCargo_grow v0 h) := by
  unfold f_mCargo_grow
  have F0 := Av.rf c
  refine ao_it ?_ ao_no
  refine ao_nw F0 (fun h2 F1 => ?_)
  refine ao_m (F0.cl.n) (fun y4 Cy4 => ?_)
  refine ao_it ?_ ao_no
  refine ao_nw F1 (fun h7 F3 => ?_)
  refine ao_m (F1.cl.n) (fun y9 Cy9 => ?_)
  refine ao_it ?_ ao_no
  refine ao_nw F3 (fun h12 F5 => ?_)
  refine ao_m (F3.cl.n) (fun y14 Cy14 => ?_)
  refine ao_it ?_ ao_no
  refine ao_nw F5 (fun h17 F7 => ?_)
  refine ao_m (F5.cl.n) (fun y19 Cy19 => ?_)
  refine ao_it ?_ ao_no
  refine ao_nw F7 (fun h22 F9 => ?_)
  refine ao_m (F7.cl.n) (fun y24 Cy24 => ?_)
  exact ao_jV F9 (av_mCargo_grow_b50_lp FU (F9.cl) Cv0 Cy4 Cy9 Cy14 Cy19 Cy24)
theorem av_mCargo_add_b79 {C : Nat → Prop} {v0 : Nat} {s0 : Nat} {s1 : Int} {s2 : Int} {h : Hp} (c : Cl C h) (Cv0 : C v0) (Cs0 : C s0) : Ao (qV C h) (f_mCargo_add_b79 v0 s0 s1 s2 h) := by
  unfold f_mCargo_add_b79
  have F0 := Av.rf c
  refine ao_it ao_no ?_
  refine ao_it ?_ ao_no
  refine ao_I F0 Cs0 (fun h18 F1 => ?_)
  refine ao_I F1 Cv0 (fun h19 F2 => ?_)
  exact ao_so F2
theorem av_mCargo_add_b16 {C : Nat → Prop} {v0 : Nat} {v1 : Int} {v2 : Int} {v4 : Int} {v6 : Int} {v7 : Int} {h : Hp} (c : Cl C h) (Cv0 : C v0) : Ao (qV C h) (f_mCargo_add_b16 v0 v1 v2 v4 v6 v7 h) := by
  unfold f_mCargo_add_b16
  have F0 := Av.rf c
  refine ao_it ao_no ?_
  refine ao_it ?_ ao_no
  refine ao_I F0 (F0.cl.r Cv0) (fun h6 F1 => ?_)
  refine ao_it ao_no ?_
  refine ao_it ?_ ao_no
  refine ao_J F1 (F1.cl.r Cv0) (fun h9 F2 => ?_)
  refine ao_it ao_no ?_
  refine ao_it ?_ ao_no
  refine ao_J F2 (F2.cl.r Cv0) (fun h12 F3 => ?_)
  refine ao_it ao_no ?_
  refine ao_it ?_ ao_no
  refine ao_I F3 (F3.cl.r Cv0) (fun h15 F4 => ?_)
  refine ao_it ?_ ?_
  · exact ao_jV F4 (av_mCargo_add_b79 (F4.cl) Cv0 (F4.cl.r Cv0))
  · exact ao_jV F4 (av_mCargo_add_b79 (F4.cl) Cv0 (F4.cl.r Cv0))
theorem av_mCargo_add {C : Nat → Prop} {v0 : Nat} {v1 : Int} {v2 : Int} {v4 : Int} {v6 : Int} {v7 : Int} {h : Hp} (c : Cl C h) (Cv0 : C v0) : Ao (qV C h) (f_mCargo_add v0 v1 v2 v4 v6 v7 h) := by
  unfold f_mCargo_add
  have F0 := Av.rf c
  refine ao_it ao_no ?_
  refine ao_it ?_ ?_
  · exact ao_jV F0 (av_mCargo_add_b16 (F0.cl) Cv0)
  · refine ao_b1 F0 (av_mCargo_grow (F0.cl) Cv0) (fun h2 F1 => ?_)
    exact ao_jV F1 (av_mCargo_add_b16 (F1.cl) Cv0)
theorem av_mSide_laysCrypto_b154 {C : Nat → Prop} {k10 : Nat → Int → Int → Nat → Int → Hp → Option (Hp)} (hk10 : ∀ (v0 : Nat) (v1 : Int) (v2 : Int) (v3 : Nat) (v4 : Int) (h : Hp), Cl C h → C v0 → C v3 → Ao (qV C h) (k10 v0 v1 v2 v3 v4 h)) {k92 : Nat → Int → Int → Nat → Int → Int → Int → Int → Int → Hp → Option (Hp)} (hk92 : ∀ (v0 : Nat) (v1 : Int) (v2 : Int) (v3 : Nat) (v5 : Int) (v6 : Int) (v7 : Int) (v8 : Int) (v9 : Int) (h : Hp), Cl C h → C v0 → C v3 → Ao (qV C h) (k92 v0 v1 v2 v3 v5 v6 v7 v8 v9 h)) {v0 : Nat} {v1 : Int} {v2 : Int} {v3 : Nat} {v5 : Int} {v6 : Int} {v7 : Int} {v8 : Int} {v9 : Int} {h : Hp} (c : Cl C h) (Cv0 : C v0) (Cv3 : C v3) : Ao (qV C h) (f_mSide_laysCrypto_b154 k10 k92 v0 v1 v2 v3 v5 v6 v7 v8 v9 h) := by
  unfold f_mSide_laysCrypto_b154
  have F0 := Av.rf c
  exact ao_jV F0 (hk92 _ _ _ _ _ _ _ _ _ _ (F0.cl) Cv0 Cv3)
theorem av_mSide_laysCrypto_b272 {C : Nat → Prop} {k10 : Nat → Int → Int → Nat → Int → Hp → Option (Hp)} (hk10 : ∀ (v0 : Nat) (v1 : Int) (v2 : Int) (v3 : Nat) (v4 : Int) (h : Hp), Cl C h → C v0 → C v3 → Ao (qV C h) (k10 v0 v1 v2 v3 v4 h)) {v0 : Nat} {v1 : Int} {v2 : Int} {v3 : Nat} {v4 : Int} {v6 : Int} {v9 : Int} {h : Hp} (c : Cl C h) (Cv0 : C v0) (Cv3 : C v3) : Ao (qV C h) (f_mSide_laysCrypto_b272 k10 v0 v1 v2 v3 v4 v6 v9 h) := by
  unfold f_mSide_laysCrypto_b272
  have F0 := Av.rf c
  refine ao_it ao_no ?_
  refine ao_it ?_ ao_no
  refine ao_it ao_no ?_
  refine ao_b1 F0 (av_mCargo_add (F0.cl) (F0.cl.r (F0.cl.r Cv0))) (fun h38 F1 => ?_)
  exact ao_jV F1 (hk10 _ _ _ _ _ _ (F1.cl) Cv0 Cv3)
theorem av_mSide_laysCrypto_b226 {C : Nat → Prop} {k10 : Nat → Int → Int → Nat → Int → Hp → Option (Hp)} (hk10 : ∀ (v0 : Nat) (v1 : Int) (v2 : Int) (v3 : Nat) (v4 : Int) (h : Hp), Cl C h → C v0 → C v3 → Ao (qV C h) (k10 v0 v1 v2 v3 v4 h)) {k226 : Nat → Int → Int → Nat → Int → Int → Int → Int → Int → Hp → Option (Hp)} (hk226 : ∀ (v0 : Nat) (v1 : Int) (v2 : Int) (v3 : Nat) (v4 : Int) (v6 : Int) (v7 : Int) (v9 : Int) (v10 : Int) (h : Hp), Cl C h → C v0 → C v3 → Ao (qV C h) (k226 v0 v1 v2 v3 v4 v6 v7 v9 v10 h)) {v0 : Nat} {v1 : Int} {v2 : Int} {v3 : Nat} {v4 : Int} {v6 : Int} {v7 : Int} {v9 : Int} {v10 : Int} {h : Hp} (c : Cl C h) (Cv0 : C v0) (Cv3 : C v3) : Ao (qV C h) (f_mSide_laysCrypto_b226 k10 k226 v0 v1 v2 v3 v4 v6 v7 v9 v10 h) := by
  unfold f_mSide_laysCrypto_b226
  have F0 := Av.rf c
  refine ao_it ?_ ?_
  · refine ao_it ?_ ?_
    · exact ao_jV F0 (av_mSide_laysCrypto_b272 hk10 (F0.cl) Cv0 Cv3)
    · refine ao_it ao_no ?_
      refine ao_it ?_ ao_no
      refine ao_I F0 (F0.cl.r Cv0) (fun h31 F1 => ?_)
      exact ao_jV F1 (av_mSide_laysCrypto_b272 hk10 (F1.cl) Cv0 Cv3)
  · refine ao_it ao_no ?_
    refine ao_it ?_ ao_no
    refine ao_I F0 (F0.cl.r Cv0) (fun h34 F2 => ?_)
    exact ao_jV F2 (hk226 _ _ _ _ _ _ _ _ _ _ (F2.cl) Cv0 Cv3)
theorem av_mSide_laysCrypto_b226_lp {C : Nat → Prop} {k10 : Nat → Int → Int → Nat → Int → Hp → Option (Hp)} (hk10 : ∀ (v0 : Nat) (v1 : Int) (v2 : Int) (v3 : Nat) (v4 : Int) (h : Hp), Cl C h → C v0 → C v3 → Ao (qV C h) (k10 v0 v1 v2 v3 v4 h)) (n : Nat) : ∀ {v0 : Nat} {v1 : Int} {v2 : Int} {v3 : Nat} {v4 : Int} {v6 : Int} {v7 : Int} {v9 : Int} {v10 : Int} {h : Hp}, Cl C h → C v0 → C v3 → Ao (qV C h) (f_mSide_laysCrypto_b226_lp k10 n v0 v1 v2 v3 v4 v6 v7 v9 v10 h) := by
  induction n with
  | zero => intros; exact ao_no
  | succ n ih => intro v0 v1 v2 v3 v4 v6 v7 v9 v10 h c Cv0 Cv3; exact av_mSide_laysCrypto_b226 hk10 (fun _ _ _ _ _ _ _ _ _ h => ih) c Cv0 Cv3
theorem av_mSide_laysCrypto_b170 {C : Nat → Prop} {k10 : Nat → Int → Int → Nat → Int → Hp → Option (Hp)} (hk10 : ∀ (v0 : Nat) (v1 : Int) (v2 : Int) (v3 : Nat) (v4 : Int) (h : Hp), Cl C h → C v0 → C v3 → Ao (qV C h) (k10 v0 v1 v2 v3 v4 h)) {v0 : Nat} {v1 : Int} {v2 : Int} {v3 : Nat} {v6 : Int} {v7 : Int} {v9 : Int} {s0 : Int} {h : Hp} (c : Cl C h) (Cv0 : C v0) (Cv3 : C v3) : Ao (qV C h) (f_mSide_laysCrypto_b170 k10 v0 v1 v2 v3 v6 v7 v9 s0 h) := by
  unfold f_mSide_laysCrypto_b170
  have F0 := Av.rf c
  refine ao_it ?_ ?_
  · refine ao_it ao_no ?_
    refine ao_b1 F0 (av_mDraft_put (F0.cl) Cv3) (fun h20 F1 => ?_)
    refine ao_b1 F1 (av_mDraft_number (F1.cl) Cv3) (fun h22 F2 => ?_)
    refine ao_b1 F2 (av_mDraft_number (F2.cl) Cv3) (fun h24 F3 => ?_)
    refine ao_it ao_no ?_
    refine ao_b1 F3 (av_mDraft_bytes (F3.cl) Cv3) (fun h27 F4 => ?_)
    exact ao_jV F4 (av_mSide_laysCrypto_b226_lp hk10 FU (F4.cl) Cv0 Cv3)
  · exact ao_jV F0 (hk10 _ _ _ _ _ _ (F0.cl) Cv0 Cv3)
theorem av_mSide_laysCrypto_b160 {C : Nat → Prop} {k10 : Nat → Int → Int → Nat → Int → Hp → Option (Hp)} (hk10 : ∀ (v0 : Nat) (v1 : Int) (v2 : Int) (v3 : Nat) (v4 : Int) (h : Hp), Cl C h → C v0 → C v3 → Ao (qV C h) (k10 v0 v1 v2 v3 v4 h)) {v0 : Nat} {v1 : Int} {v2 : Int} {v3 : Nat} {v6 : Int} {v7 : Int} {v9 : Int} {h : Hp} (c : Cl C h) (Cv0 : C v0) (Cv3 : C v3) : Ao (qV C h) (f_mSide_laysCrypto_b160 k10 v0 v1 v2 v3 v6 v7 v9 h) := by
  unfold f_mSide_laysCrypto_b160
  have F0 := Av.rf c
  refine ao_it ?_ ?_
  · exact ao_jV F0 (av_mSide_laysCrypto_b170 hk10 (F0.cl) Cv0 Cv3)
  · exact ao_jV F0 (av_mSide_laysCrypto_b170 hk10 (F0.cl) Cv0 Cv3)
theorem av_mSide_laysCrypto_b92 {C : Nat → Prop} {k10 : Nat → Int → Int → Nat → Int → Hp → Option (Hp)} (hk10 : ∀ (v0 : Nat) (v1 : Int) (v2 : Int) (v3 : Nat) (v4 : Int) (h : Hp), Cl C h → C v0 → C v3 → Ao (qV C h) (k10 v0 v1 v2 v3 v4 h)) {k92 : Nat → Int → Int → Nat → Int → Int → Int → Int → Int → Hp → Option (Hp)} (hk92 : ∀ (v0 : Nat) (v1 : Int) (v2 : Int) (v3 : Nat) (v5 : Int) (v6 : Int) (v7 : Int) (v8 : Int) (v9 : Int) (h : Hp), Cl C h → C v0 → C v3 → Ao (qV C h) (k92 v0 v1 v2 v3 v5 v6 v7 v8 v9 h)) {v0 : Nat} {v1 : Int} {v2 : Int} {v3 : Nat} {v5 : Int} {v6 : Int} {v7 : Int} {v8 : Int} {v9 : Int} {h : Hp} (c : Cl C h) (Cv0 : C v0) (Cv3 : C v3) : Ao (qV C h) (f_mSide_laysCrypto_b92 k10 k92 v0 v1 v2 v3 v5 v6 v7 v8 v9 h) := by
  unfold f_mSide_laysCrypto_b92
  have F0 := Av.rf c
  refine ao_it ?_ ?_
  · exact ao_jV F0 (av_mSide_laysCrypto_b160 hk10 (F0.cl) Cv0 Cv3)
  · refine ao_it ?_ ?_
    · refine ao_it ao_no ?_
      refine ao_it ao_no ?_
      refine ao_it ?_ ao_no
      refine ao_it ?_ ?_
      · exact ao_jV F0 (av_mSide_laysCrypto_b160 hk10 (F0.cl) Cv0 Cv3)
      · exact ao_jV F0 (av_mSide_laysCrypto_b154 hk10 hk92 (F0.cl) Cv0 Cv3)
    · refine ao_it ?_ ?_
      · exact ao_jV F0 (av_mSide_laysCrypto_b160 hk10 (F0.cl) Cv0 Cv3)
      · refine ao_it ao_no ?_
        refine ao_it ?_ ao_no
        refine ao_it ?_ ?_
        · exact ao_jV F0 (av_mSide_laysCrypto_b160 hk10 (F0.cl) Cv0 Cv3)
        · exact ao_jV F0 (av_mSide_laysCrypto_b154 hk10 hk92 (F0.cl) Cv0 Cv3)
theorem av_mSide_laysCrypto_b92_lp {C : Nat → Prop} {k10 : Nat → Int → Int → Nat → Int → Hp → Option (Hp)} (hk10 : ∀ (v0 : Nat) (v1 : Int) (v2 : Int) (v3 : Nat) (v4 : Int) (h : Hp), Cl C h → C v0 → C v3 → Ao (qV C h) (k10 v0 v1 v2 v3 v4 h)) (n : Nat) : ∀ {v0 : Nat} {v1 : Int} {v2 : Int} {v3 : Nat} {v5 : Int} {v6 : Int} {v7 : Int} {v8 : Int} {v9 : Int} {h : Hp}, Cl C h → C v0 → C v3 → Ao (qV C h) (f_mSide_laysCrypto_b92_lp k10 n v0 v1 v2 v3 v5 v6 v7 v8 v9 h) := by
  induction n with
  | zero => intros; exact ao_no
  | succ n ih => intro v0 v1 v2 v3 v5 v6 v7 v8 v9 h c Cv0 Cv3; exact av_mSide_laysCrypto_b92 hk10 (fun _ _ _ _ _ _ _ _ _ h => ih) c Cv0 Cv3
theorem av_mSide_laysCrypto_b68 {C : Nat → Prop} {k10 : Nat → Int → Int → Nat → Int → Hp → Option (Hp)} (hk10 : ∀ (v0 : Nat) (v1 : Int) (v2 : Int) (v3 : Nat) (v4 : Int) (h : Hp), Cl C h → C v0 → C v3 → Ao (qV C h) (k10 v0 v1 v2 v3 v4 h)) {v0 : Nat} {v1 : Int} {v2 : Int} {v3 : Nat} {v5 : Int} {v6 : Int} {s0 : Int} {h : Hp} (c : Cl C h) (Cv0 : C v0) (Cv3 : C v3) : Ao (qV C h) (f_mSide_laysCrypto_b68 k10 v0 v1 v2 v3 v5 v6 s0 h) := by
  unfold f_mSide_laysCrypto_b68
  have F0 := Av.rf c
  refine ao_it ao_no ?_
  refine ao_b2 F0 (av_mWire_needs (F0.cl)) (fun r12 h10 F1 => ?_)
  refine ao_v (fun y13 => ?_)
  exact ao_jV F1 (av_mSide_laysCrypto_b92_lp hk10 FU (F1.cl) Cv0 Cv3)
theorem av_mSide_laysCrypto_b56 {C : Nat → Prop} {k10 : Nat → Int → Int → Nat → Int → Hp → Option (Hp)} (hk10 : ∀ (v0 : Nat) (v1 : Int) (v2 : Int) (v3 : Nat) (v4 : Int) (h : Hp), Cl C h → C v0 → C v3 → Ao (qV C h) (k10 v0 v1 v2 v3 v4 h)) {v0 : Nat} {v1 : Int} {v2 : Int} {v3 : Nat} {v5 : Int} {v6 : Int} {h : Hp} (c : Cl C h) (Cv0 : C v0) (Cv3 : C v3) : Ao (qV C h) (f_mSide_laysCrypto_b56 k10 v0 v1 v2 v3 v5 v6 h) := by
  unfold f_mSide_laysCrypto_b56
  have F0 := Av.rf c
  refine ao_it ?_ ?_
  · exact ao_jV F0 (av_mSide_laysCrypto_b68 hk10 (F0.cl) Cv0 Cv3)
  · exact ao_jV F0 (av_mSide_laysCrypto_b68 hk10 (F0.cl) Cv0 Cv3)
theorem av_mSide_laysCrypto_b26 {C : Nat → Prop} {k10 : Nat → Int → Int → Nat → Int → Hp → Option (Hp)} (hk10 : ∀ (v0 : Nat) (v1 : Int) (v2 : Int) (v3 : Nat) (v4 : Int) (h : Hp), Cl C h → C v0 → C v3 → Ao (qV C h) (k10 v0 v1 v2 v3 v4 h)) {k26 : Nat → Int → Int → Nat → Int → Int → Hp → Option (Hp)} (hk26 : ∀ (v0 : Nat) (v1 : Int) (v2 : Int) (v3 : Nat) (v5 : Int) (v6 : Int) (h : Hp), Cl C h → C v0 → C v3 → Ao (qV C h) (k26 v0 v1 v2 v3 v5 v6 h)) {v0 : Nat} {v1 : Int} {v2 : Int} {v3 : Nat} {v5 : Int} {v6 : Int} {h : Hp} (c : Cl C h) (Cv0 : C v0) (Cv3 : C v3) : Ao (qV C h) (f_mSide_laysCrypto_b26 k10 k26 v0 v1 v2 v3 v5 v6 h) := by
  unfold f_mSide_laysCrypto_b26
  have F0 := Av.rf c
  refine ao_it ?_ ?_
  · exact ao_jV F0 (av_mSide_laysCrypto_b56 hk10 (F0.cl) Cv0 Cv3)
  · refine ao_it ao_no ?_
    refine ao_it ?_ ao_no
    refine ao_it ?_ ?_
    · exact ao_jV F0 (av_mSide_laysCrypto_b56 hk10 (F0.cl) Cv0 Cv3)
    · exact ao_jV F0 (hk26 _ _ _ _ _ _ _ (F0.cl) Cv0 Cv3)
theorem av_mSide_laysCrypto_b26_lp {C : Nat → Prop} {k10 : Nat → Int → Int → Nat → Int → Hp → Option (Hp)} (hk10 : ∀ (v0 : Nat) (v1 : Int) (v2 : Int) (v3 : Nat) (v4 : Int) (h : Hp), Cl C h → C v0 → C v3 → Ao (qV C h) (k10 v0 v1 v2 v3 v4 h)) (n : Nat) : ∀ {v0 : Nat} {v1 : Int} {v2 : Int} {v3 : Nat} {v5 : Int} {v6 : Int} {h : Hp}, Cl C h → C v0 → C v3 → Ao (qV C h) (f_mSide_laysCrypto_b26_lp k10 n v0 v1 v2 v3 v5 v6 h) := by
  induction n with
  | zero => intros; exact ao_no
  | succ n ih => intro v0 v1 v2 v3 v5 v6 h c Cv0 Cv3; exact av_mSide_laysCrypto_b26 hk10 (fun _ _ _ _ _ _ h => ih) c Cv0 Cv3
theorem av_mSide_laysCrypto_b10 {C : Nat → Prop} {k10 : Nat → Int → Int → Nat → Int → Hp → Option (Hp)} (hk10 : ∀ (v0 : Nat) (v1 : Int) (v2 : Int) (v3 : Nat) (v4 : Int) (h : Hp), Cl C h → C v0 → C v3 → Ao (qV C h) (k10 v0 v1 v2 v3 v4 h)) {v0 : Nat} {v1 : Int} {v2 : Int} {v3 : Nat} {v4 : Int} {h : Hp} (c : Cl C h) (Cv0 : C v0) (Cv3 : C v3) : Ao (qV C h) (f_mSide_laysCrypto_b10 k10 v0 v1 v2 v3 v4 h) := by
  unfold f_mSide_laysCrypto_b10
  have F0 := Av.rf c
  refine ao_it ?_ ?_
  · exact ao_so F0
  · refine ao_it ao_no ?_
    refine ao_it ?_ ao_no
    refine ao_v (fun y6 => ?_)
    exact ao_jV F0 (av_mSide_laysCrypto_b26_lp hk10 FU (F0.cl) Cv0 Cv3)
theorem av_mSide_laysCrypto_b10_lp {C : Nat → Prop} (n : Nat) : ∀ {v0 : Nat} {v1 : Int} {v2 : Int} {v3 : Nat} {v4 : Int} {h : Hp}, Cl C h → C v0 → C v3 → Ao (qV C h) (f_mSide_laysCrypto_b10_lp n v0 v1 v2 v3 v4 h) := by
  induction n with
  | zero => intros; exact ao_no
  | succ n ih => intro v0 v1 v2 v3 v4 h c Cv0 Cv3; exact av_mSide_laysCrypto_b10 (fun _ _ _ _ _ h => ih) c Cv0 Cv3
theorem av_mSide_laysCrypto {C : Nat → Prop} {v0 : Nat} {v1 : Int} {v2 : Int} {h : Hp} (c : Cl C h) (Cv0 : C v0) : Ao (qV C h) (f_mSide_laysCrypto v0 v1 v2 h) := by
  unfold f_mSide_laysCrypto
  have F0 := Av.rf c
  refine ao_it ao_no ?_
  refine ao_it ?_ ao_no
  refine ao_m (F0.cl.r (F0.cl.r Cv0)) (fun y3 Cy3 => ?_)
  exact ao_jV F0 (av_mSide_laysCrypto_b10_lp FU (F0.cl) Cv0 Cy3)
theorem av_mStreams_bytes_b38 {C : Nat → Prop} {v0 : Nat} {s0 : Int} {s1 : Int} {h : Hp} (c : Cl C h) : Ao (qI C h) (f_mStreams_bytes_b38 v0 s0 s1 h) := by
  unfold f_mStreams_bytes_b38
  have F0 := Av.rf c
  refine ao_b2 F0 (av_mWire_needs (F0.cl)) (fun r20 h18 F1 => ?_)
  exact ao_so F1
theorem av_mStreams_bytes_b108 {C : Nat → Prop} {v0 : Nat} {v1 : Int} {h : Hp} (c : Cl C h) : Ao (qI C h) (f_mStreams_bytes_b108 v0 v1 h) := by
  unfold f_mStreams_bytes_b108
  have F0 := Av.rf c
  refine ao_it ?_ ?_
  · exact ao_so F0
  · refine ao_b2 F0 (av_mWire_needs (F0.cl)) (fun r17 h15 F1 => ?_)
    exact ao_so F1
theorem av_mStreams_bytes_b98 {C : Nat → Prop} {v0 : Nat} {v1 : Int} {h : Hp} (c : Cl C h) : Ao (qI C h) (f_mStreams_bytes_b98 v0 v1 h) := by
  unfold f_mStreams_bytes_b98
  have F0 := Av.rf c
  refine ao_b2 F0 (av_mWire_needs (F0.cl)) (fun r13 h11 F1 => ?_)
  refine ao_v (fun y14 => ?_)
  exact ao_jI F1 (av_mStreams_bytes_b108 (F1.cl))
theorem av_mStreams_bytes {C : Nat → Prop} {v0 : Nat} {h : Hp} (c : Cl C h) : Ao (qI C h) (f_mStreams_bytes v0 h) := by
  unfold f_mStreams_bytes
  have F0 := Av.rf c
  refine ao_it ?_ ?_
  · refine ao_b2 F0 (av_mWire_needs (F0.cl)) (fun r3 h1 F1 => ?_)
    refine ao_v (fun y4 => ?_)
    refine ao_it ?_ ?_
    · exact ao_jI F1 (av_mStreams_bytes_b98 (F1.cl))
    · refine ao_it ?_ ?_
      · exact ao_jI F1 (av_mStreams_bytes_b98 (F1.cl))
      · refine ao_it ?_ ?_
        · exact ao_jI F1 (av_mStreams_bytes_b98 (F1.cl))
        · refine ao_it ?_ ?_
          · exact ao_jI F1 (av_mStreams_bytes_b108 (F1.cl))
          · exact ao_jI F1 (av_mStreams_bytes_b98 (F1.cl))
  · refine ao_b2 F0 (av_mWire_needs (F0.cl)) (fun r7 h5 F3 => ?_)
    refine ao_it ?_ ?_
    · exact ao_jI F3 (av_mStreams_bytes_b38 (F3.cl))
    · refine ao_b2 F3 (av_mWire_needs (F3.cl)) (fun r10 h8 F4 => ?_)
      exact ao_jI F4 (av_mStreams_bytes_b38 (F4.cl))
theorem av_mStreams_lays {C : Nat → Prop} {v0 : Nat} {v1 : Int} {v2 : Int} {v4 : Int} {v6 : Int} {v8 : Int} {h : Hp} (c : Cl C h) (Cv0 : C v0) : Ao (qI C h) (f_mStreams_lays v0 v1 v2 v4 v6 v8 h) := by
  unfold f_mStreams_lays
  have F0 := Av.rf c
  refine ao_I F0 Cv0 (fun h1 F1 => ?_)
  refine ao_J F1 Cv0 (fun h2 F2 => ?_)
  refine ao_J F2 Cv0 (fun h3 F3 => ?_)
  refine ao_J F3 Cv0 (fun h4 F4 => ?_)
  refine ao_I F4 Cv0 (fun h5 F5 => ?_)
  refine ao_b2 F5 (av_mStreams_bytes (F5.cl)) (fun r8 h6 F6 => ?_)
  refine ao_it ?_ ?_
  · exact ao_so F6
  · exact ao_so F6
theorem av_mStreams_fillsResets_b73 {C : Nat → Prop} {k2 : Nat → Int → Int → Int → Hp → Option (Int × Hp)} (hk2 : ∀ (v0 : Nat) (v1 : Int) (v2 : Int) (v3 : Int) (h : Hp), Cl C h → C v0 → Ao (qI C h) (k2 v0 v1 v2 v3 h)) {v0 : Nat} {v1 : Int} {v2 : Int} {v3 : Int} {h : Hp} (c : Cl C h) (Cv0 : C v0) : Ao (qI C h) (f_mStreams_fillsResets_b73 k2 v0 v1 v2 v3 h) := by
  unfold f_mStreams_fillsResets_b73
  have F0 := Av.rf c
  exact ao_jI F0 (hk2 _ _ _ _ _ (F0.cl) Cv0)
theorem av_mStreams_fillsResets_b144 {C : Nat → Prop} {k81 : Nat → Int → Int → Int → Hp → Option (Int × Hp)} (hk81 : ∀ (v0 : Nat) (v1 : Int) (v2 : Int) (v3 : Int) (h : Hp), Cl C h → C v0 → Ao (qI C h) (k81 v0 v1 v2 v3 h)) {v0 : Nat} {v1 : Int} {v2 : Int} {v3 : Int} {h : Hp} (c : Cl C h) (Cv0 : C v0) : Ao (qI C h) (f_mStreams_fillsResets_b144 k81 v0 v1 v2 v3 h) := by
  unfold f_mStreams_fillsResets_b144
  have F0 := Av.rf c
  exact ao_jI F0 (hk81 _ _ _ _ _ (F0.cl) Cv0)
theorem av_mStreams_fillsResets_b81 {C : Nat → Prop} {k81 : Nat → Int → Int → Int → Hp → Option (Int × Hp)} (hk81 : ∀ (v0 : Nat) (v1 : Int) (v2 : Int) (v3 : Int) (h : Hp), Cl C h → C v0 → Ao (qI C h) (k81 v0 v1 v2 v3 h)) {v0 : Nat} {v1 : Int} {v2 : Int} {v3 : Int} {h : Hp} (c : Cl C h) (Cv0 : C v0) : Ao (qI C h) (f_mStreams_fillsResets_b81 k81 v0 v1 v2 v3 h) := by
  unfold f_mStreams_fillsResets_b81
  have F0 := Av.rf c
  refine ao_it ?_ ?_
  · exact ao_so F0
  · refine ao_b2 F0 (av_mStreams_at (F0.cl)) (fun r20 h18 F1 => ?_)
    refine ao_it ao_no ?_
    refine ao_it ?_ ao_no
    refine ao_it ?_ ?_
    · exact ao_jI F1 (av_mStreams_fillsResets_b144 hk81 (F1.cl) Cv0)
    · refine ao_b2 F1 (av_mStreams_receiving (F1.cl)) (fun r25 h23 F2 => ?_)
      refine ao_it ?_ ?_
      · exact ao_jI F2 (av_mStreams_fillsResets_b144 hk81 (F2.cl) Cv0)
      · refine ao_it ao_no ?_
        refine ao_it ?_ ao_no
        refine ao_b2 F2 (av_mStreams_lays (F2.cl) Cv0) (fun r30 h28 F3 => ?_)
        refine ao_it ?_ ?_
        · exact ao_jI F3 (av_mStreams_fillsResets_b144 hk81 (F3.cl) Cv0)
        · refine ao_it ao_no ?_
          refine ao_it ?_ ao_no
          refine ao_I F3 (F3.cl.r Cv0) (fun h33 F4 => ?_)
          exact ao_so F4
theorem av_mStreams_fillsResets_b81_lp {C : Nat → Prop} (n : Nat) : ∀ {v0 : Nat} {v1 : Int} {v2 : Int} {v3 : Int} {h : Hp}, Cl C h → C v0 → Ao (qI C h) (f_mStreams_fillsResets_b81_lp n v0 v1 v2 v3 h) := by
  induction n with
  | zero => intros; exact ao_no
  | succ n ih => intro v0 v1 v2 v3 h c Cv0; exact av_mStreams_fillsResets_b81 (fun _ _ _ _ h => ih) c Cv0
theorem av_mStreams_fillsResets_b2 {C : Nat → Prop} {k2 : Nat → Int → Int → Int → Hp → Option (Int × Hp)} (hk2 : ∀ (v0 : Nat) (v1 : Int) (v2 : Int) (v3 : Int) (h : Hp), Cl C h → C v0 → Ao (qI C h) (k2 v0 v1 v2 v3 h)) {v0 : Nat} {v1 : Int} {v2 : Int} {v3 : Int} {h : Hp} (c : Cl C h) (Cv0 : C v0) : Ao (qI C h) (f_mStreams_fillsResets_b2 k2 v0 v1 v2 v3 h) := by
  unfold f_mStreams_fillsResets_b2
  have F0 := Av.rf c
  refine ao_it ?_ ?_
  · exact ao_jI F0 (av_mStreams_fillsResets_b81_lp FU (F0.cl) Cv0)
  · refine ao_b2 F0 (av_mStreams_at (F0.cl)) (fun r3 h1 F1 => ?_)
    refine ao_it ao_no ?_
    refine ao_it ?_ ao_no
    refine ao_it ?_ ?_
    · exact ao_jI F1 (av_mStreams_fillsResets_b73 hk2 (F1.cl) Cv0)
    · refine ao_it ao_no ?_
      refine ao_it ?_ ao_no
      refine ao_it ?_ ?_
      · exact ao_jI F1 (av_mStreams_fillsResets_b73 hk2 (F1.cl) Cv0)
      · refine ao_it ao_no ?_
        refine ao_it ?_ ao_no
        refine ao_it ao_no ?_
        refine ao_it ?_ ao_no
        refine ao_b2 F1 (av_mStreams_lays (F1.cl) Cv0) (fun r14 h12 F2 => ?_)
        refine ao_it ?_ ?_
        · exact ao_jI F2 (av_mStreams_fillsResets_b73 hk2 (F2.cl) Cv0)
        · refine ao_it ao_no ?_
          refine ao_it ?_ ao_no
          refine ao_I F2 (F2.cl.r Cv0) (fun h17 F3 => ?_)
          exact ao_so F3
theorem av_mStreams_fillsResets_b2_lp {C : Nat → Prop} (n : Nat) : ∀ {v0 : Nat} {v1 : Int} {v2 : Int} {v3 : Int} {h : Hp}, Cl C h → C v0 → Ao (qI C h) (f_mStreams_fillsResets_b2_lp n v0 v1 v2 v3 h) := by
  induction n with
  | zero => intros; exact ao_no
  | succ n ih => intro v0 v1 v2 v3 h c Cv0; exact av_mStreams_fillsResets_b2 (fun _ _ _ _ h => ih) c Cv0
theorem av_mStreams_fillsResets {C : Nat → Prop} {v0 : Nat} {v1 : Int} {v2 : Int} {h : Hp} (c : Cl C h) (Cv0 : C v0) : Ao (qI C h) (f_mStreams_fillsResets v0 v1 v2 h) := by
  unfold f_mStreams_fillsResets
  have F0 := Av.rf c
  exact ao_jI F0 (av_mStreams_fillsResets_b2_lp FU (F0.cl) Cv0)
theorem av_mStreams_fillsGrants_b165 {C : Nat → Prop} {k109 : Nat → Int → Int → Int → Hp → Option (Int × Hp)} (hk109 : ∀ (v0 : Nat) (v1 : Int) (v2 : Int) (v3 : Int) (h : Hp), Cl C h → C v0 → Ao (qI C h) (k109 v0 v1 v2 v3 h)) {v0 : Nat} {v1 : Int} {v2 : Int} {v3 : Int} {h : Hp} (c : Cl C h) (Cv0 : C v0) : Ao (qI C h) (f_mStreams_fillsGrants_b165 k109 v0 v1 v2 v3 h) := by
  unfold f_mStreams_fillsGrants_b165
  have F0 := Av.rf c
  exact ao_jI F0 (hk109 _ _ _ _ _ (F0.cl) Cv0)
theorem av_mStreams_fillsGrants_b109 {C : Nat → Prop} {k109 : Nat → Int → Int → Int → Hp → Option (Int × Hp)} (hk109 : ∀ (v0 : Nat) (v1 : Int) (v2 : Int) (v3 : Int) (h : Hp), Cl C h → C v0 → Ao (qI C h) (k109 v0 v1 v2 v3 h)) {v0 : Nat} {v1 : Int} {v2 : Int} {v3 : Int} {h : Hp} (c : Cl C h) (Cv0 : C v0) : Ao (qI C h) (f_mStreams_fillsGrants_b109 k109 v0 v1 v2 v3 h) := by
  unfold f_mStreams_fillsGrants_b109
  have F0 := Av.rf c
  refine ao_it ?_ ?_
  · exact ao_so F0
  · refine ao_it ao_no ?_
    refine ao_it ?_ ao_no
    refine ao_it ?_ ?_
    · exact ao_jI F0 (av_mStreams_fillsGrants_b165 hk109 (F0.cl) Cv0)
    · refine ao_it ao_no ?_
      refine ao_it ?_ ao_no
      refine ao_b2 F0 (av_mStreams_lays (F0.cl) Cv0) (fun r33 h31 F1 => ?_)
      refine ao_it ?_ ?_
      · exact ao_jI F1 (av_mStreams_fillsGrants_b165 hk109 (F1.cl) Cv0)
      · refine ao_it ao_no ?_
        refine ao_it ?_ ao_no
        refine ao_I F1 (F1.cl.r Cv0) (fun h36 F2 => ?_)
        exact ao_so F2
theorem av_mStreams_fillsGrants_b109_lp {C : Nat → Prop} (n : Nat) : ∀ {v0 : Nat} {v1 : Int} {v2 : Int} {v3 : Int} {h : Hp}, Cl C h → C v0 → Ao (qI C h) (f_mStreams_fillsGrants_b109_lp n v0 v1 v2 v3 h) := by
  induction n with
  | zero => intros; exact ao_no
  | succ n ih => intro v0 v1 v2 v3 h c Cv0; exact av_mStreams_fillsGrants_b109 (fun _ _ _ _ h => ih) c Cv0
theorem av_mStreams_fillsGrants_b101 {C : Nat → Prop} {k38 : Nat → Int → Int → Int → Hp → Option (Int × Hp)} (hk38 : ∀ (v0 : Nat) (v1 : Int) (v2 : Int) (v3 : Int) (h : Hp), Cl C h → C v0 → Ao (qI C h) (k38 v0 v1 v2 v3 h)) {v0 : Nat} {v1 : Int} {v2 : Int} {v3 : Int} {h : Hp} (c : Cl C h) (Cv0 : C v0) : Ao (qI C h) (f_mStreams_fillsGrants_b101 k38 v0 v1 v2 v3 h) := by
  unfold f_mStreams_fillsGrants_b101
  have F0 := Av.rf c
  exact ao_jI F0 (hk38 _ _ _ _ _ (F0.cl) Cv0)
theorem av_mStreams_fillsGrants_b38 {C : Nat → Prop} {k38 : Nat → Int → Int → Int → Hp → Option (Int × Hp)} (hk38 : ∀ (v0 : Nat) (v1 : Int) (v2 : Int) (v3 : Int) (h : Hp), Cl C h → C v0 → Ao (qI C h) (k38 v0 v1 v2 v3 h)) {v0 : Nat} {v1 : Int} {v2 : Int} {v3 : Int} {h : Hp} (c : Cl C h) (Cv0 : C v0) : Ao (qI C h) (f_mStreams_fillsGrants_b38 k38 v0 v1 v2 v3 h) := by
  unfold f_mStreams_fillsGrants_b38
  have F0 := Av.rf c
  refine ao_it ?_ ?_
  · exact ao_jI F0 (av_mStreams_fillsGrants_b109_lp FU (F0.cl) Cv0)
  · refine ao_b2 F0 (av_mStreams_at (F0.cl)) (fun r13 h11 F1 => ?_)
    refine ao_it ao_no ?_
    refine ao_it ?_ ao_no
    refine ao_it ?_ ?_
    · exact ao_jI F1 (av_mStreams_fillsGrants_b101 hk38 (F1.cl) Cv0)
    · refine ao_b2 F1 (av_mStreams_receiving (F1.cl)) (fun r18 h16 F2 => ?_)
      refine ao_it ?_ ?_
      · exact ao_jI F2 (av_mStreams_fillsGrants_b101 hk38 (F2.cl) Cv0)
      · refine ao_it ao_no ?_
        refine ao_it ?_ ao_no
        refine ao_b2 F2 (av_mStreams_lays (F2.cl) Cv0) (fun r23 h21 F3 => ?_)
        refine ao_it ?_ ?_
        · exact ao_jI F3 (av_mStreams_fillsGrants_b101 hk38 (F3.cl) Cv0)
        · refine ao_it ao_no ?_
          refine ao_it ?_ ao_no
          refine ao_I F3 (F3.cl.r Cv0) (fun h26 F4 => ?_)
          exact ao_so F4
theorem av_mStreams_fillsGrants_b38_lp {C : Nat → Prop} (n : Nat) : ∀ {v0 : Nat} {v1 : Int} {v2 : Int} {v3 : Int} {h : Hp}, Cl C h → C v0 → Ao (qI C h) (f_mStreams_fillsGrants_b38_lp n v0 v1 v2 v3 h) := by
  induction n with
  | zero => intros; exact ao_no
  | succ n ih => intro v0 v1 v2 v3 h c Cv0; exact av_mStreams_fillsGrants_b38 (fun _ _ _ _ h => ih) c Cv0
theorem av_mStreams_fillsGrants_b36 {C : Nat → Prop} {v0 : Nat} {v1 : Int} {v2 : Int} {h : Hp} (c : Cl C h) (Cv0 : C v0) : Ao (qI C h) (f_mStreams_fillsGrants_b36 v0 v1 v2 h) := by
  unfold f_mStreams_fillsGrants_b36
  have F0 := Av.rf c
  exact ao_jI F0 (av_mStreams_fillsGrants_b38_lp FU (F0.cl) Cv0)
theorem av_mStreams_fillsGrants {C : Nat → Prop} {v0 : Nat} {v1 : Int} {v2 : Int} {h : Hp} (c : Cl C h) (Cv0 : C v0) : Ao (qI C h) (f_mStreams_fillsGrants v0 v1 v2 h) := by
  unfold f_mStreams_fillsGrants
  have F0 := Av.rf c
  refine ao_it ao_no ?_
  refine ao_it ?_ ao_no
  refine ao_it ?_ ?_
  · exact ao_jI F0 (av_mStreams_fillsGrants_b36 (F0.cl) Cv0)
  · refine ao_it ao_no ?_
    refine ao_it ?_ ao_no
    refine ao_b2 F0 (av_mStreams_lays (F0.cl) Cv0) (fun r7 h5 F1 => ?_)
    refine ao_it ?_ ?_
    · exact ao_jI F1 (av_mStreams_fillsGrants_b36 (F1.cl) Cv0)
    · refine ao_it ao_no ?_
      refine ao_it ?_ ao_no
      refine ao_I F1 (F1.cl.r Cv0) (fun h10 F2 => ?_)
      exact ao_so F2
theorem av_mStreams_waits {C : Nat → Prop} {v0 : Nat} {v1 : Int} {v2 : Int} {h : Hp} (c : Cl C h) : Ao (qI C h) (f_mStreams_waits v0 v1 v2 h) := by
  unfold f_mStreams_waits
  have F0 := Av.rf c
  refine ao_b2 F0 (av_mStreams_isOpenSending (F0.cl)) (fun r3 h1 F1 => ?_)
  refine ao_it ?_ ?_
  · exact ao_so F1
  · refine ao_b2 F1 (av_mStreams_at (F1.cl)) (fun r6 h4 F2 => ?_)
    refine ao_it ao_no ?_
    refine ao_it ?_ ao_no
    refine ao_b2 F2 (av_mStreams_at (F2.cl)) (fun r11 h9 F3 => ?_)
    refine ao_it ao_no ?_
    refine ao_it ?_ ao_no
    refine ao_it ?_ ?_
    · exact ao_so F3
    · exact ao_so F3
theorem av_mStreams_fillsBlocked_b215 {C : Nat → Prop} {k115 : Nat → Int → Int → Int → Hp → Option (Int × Hp)} (hk115 : ∀ (v0 : Nat) (v1 : Int) (v2 : Int) (v4 : Int) (h : Hp), Cl C h → C v0 → Ao (qI C h) (k115 v0 v1 v2 v4 h)) {v0 : Nat} {v1 : Int} {v2 : Int} {v4 : Int} {h : Hp} (c : Cl C h) (Cv0 : C v0) : Ao (qI C h) (f_mStreams_fillsBlocked_b215 k115 v0 v1 v2 v4 h) := by
  unfold f_mStreams_fillsBlocked_b215
  have F0 := Av.rf c
  exact ao_jI F0 (hk115 _ _ _ _ _ (F0.cl) Cv0)
theorem av_mStreams_fillsBlocked_b333 {C : Nat → Prop} {k224 : Nat → Int → Int → Int → Hp → Option (Int × Hp)} (hk224 : ∀ (v0 : Nat) (v1 : Int) (v2 : Int) (v4 : Int) (h : Hp), Cl C h → C v0 → Ao (qI C h) (k224 v0 v1 v2 v4 h)) {v0 : Nat} {v1 : Int} {v2 : Int} {v4 : Int} {h : Hp} (c : Cl C h) (Cv0 : C v0) : Ao (qI C h) (f_mStreams_fillsBlocked_b333 k224 v0 v1 v2 v4 h) := by
  unfold f_mStreams_fillsBlocked_b333
  have F0 := Av.rf c
  exact ao_jI F0 (hk224 _ _ _ _ _ (F0.cl) Cv0)
theorem av_mStreams_fillsBlocked_b224 {C : Nat → Prop} {k224 : Nat → Int → Int → Int → Hp → Option (Int × Hp)} (hk224 : ∀ (v0 : Nat) (v1 : Int) (v2 : Int) (v4 : Int) (h : Hp), Cl C h → C v0 → Ao (qI C h) (k224 v0 v1 v2 v4 h)) {v0 : Nat} {v1 : Int} {v2 : Int} {v4 : Int} {h : Hp} (c : Cl C h) (Cv0 : C v0) : Ao (qI C h) (f_mStreams_fillsBlocked_b224 k224 v0 v1 v2 v4 h) := by
  unfold f_mStreams_fillsBlocked_b224
  have F0 := Av.rf c
  refine ao_it ?_ ?_
  · exact ao_so F0
  · refine ao_v (fun y42 => ?_)
    refine ao_it ao_no ?_
    refine ao_it ?_ ao_no
    refine ao_it ?_ ?_
    · exact ao_jI F0 (av_mStreams_fillsBlocked_b333 hk224 (F0.cl) Cv0)
    · refine ao_it ao_no ?_
      refine ao_it ?_ ao_no
      refine ao_it ao_no ?_
      refine ao_it ?_ ao_no
      refine ao_it ?_ ?_
      · exact ao_jI F0 (av_mStreams_fillsBlocked_b333 hk224 (F0.cl) Cv0)
      · refine ao_it ao_no ?_
        refine ao_it ?_ ao_no
        refine ao_it ?_ ao_no
        refine ao_it ?_ ?_
        · exact ao_jI F0 (av_mStreams_fillsBlocked_b333 hk224 (F0.cl) Cv0)
        · refine ao_it ?_ ao_no
          refine ao_b2 F0 (av_mStreams_lays (F0.cl) Cv0) (fun r55 h53 F2 => ?_)
          refine ao_it ?_ ?_
          · exact ao_jI F2 (av_mStreams_fillsBlocked_b333 hk224 (F2.cl) Cv0)
          · refine ao_it ao_no ?_
            refine ao_it ?_ ao_no
            refine ao_it ao_no ?_
            refine ao_it ?_ ao_no
            refine ao_J F2 (F2.cl.r Cv0) (fun h60 F3 => ?_)
            exact ao_so F3
theorem av_mStreams_fillsBlocked_b224_lp {C : Nat → Prop} (n : Nat) : ∀ {v0 : Nat} {v1 : Int} {v2 : Int} {v4 : Int} {h : Hp}, Cl C h → C v0 → Ao (qI C h) (f_mStreams_fillsBlocked_b224_lp n v0 v1 v2 v4 h) := by
  induction n with
  | zero => intros; exact ao_no
  | succ n ih => intro v0 v1 v2 v4 h c Cv0; exact av_mStreams_fillsBlocked_b224 (fun _ _ _ _ h => ih) c Cv0
theorem av_mStreams_fillsBlocked_b115 {C : Nat → Prop} {k115 : Nat → Int → Int → Int → Hp → Option (Int × Hp)} (hk115 : ∀ (v0 : Nat) (v1 : Int) (v2 : Int) (v4 : Int) (h : Hp), Cl C h → C v0 → Ao (qI C h) (k115 v0 v1 v2 v4 h)) {v0 : Nat} {v1 : Int} {v2 : Int} {v4 : Int} {h : Hp} (c : Cl C h) (Cv0 : C v0) : Ao (qI C h) (f_mStreams_fillsBlocked_b115 k115 v0 v1 v2 v4 h) := by
  unfold f_mStreams_fillsBlocked_b115
  have F0 := Av.rf c
  refine ao_it ?_ ?_
  · exact ao_jI F0 (av_mStreams_fillsBlocked_b224_lp FU (F0.cl) Cv0)
  · refine ao_b2 F0 (av_mStreams_at (F0.cl)) (fun r22 h20 F1 => ?_)
    refine ao_b2 F1 (av_mStreams_waits (F1.cl)) (fun r25 h23 F2 => ?_)
    refine ao_it ?_ ?_
    · exact ao_jI F2 (av_mStreams_fillsBlocked_b215 hk115 (F2.cl) Cv0)
    · refine ao_it ao_no ?_
      refine ao_it ?_ ao_no
      refine ao_it ao_no ?_
      refine ao_it ?_ ao_no
      refine ao_it ?_ ?_
      · exact ao_jI F2 (av_mStreams_fillsBlocked_b215 hk115 (F2.cl) Cv0)
      · refine ao_it ao_no ?_
        refine ao_it ?_ ao_no
        refine ao_it ?_ ao_no
        refine ao_it ?_ ?_
        · exact ao_jI F2 (av_mStreams_fillsBlocked_b215 hk115 (F2.cl) Cv0)
        · refine ao_it ?_ ao_no
          refine ao_b2 F2 (av_mStreams_lays (F2.cl) Cv0) (fun r36 h34 F3 => ?_)
          refine ao_it ?_ ?_
          · exact ao_jI F3 (av_mStreams_fillsBlocked_b215 hk115 (F3.cl) Cv0)
          · refine ao_it ao_no ?_
            refine ao_it ?_ ao_no
            refine ao_it ao_no ?_
            refine ao_it ?_ ao_no
            refine ao_J F3 (F3.cl.r Cv0) (fun h41 F4 => ?_)
            exact ao_so F4
theorem av_mStreams_fillsBlocked_b115_lp {C : Nat → Prop} (n : Nat) : ∀ {v0 : Nat} {v1 : Int} {v2 : Int} {v4 : Int} {h : Hp}, Cl C h → C v0 → Ao (qI C h) (f_mStreams_fillsBlocked_b115_lp n v0 v1 v2 v4 h) := by
  induction n with
  | zero => intros; exact ao_no
  | succ n ih => intro v0 v1 v2 v4 h c Cv0; exact av_mStreams_fillsBlocked_b115 (fun _ _ _ _ h => ih) c Cv0
theorem av_mStreams_fillsBlocked_b112 {C : Nat → Prop} {v0 : Nat} {v1 : Int} {v2 : Int} {h : Hp} (c : Cl C h) (Cv0 : C v0) : Ao (qI C h) (f_mStreams_fillsBlocked_b112 v0 v1 v2 h) := by
  unfold f_mStreams_fillsBlocked_b112
  have F0 := Av.rf c
  exact ao_jI F0 (av_mStreams_fillsBlocked_b115_lp FU (F0.cl) Cv0)
theorem av_mStreams_fillsBlocked_b31 {C : Nat → Prop} {v0 : Nat} {v1 : Int} {v2 : Int} {v3 : Int} {h : Hp} (c : Cl C h) (Cv0 : C v0) : Ao (qI C h) (f_mStreams_fillsBlocked_b31 v0 v1 v2 v3 h) := by
  unfold f_mStreams_fillsBlocked_b31
  have F0 := Av.rf c
  refine ao_it ?_ ?_
  · exact ao_jI F0 (av_mStreams_fillsBlocked_b112 (F0.cl) Cv0)
  · refine ao_it ao_no ?_
    refine ao_it ?_ ao_no
    refine ao_it ao_no ?_
    refine ao_it ?_ ao_no
    refine ao_it ?_ ?_
    · exact ao_jI F0 (av_mStreams_fillsBlocked_b112 (F0.cl) Cv0)
    · refine ao_it ao_no ?_
      refine ao_it ?_ ao_no
      refine ao_it ?_ ao_no
      refine ao_it ?_ ?_
      · exact ao_jI F0 (av_mStreams_fillsBlocked_b112 (F0.cl) Cv0)
      · refine ao_it ?_ ao_no
        refine ao_b2 F0 (av_mStreams_lays (F0.cl) Cv0) (fun r14 h12 F1 => ?_)
        refine ao_it ?_ ?_
        · exact ao_jI F1 (av_mStreams_fillsBlocked_b112 (F1.cl) Cv0)
        · refine ao_it ao_no ?_
          refine ao_it ?_ ao_no
          refine ao_it ao_no ?_
          refine ao_it ?_ ao_no
          refine ao_J F1 (F1.cl.r Cv0) (fun h19 F2 => ?_)
          exact ao_so F2
theorem av_mStreams_fillsBlocked_b5 {C : Nat → Prop} {k5 : Nat → Int → Int → Int → Int → Hp → Option (Int × Hp)} (hk5 : ∀ (v0 : Nat) (v1 : Int) (v2 : Int) (v3 : Int) (v4 : Int) (h : Hp), Cl C h → C v0 → Ao (qI C h) (k5 v0 v1 v2 v3 v4 h)) {v0 : Nat} {v1 : Int} {v2 : Int} {v3 : Int} {v4 : Int} {h : Hp} (c : Cl C h) (Cv0 : C v0) : Ao (qI C h) (f_mStreams_fillsBlocked_b5 k5 v0 v1 v2 v3 v4 h) := by
  unfold f_mStreams_fillsBlocked_b5
  have F0 := Av.rf c
  refine ao_it ?_ ?_
  · exact ao_jI F0 (av_mStreams_fillsBlocked_b31 (F0.cl) Cv0)
  · refine ao_it ?_ ?_
    · exact ao_jI F0 (av_mStreams_fillsBlocked_b31 (F0.cl) Cv0)
    · refine ao_b2 F0 (av_mStreams_waits (F0.cl)) (fun r3 h1 F1 => ?_)
      exact ao_jI F1 (hk5 _ _ _ _ _ _ (F1.cl) Cv0)
theorem av_mStreams_fillsBlocked_b5_lp {C : Nat → Prop} (n : Nat) : ∀ {v0 : Nat} {v1 : Int} {v2 : Int} {v3 : Int} {v4 : Int} {h : Hp}, Cl C h → C v0 → Ao (qI C h) (f_mStreams_fillsBlocked_b5_lp n v0 v1 v2 v3 v4 h) := by
  induction n with
  | zero => intros; exact ao_no
  | succ n ih => intro v0 v1 v2 v3 v4 h c Cv0; exact av_mStreams_fillsBlocked_b5 (fun _ _ _ _ _ h => ih) c Cv0
theorem av_mStreams_fillsBlocked {C : Nat → Prop} {v0 : Nat} {v1 : Int} {v2 : Int} {h : Hp} (c : Cl C h) (Cv0 : C v0) : Ao (qI C h) (f_mStreams_fillsBlocked v0 v1 v2 h) := by
  unfold f_mStreams_fillsBlocked
  have F0 := Av.rf c
  exact ao_jI F0 (av_mStreams_fillsBlocked_b5_lp FU (F0.cl) Cv0)
theorem av_mStreams_allowed_b46 {C : Nat → Prop} {v0 : Nat} {s0 : Int} {h : Hp} (c : Cl C h) : Ao (qI C h) (f_mStreams_allowed_b46 v0 s0 h) := by
  unfold f_mStreams_allowed_b46
  have F0 := Av.rf c
  refine ao_it ?_ ?_
  · exact ao_so F0
  · exact ao_so F0
theorem av_mStreams_allowed {C : Nat → Prop} {v0 : Nat} {v1 : Int} {v2 : Int} {h : Hp} (c : Cl C h) : Ao (qI C h) (f_mStreams_allowed v0 v1 v2 h) := by
  unfold f_mStreams_allowed
  have F0 := Av.rf c
  refine ao_it ao_no ?_
  refine ao_it ?_ ao_no
  refine ao_it ao_no ?_
  refine ao_it ?_ ao_no
  refine ao_v (fun y5 => ?_)
  refine ao_it ao_no ?_
  refine ao_it ?_ ao_no
  refine ao_it ao_no ?_
  refine ao_it ?_ ao_no
  refine ao_v (fun y10 => ?_)
  refine ao_it ?_ ?_
  · exact ao_jI F0 (av_mStreams_allowed_b46 (F0.cl))
  · exact ao_jI F0 (av_mStreams_allowed_b46 (F0.cl))
theorem av_mStreams_fillsBytes_b78 {C : Nat → Prop} {k9 : Nat → Int → Int → Int → Int → Int → Int → Int → Int → Int → Hp → Option (Int × Hp)} (hk9 : ∀ (v0 : Nat) (v1 : Int) (v2 : Int) (v3 : Int) (v4 : Int) (v5 : Int) (v7 : Int) (v8 : Int) (v9 : Int) (v10 : Int) (h : Hp), Cl C h → C v0 → Ao (qI C h) (k9 v0 v1 v2 v3 v4 v5 v7 v8 v9 v10 h)) {v0 : Nat} {v1 : Int} {v2 : Int} {v3 : Int} {v4 : Int} {v5 : Int} {v7 : Int} {v8 : Int} {v9 : Int} {s0 : Int} {h : Hp} (c : Cl C h) (Cv0 : C v0) : Ao (qI C h) (f_mStreams_fillsBytes_b78 k9 v0 v1 v2 v3 v4 v5 v7 v8 v9 s0 h) := by
  unfold f_mStreams_fillsBytes_b78
  have F0 := Av.rf c
  refine ao_it ?_ ?_
  · refine ao_it ao_no ?_
    refine ao_it ?_ ao_no
    refine ao_it ao_no ?_
    refine ao_it ?_ ao_no
    refine ao_I F0 (F0.cl.r Cv0) (fun h12 F1 => ?_)
    refine ao_it ao_no ?_
    refine ao_it ?_ ao_no
    refine ao_v (fun y15 => ?_)
    exact ao_jI F1 (hk9 _ _ _ _ _ _ _ _ _ _ _ (F1.cl) Cv0)
  · exact ao_jI F0 (hk9 _ _ _ _ _ _ _ _ _ _ _ (F0.cl) Cv0)
theorem av_mStreams_fillsBytes_b46 {C : Nat → Prop} {k9 : Nat → Int → Int → Int → Int → Int → Int → Int → Int → Int → Hp → Option (Int × Hp)} (hk9 : ∀ (v0 : Nat) (v1 : Int) (v2 : Int) (v3 : Int) (v4 : Int) (v5 : Int) (v7 : Int) (v8 : Int) (v9 : Int) (v10 : Int) (h : Hp), Cl C h → C v0 → Ao (qI C h) (k9 v0 v1 v2 v3 v4 v5 v7 v8 v9 v10 h)) {v0 : Nat} {v1 : Int} {v2 : Int} {v3 : Int} {v4 : Int} {v5 : Int} {v7 : Int} {v8 : Int} {v9 : Int} {s0 : Int} {h : Hp} (c : Cl C h) (Cv0 : C v0) : Ao (qI C h) (f_mStreams_fillsBytes_b46 k9 v0 v1 v2 v3 v4 v5 v7 v8 v9 s0 h) := by
  unfold f_mStreams_fillsBytes_b46
  have F0 := Av.rf c
  refine ao_it ?_ ?_
  · refine ao_I F0 Cv0 (fun h4 F1 => ?_)
    refine ao_b2 F1 (av_mStreams_bytes (F1.cl)) (fun r7 h5 F2 => ?_)
    refine ao_it ?_ ?_
    · exact ao_jI F2 (av_mStreams_fillsBytes_b78 hk9 (F2.cl) Cv0)
    · exact ao_jI F2 (av_mStreams_fillsBytes_b78 hk9 (F2.cl) Cv0)
  · exact ao_jI F0 (hk9 _ _ _ _ _ _ _ _ _ _ _ (F0.cl) Cv0)
theorem av_mStreams_fillsBytes_b45 {C : Nat → Prop} {k9 : Nat → Int → Int → Int → Int → Int → Int → Int → Int → Int → Hp → Option (Int × Hp)} (hk9 : ∀ (v0 : Nat) (v1 : Int) (v2 : Int) (v3 : Int) (v4 : Int) (v5 : Int) (v7 : Int) (v8 : Int) (v9 : Int) (v10 : Int) (h : Hp), Cl C h → C v0 → Ao (qI C h) (k9 v0 v1 v2 v3 v4 v5 v7 v8 v9 v10 h)) {v0 : Nat} {v1 : Int} {v2 : Int} {v3 : Int} {v4 : Int} {v5 : Int} {v7 : Int} {v8 : Int} {v9 : Int} {h : Hp} (c : Cl C h) (Cv0 : C v0) : Ao (qI C h) (f_mStreams_fillsBytes_b45 k9 v0 v1 v2 v3 v4 v5 v7 v8 v9 h) := by
  unfold f_mStreams_fillsBytes_b45
  have F0 := Av.rf c
  exact ao_jI F0 (av_mStreams_fillsBytes_b46 hk9 (F0.cl) Cv0)
theorem av_mStreams_fillsBytes_b205 {C : Nat → Prop} {v0 : Nat} {v2 : Int} {v9 : Int} {h : Hp} (c : Cl C h) (Cv0 : C v0) : Ao (qI C h) (f_mStreams_fillsBytes_b205 v0 v2 v9 h) := by
  unfold f_mStreams_fillsBytes_b205
  have F0 := Av.rf c
  refine ao_it ?_ ?_
  · exact ao_so F0
  · refine ao_it ao_no ?_
    refine ao_it ?_ ao_no
    refine ao_it ?_ ?_
    · exact ao_so F0
    · refine ao_J F0 Cv0 (fun h34 F1 => ?_)
      refine ao_it ao_no ?_
      refine ao_it ?_ ao_no
      refine ao_it ?_ ?_
      · exact ao_so F1
      · refine ao_it ?_ ao_no
        refine ao_I F1 (F1.cl.r Cv0) (fun h38 F2 => ?_)
        exact ao_so F2
theorem av_mStreams_fillsBytes_b140 {C : Nat → Prop} {k140 : Nat → Int → Int → Int → Int → Int → Int → Hp → Option (Int × Hp)} (hk140 : ∀ (v0 : Nat) (v1 : Int) (v2 : Int) (v4 : Int) (v8 : Int) (v9 : Int) (v11 : Int) (h : Hp), Cl C h → C v0 → Ao (qI C h) (k140 v0 v1 v2 v4 v8 v9 v11 h)) {v0 : Nat} {v1 : Int} {v2 : Int} {v4 : Int} {v8 : Int} {v9 : Int} {v11 : Int} {h : Hp} (c : Cl C h) (Cv0 : C v0) : Ao (qI C h) (f_mStreams_fillsBytes_b140 k140 v0 v1 v2 v4 v8 v9 v11 h) := by
  unfold f_mStreams_fillsBytes_b140
  have F0 := Av.rf c
  refine ao_it ?_ ?_
  · refine ao_it ?_ ?_
    · exact ao_jI F0 (av_mStreams_fillsBytes_b205 (F0.cl) Cv0)
    · refine ao_it ao_no ?_
      refine ao_it ?_ ao_no
      refine ao_it ?_ ao_no
      refine ao_I F0 (F0.cl.r Cv0) (fun h19 F1 => ?_)
      refine ao_it ao_no ?_
      refine ao_it ?_ ao_no
      refine ao_it ?_ ao_no
      refine ao_I F1 (F1.cl.r Cv0) (fun h23 F2 => ?_)
      refine ao_it ao_no ?_
      refine ao_it ?_ ao_no
      refine ao_I F2 (F2.cl.r Cv0) (fun h26 F3 => ?_)
      exact ao_jI F3 (av_mStreams_fillsBytes_b205 (F3.cl) Cv0)
  · refine ao_b1 F0 (av_mStreams_remark (F0.cl) Cv0) (fun h27 F4 => ?_)
    refine ao_it ao_no ?_
    refine ao_it ?_ ao_no
    refine ao_v (fun y31 => ?_)
    exact ao_jI F4 (hk140 _ _ _ _ _ _ _ _ (F4.cl) Cv0)
theorem av_mStreams_fillsBytes_b140_lp {C : Nat → Prop} (n : Nat) : ∀ {v0 : Nat} {v1 : Int} {v2 : Int} {v4 : Int} {v8 : Int} {v9 : Int} {v11 : Int} {h : Hp}, Cl C h → C v0 → Ao (qI C h) (f_mStreams_fillsBytes_b140_lp n v0 v1 v2 v4 v8 v9 v11 h) := by
  induction n with
  | zero => intros; exact ao_no
  | succ n ih => intro v0 v1 v2 v4 v8 v9 v11 h c Cv0; exact av_mStreams_fillsBytes_b140 (fun _ _ _ _ _ _ _ h => ih) c Cv0
theorem av_mStreams_fillsBytes_b9 {C : Nat → Prop} {k9 : Nat → Int → Int → Int → Int → Int → Int → Int → Int → Int → Hp → Option (Int × Hp)} (hk9 : ∀ (v0 : Nat) (v1 : Int) (v2 : Int) (v3 : Int) (v4 : Int) (v5 : Int) (v7 : Int) (v8 : Int) (v9 : Int) (v10 : Int) (h : Hp), Cl C h → C v0 → Ao (qI C h) (k9 v0 v1 v2 v3 v4 v5 v7 v8 v9 v10 h)) {v0 : Nat} {v1 : Int} {v2 : Int} {v3 : Int} {v4 : Int} {v5 : Int} {v7 : Int} {v8 : Int} {v9 : Int} {v10 : Int} {h : Hp} (c : Cl C h) (Cv0 : C v0) : Ao (qI C h) (f_mStreams_fillsBytes_b9 k9 v0 v1 v2 v3 v4 v5 v7 v8 v9 v10 h) := by
  unfold f_mStreams_fillsBytes_b9
  have F0 := Av.rf c
  refine ao_it ?_ ?_
  · refine ao_I F0 Cv0 (fun h1 F1 => ?_)
    refine ao_it ?_ ?_
    · exact ao_jI F1 (av_mStreams_fillsBytes_b140_lp FU (F1.cl) Cv0)
    · exact ao_so F1
  · refine ao_it ?_ ?_
    · exact ao_jI F0 (av_mStreams_fillsBytes_b45 hk9 (F0.cl) Cv0)
    · refine ao_it ?_ ?_
      · exact ao_jI F0 (av_mStreams_fillsBytes_b45 hk9 (F0.cl) Cv0)
      · refine ao_it ao_no ?_
        refine ao_it ?_ ao_no
        refine ao_it ?_ ?_
        · exact ao_jI F0 (av_mStreams_fillsBytes_b45 hk9 (F0.cl) Cv0)
        · exact ao_jI F0 (av_mStreams_fillsBytes_b46 hk9 (F0.cl) Cv0)
theorem av_mStreams_fillsBytes_b9_lp {C : Nat → Prop} (n : Nat) : ∀ {v0 : Nat} {v1 : Int} {v2 : Int} {v3 : Int} {v4 : Int} {v5 : Int} {v7 : Int} {v8 : Int} {v9 : Int} {v10 : Int} {h : Hp}, Cl C h → C v0 → Ao (qI C h) (f_mStreams_fillsBytes_b9_lp n v0 v1 v2 v3 v4 v5 v7 v8 v9 v10 h) := by
  induction n with
  | zero => intros; exact ao_no
  | succ n ih => intro v0 v1 v2 v3 v4 v5 v7 v8 v9 v10 h c Cv0; exact av_mStreams_fillsBytes_b9 (fun _ _ _ _ _ _ _ _ _ _ h => ih) c Cv0
theorem av_mStreams_fillsBytes {C : Nat → Prop} {v0 : Nat} {v1 : Int} {v2 : Int} {v3 : Int} {v4 : Int} {v5 : Int} {v7 : Int} {h : Hp} (c : Cl C h) (Cv0 : C v0) : Ao (qI C h) (f_mStreams_fillsBytes v0 v1 v2 v3 v4 v5 v7 h) := by
  unfold f_mStreams_fillsBytes
  have F0 := Av.rf c
  exact ao_jI F0 (av_mStreams_fillsBytes_b9_lp FU (F0.cl) Cv0)
theorem av_mStreams_fillsStream_b205 {C : Nat → Prop} {v0 : Nat} {v1 : Int} {v2 : Int} {v3 : Int} {v4 : Int} {v5 : Int} {v6 : Int} {v7 : Int} {v8 : Int} {v10 : Int} {h : Hp} (c : Cl C h) (Cv0 : C v0) : Ao (qI C h) (f_mStreams_fillsStream_b205 v0 v1 v2 v3 v4 v5 v6 v7 v8 v10 h) := by
  unfold f_mStreams_fillsStream_b205
  have F0 := Av.rf c
  refine ao_I F0 Cv0 (fun h28 F1 => ?_)
  refine ao_J F1 Cv0 (fun h29 F2 => ?_)
  refine ao_J F2 Cv0 (fun h30 F3 => ?_)
  refine ao_J F3 Cv0 (fun h31 F4 => ?_)
  refine ao_I F4 Cv0 (fun h32 F5 => ?_)
  refine ao_it ?_ ?_
  · refine ao_b2 F5 (av_mStreams_fillsBytes (F5.cl) Cv0) (fun r35 h33 F6 => ?_)
    refine ao_it ?_ ao_no
    exact ao_so F6
  · refine ao_J F5 Cv0 (fun h37 F7 => ?_)
    refine ao_b2 F7 (av_mStreams_bytes (F7.cl)) (fun r40 h38 F8 => ?_)
    refine ao_it ?_ ?_
    · refine ao_it ao_no ?_
      refine ao_it ?_ ao_no
      refine ao_I F8 (F8.cl.r Cv0) (fun h43 F9 => ?_)
      exact ao_so F9
    · exact ao_so F8
theorem av_mStreams_fillsStream_b181 {C : Nat → Prop} {v0 : Nat} {v1 : Int} {v2 : Int} {v3 : Int} {v4 : Int} {v5 : Int} {v6 : Int} {v7 : Int} {v8 : Int} {v10 : Int} {s0 : Int} {h : Hp} (c : Cl C h) (Cv0 : C v0) : Ao (qI C h) (f_mStreams_fillsStream_b181 v0 v1 v2 v3 v4 v5 v6 v7 v8 v10 s0 h) := by
  unfold f_mStreams_fillsStream_b181
  have F0 := Av.rf c
  refine ao_it ?_ ?_
  · refine ao_it ?_ ?_
    · exact ao_jI F0 (av_mStreams_fillsStream_b205 (F0.cl) Cv0)
    · exact ao_so F0
  · refine ao_it ?_ ?_
    · exact ao_jI F0 (av_mStreams_fillsStream_b205 (F0.cl) Cv0)
    · exact ao_so F0
theorem av_mStreams_fillsStream_b176 {C : Nat → Prop} {v0 : Nat} {v1 : Int} {v2 : Int} {v3 : Int} {v4 : Int} {v5 : Int} {v6 : Int} {v7 : Int} {v8 : Int} {v10 : Int} {h : Hp} (c : Cl C h) (Cv0 : C v0) : Ao (qI C h) (f_mStreams_fillsStream_b176 v0 v1 v2 v3 v4 v5 v6 v7 v8 v10 h) := by
  unfold f_mStreams_fillsStream_b176
  have F0 := Av.rf c
  exact ao_jI F0 (av_mStreams_fillsStream_b181 (F0.cl) Cv0)
theorem av_mStreams_fillsStream_b180 {C : Nat → Prop} {v0 : Nat} {v1 : Int} {v2 : Int} {v3 : Int} {v4 : Int} {v5 : Int} {v6 : Int} {v7 : Int} {v8 : Int} {v10 : Int} {h : Hp} (c : Cl C h) (Cv0 : C v0) : Ao (qI C h) (f_mStreams_fillsStream_b180 v0 v1 v2 v3 v4 v5 v6 v7 v8 v10 h) := by
  unfold f_mStreams_fillsStream_b180
  have F0 := Av.rf c
  exact ao_jI F0 (av_mStreams_fillsStream_b181 (F0.cl) Cv0)
theorem av_mStreams_fillsStream_b143 {C : Nat → Prop} {v0 : Nat} {v1 : Int} {v2 : Int} {v3 : Int} {v4 : Int} {v5 : Int} {v6 : Int} {v7 : Int} {v8 : Int} {s0 : Int} {h : Hp} (c : Cl C h) (Cv0 : C v0) : Ao (qI C h) (f_mStreams_fillsStream_b143 v0 v1 v2 v3 v4 v5 v6 v7 v8 s0 h) := by
  unfold f_mStreams_fillsStream_b143
  have F0 := Av.rf c
  refine ao_it ao_no ?_
  refine ao_it ?_ ao_no
  refine ao_it ?_ ?_
  · exact ao_jI F0 (av_mStreams_fillsStream_b180 (F0.cl) Cv0)
  · refine ao_it ao_no ?_
    refine ao_it ?_ ao_no
    refine ao_it ?_ ?_
    · exact ao_jI F0 (av_mStreams_fillsStream_b176 (F0.cl) Cv0)
    · refine ao_it ?_ ao_no
      refine ao_it ?_ ?_
      · exact ao_jI F0 (av_mStreams_fillsStream_b180 (F0.cl) Cv0)
      · exact ao_jI F0 (av_mStreams_fillsStream_b176 (F0.cl) Cv0)
theorem av_mStreams_fillsStream_b130 {C : Nat → Prop} {v0 : Nat} {v1 : Int} {v2 : Int} {v3 : Int} {v4 : Int} {v5 : Int} {v6 : Int} {v7 : Int} {s0 : Int} {h : Hp} (c : Cl C h) (Cv0 : C v0) : Ao (qI C h) (f_mStreams_fillsStream_b130 v0 v1 v2 v3 v4 v5 v6 v7 s0 h) := by
  unfold f_mStreams_fillsStream_b130
  have F0 := Av.rf c
  refine ao_it ?_ ?_
  · exact ao_jI F0 (av_mStreams_fillsStream_b143 (F0.cl) Cv0)
  · exact ao_jI F0 (av_mStreams_fillsStream_b143 (F0.cl) Cv0)
theorem av_mStreams_fillsStream_b111 {C : Nat → Prop} {v0 : Nat} {v1 : Int} {v2 : Int} {v3 : Int} {v4 : Int} {v5 : Int} {v6 : Int} {v7 : Int} {h : Hp} (c : Cl C h) (Cv0 : C v0) : Ao (qI C h) (f_mStreams_fillsStream_b111 v0 v1 v2 v3 v4 v5 v6 v7 h) := by
  unfold f_mStreams_fillsStream_b111
  have F0 := Av.rf c
  refine ao_it ?_ ?_
  · refine ao_b2 F0 (av_mStreams_allowed (F0.cl)) (fun r22 h20 F1 => ?_)
    exact ao_jI F1 (av_mStreams_fillsStream_b130 (F1.cl) Cv0)
  · exact ao_jI F0 (av_mStreams_fillsStream_b130 (F0.cl) Cv0)
theorem av_mStreams_fillsStream_b79 {C : Nat → Prop} {k79 : Nat → Int → Int → Int → Int → Int → Int → Int → Hp → Option (Int × Hp)} (hk79 : ∀ (v0 : Nat) (v1 : Int) (v2 : Int) (v3 : Int) (v4 : Int) (v5 : Int) (v6 : Int) (v7 : Int) (h : Hp), Cl C h → C v0 → Ao (qI C h) (k79 v0 v1 v2 v3 v4 v5 v6 v7 h)) {v0 : Nat} {v1 : Int} {v2 : Int} {v3 : Int} {v4 : Int} {v5 : Int} {v6 : Int} {v7 : Int} {h : Hp} (c : Cl C h) (Cv0 : C v0) : Ao (qI C h) (f_mStreams_fillsStream_b79 k79 v0 v1 v2 v3 v4 v5 v6 v7 h) := by
  unfold f_mStreams_fillsStream_b79
  have F0 := Av.rf c
  refine ao_it ?_ ?_
  · exact ao_jI F0 (av_mStreams_fillsStream_b111 (F0.cl) Cv0)
  · refine ao_it ao_no ?_
    refine ao_it ?_ ao_no
    refine ao_it ?_ ?_
    · exact ao_jI F0 (av_mStreams_fillsStream_b111 (F0.cl) Cv0)
    · refine ao_it ao_no ?_
      refine ao_it ?_ ao_no
      refine ao_v (fun y19 => ?_)
      exact ao_jI F0 (hk79 _ _ _ _ _ _ _ _ _ (F0.cl) Cv0)
theorem av_mStreams_fillsStream_b79_lp {C : Nat → Prop} (n : Nat) : ∀ {v0 : Nat} {v1 : Int} {v2 : Int} {v3 : Int} {v4 : Int} {v5 : Int} {v6 : Int} {v7 : Int} {h : Hp}, Cl C h → C v0 → Ao (qI C h) (f_mStreams_fillsStream_b79_lp n v0 v1 v2 v3 v4 v5 v6 v7 h) := by
  induction n with
  | zero => intros; exact ao_no
  | succ n ih => intro v0 v1 v2 v3 v4 v5 v6 v7 h c Cv0; exact av_mStreams_fillsStream_b79 (fun _ _ _ _ _ _ _ _ h => ih) c Cv0
theorem av_mStreams_fillsStream_b77 {C : Nat → Prop} {v0 : Nat} {v1 : Int} {v2 : Int} {v3 : Int} {v4 : Int} {v5 : Int} {v6 : Int} {s0 : Int} {h : Hp} (c : Cl C h) (Cv0 : C v0) : Ao (qI C h) (f_mStreams_fillsStream_b77 v0 v1 v2 v3 v4 v5 v6 s0 h) := by
  unfold f_mStreams_fillsStream_b77
  have F0 := Av.rf c
  exact ao_jI F0 (av_mStreams_fillsStream_b79_lp FU (F0.cl) Cv0)
theorem av_mStreams_fillsStream_b58 {C : Nat → Prop} {v0 : Nat} {v1 : Int} {v2 : Int} {v3 : Int} {v4 : Int} {v5 : Int} {s0 : Int} {h : Hp} (c : Cl C h) (Cv0 : C v0) : Ao (qI C h) (f_mStreams_fillsStream_b58 v0 v1 v2 v3 v4 v5 s0 h) := by
  unfold f_mStreams_fillsStream_b58
  have F0 := Av.rf c
  refine ao_it ?_ ?_
  · refine ao_it ao_no ?_
    refine ao_it ?_ ao_no
    exact ao_jI F0 (av_mStreams_fillsStream_b77 (F0.cl) Cv0)
  · exact ao_jI F0 (av_mStreams_fillsStream_b77 (F0.cl) Cv0)
theorem av_mStreams_fillsStream_b33 {C : Nat → Prop} {v0 : Nat} {v1 : Int} {v2 : Int} {v3 : Int} {v4 : Int} {s0 : Int} {h : Hp} (c : Cl C h) (Cv0 : C v0) : Ao (qI C h) (f_mStreams_fillsStream_b33 v0 v1 v2 v3 v4 s0 h) := by
  unfold f_mStreams_fillsStream_b33
  have F0 := Av.rf c
  refine ao_it ?_ ?_
  · refine ao_it ao_no ?_
    refine ao_it ?_ ao_no
    exact ao_jI F0 (av_mStreams_fillsStream_b58 (F0.cl) Cv0)
  · refine ao_it ao_no ?_
    refine ao_it ?_ ao_no
    exact ao_jI F0 (av_mStreams_fillsStream_b58 (F0.cl) Cv0)
theorem av_mStreams_fillsStream {C : Nat → Prop} {v0 : Nat} {v1 : Int} {v2 : Int} {v3 : Int} {h : Hp} (c : Cl C h) (Cv0 : C v0) : Ao (qI C h) (f_mStreams_fillsStream v0 v1 v2 v3 h) := by
  unfold f_mStreams_fillsStream
  have F0 := Av.rf c
  refine ao_b2 F0 (av_mStreams_isOpenSending (F0.cl)) (fun r3 h1 F1 => ?_)
  refine ao_it ?_ ?_
  · refine ao_b2 F1 (av_mStreams_at (F1.cl)) (fun r6 h4 F2 => ?_)
    refine ao_it ao_no ?_
    refine ao_it ?_ ao_no
    refine ao_it ?_ ?_
    · exact ao_jI F2 (av_mStreams_fillsStream_b33 (F2.cl) Cv0)
    · exact ao_jI F2 (av_mStreams_fillsStream_b33 (F2.cl) Cv0)
  · exact ao_so F1
theorem av_mStreams_fills_b31 {C : Nat → Prop} {k31 : Nat → Int → Int → Int → Hp → Option (Int × Hp)} (hk31 : ∀ (v0 : Nat) (v1 : Int) (v2 : Int) (v3 : Int) (h : Hp), Cl C h → C v0 → Ao (qI C h) (k31 v0 v1 v2 v3 h)) {v0 : Nat} {v1 : Int} {v2 : Int} {v3 : Int} {h : Hp} (c : Cl C h) (Cv0 : C v0) : Ao (qI C h) (f_mStreams_fills_b31 k31 v0 v1 v2 v3 h) := by
  unfold f_mStreams_fills_b31
  have F0 := Av.rf c
  refine ao_it ?_ ?_
  · exact ao_so F0
  · refine ao_it ao_no ?_
    refine ao_it ?_ ao_no
    refine ao_v (fun y12 => ?_)
    refine ao_b2 F0 (av_mStreams_fillsStream (F0.cl) Cv0) (fun r15 h13 F2 => ?_)
    refine ao_it ?_ ?_
    · exact ao_jI F2 (hk31 _ _ _ _ _ (F2.cl) Cv0)
    · refine ao_it ao_no ?_
      refine ao_it ?_ ao_no
      refine ao_I F2 (F2.cl.r Cv0) (fun h18 F3 => ?_)
      exact ao_so F3
theorem av_mStreams_fills_b31_lp {C : Nat → Prop} (n : Nat) : ∀ {v0 : Nat} {v1 : Int} {v2 : Int} {v3 : Int} {h : Hp}, Cl C h → C v0 → Ao (qI C h) (f_mStreams_fills_b31_lp n v0 v1 v2 v3 h) := by
  induction n with
  | zero => intros; exact ao_no
  | succ n ih => intro v0 v1 v2 v3 h c Cv0; exact av_mStreams_fills_b31 (fun _ _ _ _ h => ih) c Cv0
theorem av_mStreams_fills {C : Nat → Prop} {v0 : Nat} {v1 : Int} {v2 : Int} {h : Hp} (c : Cl C h) (Cv0 : C v0) : Ao (qI C h) (f_mStreams_fills v0 v1 v2 h) := by
  unfold f_mStreams_fills
  have F0 := Av.rf c
  refine ao_b2 F0 (av_mStreams_fillsResets (F0.cl) Cv0) (fun r3 h1 F1 => ?_)
  refine ao_it ?_ ?_
  · exact ao_so F1
  · refine ao_b2 F1 (av_mStreams_fillsGrants (F1.cl) Cv0) (fun r6 h4 F2 => ?_)
    refine ao_it ?_ ?_
    · exact ao_so F2
    · refine ao_b2 F2 (av_mStreams_fillsBlocked (F2.cl) Cv0) (fun r9 h7 F3 => ?_)
      refine ao_it ?_ ?_
      · exact ao_jI F3 (av_mStreams_fills_b31_lp FU (F3.cl) Cv0)
      · exact ao_so F3
theorem av_mStreams_writeTo_b69 {C : Nat → Prop} {v0 : Nat} {v1 : Nat} {h : Hp} (c : Cl C h) (Cv1 : C v1) : Ao (qV C h) (f_mStreams_writeTo_b69 v0 v1 h) := by
  unfold f_mStreams_writeTo_b69
  have F0 := Av.rf c
  refine ao_it ?_ ?_
  · exact ao_so F0
  · refine ao_it ao_no ?_
    refine ao_b1 F0 (av_mDraft_number (F0.cl) Cv1) (fun h10 F1 => ?_)
    exact ao_so F1
theorem av_mStreams_writeTo_b142 {C : Nat → Prop} {v0 : Nat} {v1 : Nat} {h : Hp} (c : Cl C h) (Cv1 : C v1) : Ao (qV C h) (f_mStreams_writeTo_b142 v0 v1 h) := by
  unfold f_mStreams_writeTo_b142
  have F0 := Av.rf c
  refine ao_it ao_no ?_
  refine ao_b1 F0 (av_mDraft_number (F0.cl) Cv1) (fun h21 F1 => ?_)
  refine ao_b1 F1 (av_mDraft_bytes (F1.cl) Cv1) (fun h23 F2 => ?_)
  exact ao_so F2
theorem av_mStreams_writeTo_b103 {C : Nat → Prop} {v0 : Nat} {v1 : Nat} {s0 : Nat} {s1 : Int} {s2 : Int} {h : Hp} (c : Cl C h) (Cv1 : C v1) (Cs0 : C s0) : Ao (qV C h) (f_mStreams_writeTo_b103 v0 v1 s0 s1 s2 h) := by
  unfold f_mStreams_writeTo_b103
  have F0 := Av.rf c
  refine ao_it ao_no ?_
  refine ao_b1 F0 (av_mDraft_put (F0.cl) Cs0) (fun h13 F1 => ?_)
  refine ao_it ao_no ?_
  refine ao_b1 F1 (av_mDraft_number (F1.cl) Cv1) (fun h16 F2 => ?_)
  refine ao_it ?_ ?_
  · exact ao_jV F2 (av_mStreams_writeTo_b142 (F2.cl) Cv1)
  · refine ao_b1 F2 (av_mDraft_number (F2.cl) Cv1) (fun h18 F3 => ?_)
    exact ao_jV F3 (av_mStreams_writeTo_b142 (F3.cl) Cv1)
theorem av_mStreams_writeTo_b61 {C : Nat → Prop} {v0 : Nat} {v1 : Nat} {h : Hp} (c : Cl C h) (Cv1 : C v1) : Ao (qV C h) (f_mStreams_writeTo_b61 v0 v1 h) := by
  unfold f_mStreams_writeTo_b61
  have F0 := Av.rf c
  refine ao_it ao_no ?_
  refine ao_b1 F0 (av_mDraft_number (F0.cl) Cv1) (fun h7 F1 => ?_)
  exact ao_jV F1 (av_mStreams_writeTo_b69 (F1.cl) Cv1)
theorem av_mStreams_writeTo {C : Nat → Prop} {v0 : Nat} {v1 : Nat} {h : Hp} (c : Cl C h) (Cv1 : C v1) : Ao (qV C h) (f_mStreams_writeTo v0 v1 h) := by
  unfold f_mStreams_writeTo
  have F0 := Av.rf c
  refine ao_it ?_ ?_
  · refine ao_it ?_ ?_
    · exact ao_jV F0 (av_mStreams_writeTo_b103 (F0.cl) Cv1 Cv1)
    · exact ao_jV F0 (av_mStreams_writeTo_b103 (F0.cl) Cv1 Cv1)
  · refine ao_it ao_no ?_
    refine ao_b1 F0 (av_mDraft_put (F0.cl) Cv1) (fun h2 F1 => ?_)
    refine ao_b1 F1 (av_mDraft_number (F1.cl) Cv1) (fun h4 F2 => ?_)
    refine ao_it ?_ ?_
    · exact ao_jV F2 (av_mStreams_writeTo_b61 (F2.cl) Cv1)
    · refine ao_it ?_ ?_
      · exact ao_jV F2 (av_mStreams_writeTo_b61 (F2.cl) Cv1)
      · refine ao_it ?_ ?_
        · exact ao_jV F2 (av_mStreams_writeTo_b61 (F2.cl) Cv1)
        · refine ao_it ?_ ?_
          · exact ao_jV F2 (av_mStreams_writeTo_b69 (F2.cl) Cv1)
          · exact ao_jV F2 (av_mStreams_writeTo_b61 (F2.cl) Cv1)
theorem av_mSide_laysLast_b106 {C : Nat → Prop} {k106 : Nat → Int → Nat → Hp → Option (Hp)} (hk106 : ∀ (v0 : Nat) (v1 : Int) (v2 : Nat) (h : Hp), Cl C h → C v0 → C v2 → Ao (qV C h) (k106 v0 v1 v2 h)) {v0 : Nat} {v1 : Int} {v2 : Nat} {h : Hp} (c : Cl C h) (Cv0 : C v0) (Cv2 : C v2) : Ao (qV C h) (f_mSide_laysLast_b106 k106 v0 v1 v2 h) := by
  unfold f_mSide_laysLast_b106
  have F0 := Av.rf c
  refine ao_it ao_no ?_
  refine ao_it ao_no ?_
  refine ao_b2 F0 (av_mStreams_fills (F0.cl) (F0.cl.r Cv0)) (fun r28 h26 F1 => ?_)
  refine ao_it ?_ ?_
  · exact ao_so F1
  · refine ao_it ao_no ?_
    refine ao_b1 F1 (av_mStreams_writeTo (F1.cl) Cv2) (fun h30 F2 => ?_)
    refine ao_it ao_no ?_
    refine ao_it ?_ ao_no
    refine ao_it ao_no ?_
    refine ao_it ao_no ?_
    refine ao_b1 F2 (av_mCargo_add (F2.cl) (F2.cl.r (F2.cl.r Cv0))) (fun h36 F3 => ?_)
    exact ao_jV F3 (hk106 _ _ _ _ (F3.cl) Cv0 Cv2)
theorem av_mSide_laysLast_b106_lp {C : Nat → Prop} (n : Nat) : ∀ {v0 : Nat} {v1 : Int} {v2 : Nat} {h : Hp}, Cl C h → C v0 → C v2 → Ao (qV C h) (f_mSide_laysLast_b106_lp n v0 v1 v2 h) := by
  induction n with
  | zero => intros; exact ao_no
  | succ n ih => intro v0 v1 v2 h c Cv0 Cv2; exact av_mSide_laysLast_b106 (fun _ _ _ h => ih) c Cv0 Cv2
theorem av_mSide_laysLast_b50 {C : Nat → Prop} {v0 : Nat} {v1 : Int} {v2 : Nat} {h : Hp} (c : Cl C h) (Cv0 : C v0) (Cv2 : C v2) : Ao (qV C h) (f_mSide_laysLast_b50 v0 v1 v2 h) := by
  unfold f_mSide_laysLast_b50
  have F0 := Av.rf c
  refine ao_it ?_ ?_
  · exact ao_jV F0 (av_mSide_laysLast_b106_lp FU (F0.cl) Cv0 Cv2)
  · refine ao_it ao_no ?_
    refine ao_it ?_ ?_
    · exact ao_jV F0 (av_mSide_laysLast_b106_lp FU (F0.cl) Cv0 Cv2)
    · refine ao_I F0 Cv0 (fun h14 F1 => ?_)
      refine ao_b1 F1 (av_mDraft_put (F1.cl) Cv2) (fun h15 F2 => ?_)
      refine ao_b1 F2 (av_mDraft_put (F2.cl) Cv2) (fun h17 F3 => ?_)
      refine ao_it ao_no ?_
      refine ao_it ?_ ao_no
      refine ao_it ao_no ?_
      refine ao_b1 F3 (av_mCargo_add (F3.cl) (F3.cl.r (F3.cl.r Cv0))) (fun h22 F4 => ?_)
      exact ao_jV F4 (av_mSide_laysLast_b106_lp FU (F4.cl) Cv0 Cv2)
theorem av_mSide_laysLast {C : Nat → Prop} {v0 : Nat} {v1 : Int} {h : Hp} (c : Cl C h) (Cv0 : C v0) : Ao (qV C h) (f_mSide_laysLast v0 v1 h) := by
  unfold f_mSide_laysLast
  have F0 := Av.rf c
  refine ao_it ao_no ?_
  refine ao_it ?_ ao_no
  refine ao_m (F0.cl.r (F0.cl.r Cv0)) (fun y3 Cy3 => ?_)
  refine ao_it ?_ ?_
  · exact ao_jV F0 (av_mSide_laysLast_b50 (F0.cl) Cv0 Cy3)
  · refine ao_it ao_no ?_
    refine ao_it ?_ ?_
    · exact ao_jV F0 (av_mSide_laysLast_b50 (F0.cl) Cv0 Cy3)
    · refine ao_I F0 Cv0 (fun h5 F2 => ?_)
      refine ao_b1 F2 (av_mDraft_put (F2.cl) Cy3) (fun h6 F3 => ?_)
      refine ao_it ao_no ?_
      refine ao_it ?_ ao_no
      refine ao_it ao_no ?_
      refine ao_b1 F3 (av_mCargo_add (F3.cl) (F3.cl.r (F3.cl.r Cv0))) (fun h11 F4 => ?_)
      exact ao_jV F4 (av_mSide_laysLast_b50 (F4.cl) Cv0 Cy3)
theorem av_mBook_due_b51 {C : Nat → Prop} {v0 : Nat} {h : Hp} (c : Cl C h) : Ao (qI C h) (f_mBook_due_b51 v0 h) := by
  unfold f_mBook_due_b51
  have F0 := Av.rf c
  exact ao_so F0
theorem av_mBook_due {C : Nat → Prop} {v0 : Nat} {v1 : Int} {h : Hp} (c : Cl C h) : Ao (qI C h) (f_mBook_due v0 v1 h) := by
  unfold f_mBook_due
  have F0 := Av.rf c
  refine ao_it ao_no ?_
  refine ao_it ?_ ao_no
  refine ao_it ?_ ?_
  · refine ao_it ?_ ?_
    · exact ao_jI F0 (av_mBook_due_b51 (F0.cl))
    · refine ao_it ?_ ao_no
      refine ao_it ?_ ?_
      · exact ao_jI F0 (av_mBook_due_b51 (F0.cl))
      · refine ao_it ao_no ?_
        refine ao_it ?_ ao_no
        refine ao_it ?_ ?_
        · exact ao_jI F0 (av_mBook_due_b51 (F0.cl))
        · refine ao_it ao_no ?_
          refine ao_it ?_ ao_no
          refine ao_it ?_ ?_
          · exact ao_so F0
          · exact ao_jI F0 (av_mBook_due_b51 (F0.cl))
  · exact ao_so F0
theorem av_mSide_laysFrames_b251 {C : Nat → Prop} {v0 : Nat} {v1 : Int} {v4 : Nat} {s0 : Nat} {s1 : Int} {s2 : Int} {h : Hp} (c : Cl C h) (Cv0 : C v0) (Cv4 : C v4) (Cs0 : C s0) : Ao (qV C h) (f_mSide_laysFrames_b251 v0 v1 v4 s0 s1 s2 h) := by
  unfold f_mSide_laysFrames_b251
  have F0 := Av.rf c
  refine ao_it ao_no ?_
  refine ao_it ?_ ao_no
  refine ao_it ao_no ?_
  refine ao_I F0 Cs0 (fun h59 F1 => ?_)
  refine ao_it ao_no ?_
  refine ao_it ?_ ao_no
  refine ao_it ?_ ?_
  · exact ao_so F1
  · refine ao_it ao_no ?_
    refine ao_it ?_ ao_no
    refine ao_it ?_ ?_
    · exact ao_so F1
    · refine ao_it ao_no ?_
      refine ao_b2 F1 (av_mBook_due (F1.cl)) (fun r68 h66 F2 => ?_)
      refine ao_it ?_ ?_
      · exact ao_so F2
      · refine ao_it ao_no ?_
        refine ao_I F2 Cv4 (fun h70 F3 => ?_)
        refine ao_it ao_no ?_
        refine ao_it ?_ ao_no
        refine ao_I F3 (F3.cl.r Cv0) (fun h73 F4 => ?_)
        exact ao_so F4
theorem av_mSide_laysFrames_b231 {C : Nat → Prop} {v0 : Nat} {v1 : Int} {v4 : Nat} {v5 : Int} {h : Hp} (c : Cl C h) (Cv0 : C v0) (Cv4 : C v4) : Ao (qV C h) (f_mSide_laysFrames_b231 v0 v1 v4 v5 h) := by
  unfold f_mSide_laysFrames_b231
  have F0 := Av.rf c
  refine ao_it ao_no ?_
  refine ao_it ?_ ?_
  · exact ao_jV F0 (av_mSide_laysFrames_b251 (F0.cl) Cv0 Cv4 (F0.cl.r Cv0))
  · exact ao_jV F0 (av_mSide_laysFrames_b251 (F0.cl) Cv0 Cv4 (F0.cl.r Cv0))
theorem av_mSide_laysFrames_b196 {C : Nat → Prop} {v0 : Nat} {v1 : Int} {v2 : Int} {v4 : Nat} {v5 : Int} {h : Hp} (c : Cl C h) (Cv0 : C v0) (Cv4 : C v4) : Ao (qV C h) (f_mSide_laysFrames_b196 v0 v1 v2 v4 v5 h) := by
  unfold f_mSide_laysFrames_b196
  have F0 := Av.rf c
  refine ao_it ao_no ?_
  refine ao_it ?_ ?_
  · exact ao_jV F0 (av_mSide_laysFrames_b231 (F0.cl) Cv0 Cv4)
  · refine ao_it ao_no ?_
    refine ao_it ?_ ao_no
    refine ao_it ?_ ?_
    · exact ao_jV F0 (av_mSide_laysFrames_b231 (F0.cl) Cv0 Cv4)
    · refine ao_it ?_ ?_
      · exact ao_jV F0 (av_mSide_laysFrames_b231 (F0.cl) Cv0 Cv4)
      · refine ao_b1 F0 (av_mDraft_put (F0.cl) Cv4) (fun h54 F1 => ?_)
        exact ao_jV F1 (av_mSide_laysFrames_b231 (F1.cl) Cv0 Cv4)
theorem av_mSide_laysFrames_b177 {C : Nat → Prop} {v0 : Nat} {v1 : Int} {v2 : Int} {v4 : Nat} {v5 : Int} {h : Hp} (c : Cl C h) (Cv0 : C v0) (Cv4 : C v4) : Ao (qV C h) (f_mSide_laysFrames_b177 v0 v1 v2 v4 v5 h) := by
  unfold f_mSide_laysFrames_b177
  have F0 := Av.rf c
  refine ao_it ?_ ?_
  · refine ao_b1 F0 (av_mSide_laysLast (F0.cl) Cv0) (fun h47 F1 => ?_)
    exact ao_jV F1 (av_mSide_laysFrames_b196 (F1.cl) Cv0 Cv4)
  · refine ao_b1 F0 (av_mSide_laysCrypto (F0.cl) Cv0) (fun h49 F2 => ?_)
    exact ao_jV F2 (av_mSide_laysFrames_b196 (F2.cl) Cv0 Cv4)
theorem av_mSide_laysFrames_b132 {C : Nat → Prop} {v0 : Nat} {v1 : Int} {v2 : Int} {v4 : Nat} {h : Hp} (c : Cl C h) (Cv0 : C v0) (Cv4 : C v4) : Ao (qV C h) (f_mSide_laysFrames_b132 v0 v1 v2 v4 h) := by
  unfold f_mSide_laysFrames_b132
  have F0 := Av.rf c
  refine ao_b2 F0 (av_mSide_laysAck (F0.cl) Cv0) (fun r33 h31 F1 => ?_)
  refine ao_it ao_no ?_
  refine ao_it ?_ ao_no
  refine ao_it ao_no ?_
  refine ao_I F1 (F0.cl.r Cv0) (fun h36 F2 => ?_)
  refine ao_it ao_no ?_
  refine ao_v (fun y39 => ?_)
  refine ao_it ao_no ?_
  refine ao_it ?_ ao_no
  refine ao_it ?_ ?_
  · exact ao_jV F2 (av_mSide_laysFrames_b177 (F2.cl) Cv0 Cv4)
  · refine ao_it ao_no ?_
    refine ao_b2 F2 (av_mBook_flight (F2.cl)) (fun r45 h43 F4 => ?_)
    refine ao_it ao_no ?_
    refine ao_it ?_ ?_
    · exact ao_jV F4 (av_mSide_laysFrames_b196 (F4.cl) Cv0 Cv4)
    · exact ao_jV F4 (av_mSide_laysFrames_b177 (F4.cl) Cv0 Cv4)
theorem av_mSide_laysFrames {C : Nat → Prop} {v0 : Nat} {v1 : Int} {v2 : Int} {v3 : Int} {h : Hp} (c : Cl C h) (Cv0 : C v0) : Ao (qV C h) (f_mSide_laysFrames v0 v1 v2 v3 h) := by
  unfold f_mSide_laysFrames
  have F0 := Av.rf c
  refine ao_it ao_no ?_
  refine ao_it ?_ ao_no
  refine ao_m (F0.cl.r (F0.cl.r Cv0)) (fun y3 Cy3 => ?_)
  refine ao_it ao_no ?_
  refine ao_it ?_ ao_no
  refine ao_I F0 (F0.cl.r Cv0) (fun h6 F2 => ?_)
  refine ao_it ao_no ?_
  refine ao_it ?_ ao_no
  refine ao_I F2 (F2.cl.r Cv0) (fun h9 F3 => ?_)
  refine ao_it ao_no ?_
  refine ao_it ?_ ao_no
  refine ao_I F3 (F3.cl.r Cv0) (fun h12 F4 => ?_)
  refine ao_it ao_no ?_
  refine ao_it ao_no ?_
  refine ao_it ?_ ao_no
  refine ao_it ao_no ?_
  refine ao_it ?_ ao_no
  refine ao_it ao_no ?_
  refine ao_it ao_no ?_
  refine ao_it ?_ ao_no
  refine ao_I F4 (F4.cl.r Cv0) (fun h21 F5 => ?_)
  refine ao_it ?_ ?_
  · refine ao_it ?_ ?_
    · exact ao_jV F5 (av_mSide_laysFrames_b132 (F5.cl) Cv0 Cy3)
    · refine ao_it ?_ ?_
      · exact ao_jV F5 (av_mSide_laysFrames_b132 (F5.cl) Cv0 Cy3)
      · refine ao_it ?_ ?_
        · exact ao_jV F5 (av_mSide_laysFrames_b132 (F5.cl) Cv0 Cy3)
        · refine ao_it ?_ ?_
          · exact ao_jV F5 (av_mSide_laysFrames_b132 (F5.cl) Cv0 Cy3)
          · refine ao_it ?_ ?_
            · exact ao_jV F5 (av_mSide_laysFrames_b132 (F5.cl) Cv0 Cy3)
            · refine ao_it ao_no ?_
              refine ao_b1 F5 (av_mDraft_bytes (F5.cl) Cy3) (fun h23 F6 => ?_)
              refine ao_I F6 Cv0 (fun h25 F7 => ?_)
              refine ao_it ao_no ?_
              refine ao_it ?_ ao_no
              refine ao_I F7 (F7.cl.r Cv0) (fun h28 F8 => ?_)
              exact ao_so F8
  · refine ao_b1 F5 (av_mSide_laysClose (F5.cl) Cv0) (fun h29 F9 => ?_)
    exact ao_so F9
theorem av_mSide_cut {C : Nat → Prop} {v0 : Nat} {v1 : Int} {h : Hp} (c : Cl C h) : Ao (qI C h) (f_mSide_cut v0 v1 h) := by
  unfold f_mSide_cut
  have F0 := Av.rf c
  refine ao_it ao_no ?_
  refine ao_it ao_no ?_
  refine ao_it ?_ ao_no
  refine ao_it ao_no ?_
  refine ao_it ?_ ao_no
  refine ao_v (fun y6 => ?_)
  refine ao_it ?_ ?_
  · refine ao_it ?_ ?_
    · exact ao_so F0
    · exact ao_so F0
  · exact ao_so F0
theorem av_mSide_pad {C : Nat → Prop} {v0 : Nat} {v1 : Int} {h : Hp} (c : Cl C h) (Cv0 : C v0) : Ao (qV C h) (f_mSide_pad v0 v1 h) := by
  unfold f_mSide_pad
  have F0 := Av.rf c
  refine ao_it ao_no ?_
  refine ao_it ?_ ao_no
  refine ao_it ao_no ?_
  refine ao_b1 F0 (av_mDraft_put (F0.cl) (F0.cl.r (F0.cl.r Cv0))) (fun h4 F1 => ?_)
  refine ao_it ao_no ?_
  refine ao_it ?_ ao_no
  refine ao_I F1 (F1.cl.r Cv0) (fun h8 F2 => ?_)
  exact ao_so F2
theorem av_mSide_sizeOf {C : Nat → Prop} {v0 : Nat} {v1 : Int} {h : Hp} (c : Cl C h) : Ao (qI C h) (f_mSide_sizeOf v0 v1 h) := by
  unfold f_mSide_sizeOf
  have F0 := Av.rf c
  refine ao_b2 F0 (av_mSide_headerOf (F0.cl)) (fun r3 h1 F1 => ?_)
  refine ao_b2 F1 (av_mSide_cut (F1.cl)) (fun r6 h4 F2 => ?_)
  refine ao_it ao_no ?_
  refine ao_it ?_ ao_no
  refine ao_it ao_no ?_
  exact ao_so F2
theorem av_mSeals_seal_b35 {C : Nat → Prop} {k35 : Nat → Nat → Int → Int → Hp → Option (Hp)} (hk35 : ∀ (v0 : Nat) (v5 : Nat) (v8 : Int) (v9 : Int) (h : Hp), Cl C h → C v5 → Ao (qV C h) (k35 v0 v5 v8 v9 h)) {v0 : Nat} {v5 : Nat} {v8 : Int} {v9 : Int} {h : Hp} (c : Cl C h) (Cv5 : C v5) : Ao (qV C h) (f_mSeals_seal_b35 k35 v0 v5 v8 v9 h) := by
  unfold f_mSeals_seal_b35
  have F0 := Av.rf c
  refine ao_it ?_ ?_
  · exact ao_so F0
  · refine ao_it ao_no ?_
    refine ao_it ?_ ao_no
    refine ao_it ao_no ?_
    refine ao_it ?_ ao_no
    refine ao_I F0 Cv5 (fun h11 F1 => ?_)
    exact ao_jV F1 (hk35 _ _ _ _ _ (F1.cl) Cv5)
theorem av_mSeals_seal_b35_lp {C : Nat → Prop} (n : Nat) : ∀ {v0 : Nat} {v5 : Nat} {v8 : Int} {v9 : Int} {h : Hp}, Cl C h → C v5 → Ao (qV C h) (f_mSeals_seal_b35_lp n v0 v5 v8 v9 h) := by
  induction n with
  | zero => intros; exact ao_no
  | succ n ih => intro v0 v5 v8 v9 h c Cv5; exact av_mSeals_seal_b35 (fun _ _ _ _ h => ih) c Cv5
theorem av_mSeals_seal {C : Nat → Prop} {v0 : Nat} {v1 : Nat} {v2 : Int} {v3 : Int} {v5 : Nat} {v6 : Int} {v7 : Int} {v8 : Int} {h : Hp} (c : Cl C h) (Cv0 : C v0) (Cv5 : C v5) : Ao (qV C h) (f_mSeals_seal v0 v1 v2 v3 v5 v6 v7 v8 h) := by
  unfold f_mSeals_seal
  have F0 := Av.rf c
  refine ao_b1 F0 (av_mSeals_nonceOf (F0.cl) Cv0) (fun h1 F1 => ?_)
  refine ao_b1 F1 (av_mSeals_change (F1.cl) Cv0 Cv5) (fun h3 F2 => ?_)
  refine ao_b1 F2 (av_mSeals_tagOf (F2.cl) Cv0) (fun h5 F3 => ?_)
  exact ao_jV F3 (av_mSeals_seal_b35_lp FU (F3.cl) Cv5)
theorem av_mBook_send_b106 {C : Nat → Prop} {v0 : Nat} {v5 : Int} {s0 : Nat} {s1 : Int} {s2 : Int} {h : Hp} (c : Cl C h) (Cs0 : C s0) : Ao (qI C h) (f_mBook_send_b106 v0 v5 s0 s1 s2 h) := by
  unfold f_mBook_send_b106
  have F0 := Av.rf c
  refine ao_it ao_no ?_
  refine ao_it ?_ ao_no
  refine ao_it ao_no ?_
  refine ao_I F0 Cs0 (fun h32 F1 => ?_)
  exact ao_so F1
theorem av_mBook_send {C : Nat → Prop} {v0 : Nat} {v1 : Int} {v2 : Int} {v3 : Int} {v4 : Int} {h : Hp} (c : Cl C h) (Cv0 : C v0) : Ao (qI C h) (f_mBook_send v0 v1 v2 v3 v4 h) := by
  unfold f_mBook_send
  have F0 := Av.rf c
  refine ao_it ao_no ?_
  refine ao_it ?_ ao_no
  refine ao_v (fun y3 => ?_)
  refine ao_v (fun y4 => ?_)
  refine ao_it ao_no ?_
  refine ao_it ?_ ao_no
  refine ao_I F0 (F0.cl.r Cv0) (fun h7 F3 => ?_)
  refine ao_it ao_no ?_
  refine ao_it ?_ ao_no
  refine ao_I F3 (F3.cl.r Cv0) (fun h10 F4 => ?_)
  refine ao_it ao_no ?_
  refine ao_it ?_ ao_no
  refine ao_I F4 (F4.cl.r Cv0) (fun h13 F5 => ?_)
  refine ao_it ao_no ?_
  refine ao_it ?_ ao_no
  refine ao_it ao_no ?_
  refine ao_I F5 (F5.cl.r Cv0) (fun h16 F6 => ?_)
  refine ao_it ao_no ?_
  refine ao_it ?_ ao_no
  refine ao_it ao_no ?_
  refine ao_I F6 (F6.cl.r Cv0) (fun h20 F7 => ?_)
  refine ao_it ao_no ?_
  refine ao_it ?_ ao_no
  refine ao_it ?_ ao_no
  refine ao_I F7 (F7.cl.r Cv0) (fun h25 F8 => ?_)
  refine ao_I F8 Cv0 (fun h26 F9 => ?_)
  refine ao_b2 F9 (av_mBook_flight (F9.cl)) (fun r29 h27 F10 => ?_)
  refine ao_it ?_ ?_
  · exact ao_jI F10 (av_mBook_send_b106 (F10.cl) (F9.cl.r Cv0))
  · exact ao_jI F10 (av_mBook_send_b106 (F10.cl) (F9.cl.r Cv0))
theorem av_mBook_written {C : Nat → Prop} {v0 : Nat} {v1 : Int} {h : Hp} (c : Cl C h) (Cv0 : C v0) : Ao (qV C h) (f_mBook_written v0 v1 h) := by
  unfold f_mBook_written
  have F0 := Av.rf c
  refine ao_it ao_no ?_
  refine ao_it ?_ ao_no
  refine ao_I F0 (F0.cl.r Cv0) (fun h3 F1 => ?_)
  refine ao_it ao_no ?_
  refine ao_it ?_ ao_no
  refine ao_I F1 (F1.cl.r Cv0) (fun h6 F2 => ?_)
  exact ao_so F2
theorem av_mSide_sendsPacket_b415 {C : Nat → Prop} {v0 : Nat} {h : Hp} (c : Cl C h) (Cv0 : C v0) : Ao (qV C h) (f_mSide_sendsPacket_b415 v0 h) := by
  unfold f_mSide_sendsPacket_b415
  have F0 := Av.rf c
  refine ao_I F0 Cv0 (fun h79 F1 => ?_)
  exact ao_so F1
theorem av_mSide_sendsPacket_b397 {C : Nat → Prop} {v0 : Nat} {h : Hp} (c : Cl C h) (Cv0 : C v0) : Ao (qV C h) (f_mSide_sendsPacket_b397 v0 h) := by
  unfold f_mSide_sendsPacket_b397
  have F0 := Av.rf c
  refine ao_it ?_ ?_
  · exact ao_jV F0 (av_mSide_sendsPacket_b415 (F0.cl) Cv0)
  · refine ao_it ao_no ?_
    refine ao_I F0 Cv0 (fun h78 F1 => ?_)
    exact ao_jV F1 (av_mSide_sendsPacket_b415 (F1.cl) Cv0)
theorem av_mSide_sendsPacket_b368 {C : Nat → Prop} {v0 : Nat} {v1 : Int} {h : Hp} (c : Cl C h) (Cv0 : C v0) : Ao (qV C h) (f_mSide_sendsPacket_b368 v0 v1 h) := by
  unfold f_mSide_sendsPacket_b368
  have F0 := Av.rf c
  refine ao_it ao_no ?_
  refine ao_it ?_ ao_no
  refine ao_it ?_ ?_
  · refine ao_it ao_no ?_
    refine ao_it ?_ ao_no
    refine ao_it ?_ ?_
    · exact ao_jV F0 (av_mSide_sendsPacket_b397 (F0.cl) Cv0)
    · refine ao_it ?_ ao_no
      refine ao_it ?_ ao_no
      refine ao_I F0 (F0.cl.r Cv0) (fun h76 F1 => ?_)
      exact ao_jV F1 (av_mSide_sendsPacket_b397 (F1.cl) Cv0)
  · exact ao_so F0
theorem av_mSide_sendsPacket_b347 {C : Nat → Prop} {v0 : Nat} {v1 : Int} {s0 : Nat} {s1 : Int} {s2 : Int} {s3 : Int} {s4 : Int} {h : Hp} (c : Cl C h) (Cv0 : C v0) (Cs0 : C s0) : Ao (qV C h) (f_mSide_sendsPacket_b347 v0 v1 s0 s1 s2 s3 s4 h) := by
  unfold f_mSide_sendsPacket_b347
  have F0 := Av.rf c
  refine ao_it ao_no ?_
  refine ao_b2 F0 (av_mBook_send (F0.cl) Cs0) (fun r64 h62 F1 => ?_)
  refine ao_it ao_no ?_
  refine ao_it ?_ ao_no
  refine ao_it ?_ ?_
  · exact ao_jV F1 (av_mSide_sendsPacket_b368 (F1.cl) Cv0)
  · refine ao_it ao_no ?_
    refine ao_b1 F1 (av_mBook_written (F1.cl) (F1.cl.r Cv0)) (fun h68 F2 => ?_)
    exact ao_jV F2 (av_mSide_sendsPacket_b368 (F2.cl) Cv0)
theorem av_mSide_sendsPacket_b342 {C : Nat → Prop} {v0 : Nat} {v1 : Int} {s0 : Nat} {s1 : Int} {s2 : Int} {s3 : Int} {h : Hp} (c : Cl C h) (Cv0 : C v0) (Cs0 : C s0) : Ao (qV C h) (f_mSide_sendsPacket_b342 v0 v1 s0 s1 s2 s3 h) := by
  unfold f_mSide_sendsPacket_b342
  have F0 := Av.rf c
  exact ao_jV F0 (av_mSide_sendsPacket_b347 (F0.cl) Cv0 Cs0)
theorem av_mSide_sendsPacket_b177 {C : Nat → Prop} {v0 : Nat} {v1 : Int} {v2 : Int} {v3 : Int} {v4 : Int} {v5 : Nat} {h : Hp} (c : Cl C h) (Cv0 : C v0) : Ao (qV C h) (f_mSide_sendsPacket_b177 v0 v1 v2 v3 v4 v5 h) := by
  unfold f_mSide_sendsPacket_b177
  have F0 := Av.rf c
  refine ao_it ao_no ?_
  refine ao_v (fun y36 => ?_)
  refine ao_b1 F0 (av_mDraft_put (F0.cl) (F0.cl.r Cv0)) (fun h37 F2 => ?_)
  refine ao_it ao_no ?_
  refine ao_v (fun y40 => ?_)
  refine ao_it ao_no ?_
  refine ao_b1 F2 (av_mDraft_bytes (F2.cl) (F2.cl.r Cv0)) (fun h42 F4 => ?_)
  refine ao_it ao_no ?_
  refine ao_it ao_no ?_
  refine ao_b1 F4 (av_mSeals_seal (F4.cl) (F4.cl.r Cv0) (F4.cl.r (F4.cl.r Cv0))) (fun h46 F5 => ?_)
  refine ao_it ao_no ?_
  refine ao_I F5 (F5.cl.r Cv0) (fun h49 F6 => ?_)
  refine ao_it ao_no ?_
  refine ao_it ao_no ?_
  refine ao_b2 F6 (av_mSeals_shield (F6.cl) (F6.cl.r Cv0) (F6.cl.r (F6.cl.r Cv0))) (fun r54 h52 F7 => ?_)
  refine ao_it ao_no ?_
  refine ao_it ao_no ?_
  refine ao_it ?_ ao_no
  refine ao_it ?_ ao_no
  refine ao_it ?_ ?_
  · exact ao_jV F7 (av_mSide_sendsPacket_b342 (F7.cl) Cv0 (F7.cl.r Cv0))
  · refine ao_it ao_no ?_
    refine ao_it ?_ ao_no
    refine ao_it ?_ ?_
    · exact ao_jV F7 (av_mSide_sendsPacket_b347 (F7.cl) Cv0 (F7.cl.r Cv0))
    · exact ao_jV F7 (av_mSide_sendsPacket_b342 (F7.cl) Cv0 (F7.cl.r Cv0))
theorem av_mSide_sendsPacket_b158 {C : Nat → Prop} {v0 : Nat} {v1 : Int} {v2 : Int} {v3 : Int} {v4 : Int} {v5 : Nat} {h : Hp} (c : Cl C h) (Cv0 : C v0) : Ao (qV C h) (f_mSide_sendsPacket_b158 v0 v1 v2 v3 v4 v5 h) := by
  unfold f_mSide_sendsPacket_b158
  have F0 := Av.rf c
  refine ao_it ao_no ?_
  refine ao_it ao_no ?_
  refine ao_b1 F0 (av_mDraft_sized (F0.cl) (F0.cl.r Cv0)) (fun h82 F1 => ?_)
  exact ao_jV F1 (av_mSide_sendsPacket_b177 (F1.cl) Cv0)
theorem av_mSide_sendsPacket_b96 {C : Nat → Prop} {v0 : Nat} {v1 : Int} {v2 : Int} {v3 : Int} {v4 : Int} {v5 : Nat} {h : Hp} (c : Cl C h) (Cv0 : C v0) : Ao (qV C h) (f_mSide_sendsPacket_b96 v0 v1 v2 v3 v4 v5 h) := by
  unfold f_mSide_sendsPacket_b96
  have F0 := Av.rf c
  refine ao_it ao_no ?_
  refine ao_b1 F0 (av_mDraft_bytes (F0.cl) (F0.cl.r Cv0)) (fun h23 F1 => ?_)
  refine ao_it ?_ ?_
  · exact ao_jV F1 (av_mSide_sendsPacket_b177 (F1.cl) Cv0)
  · refine ao_it ao_no ?_
    refine ao_b1 F1 (av_mDraft_put (F1.cl) (F1.cl.r Cv0)) (fun h26 F2 => ?_)
    refine ao_it ao_no ?_
    refine ao_it ao_no ?_
    refine ao_b1 F2 (av_mDraft_bytes (F2.cl) (F2.cl.r Cv0)) (fun h30 F3 => ?_)
    refine ao_it ?_ ?_
    · exact ao_jV F3 (av_mSide_sendsPacket_b158 (F3.cl) Cv0)
    · refine ao_it ao_no ?_
      refine ao_b1 F3 (av_mDraft_put (F3.cl) (F3.cl.r Cv0)) (fun h33 F4 => ?_)
      exact ao_jV F4 (av_mSide_sendsPacket_b158 (F4.cl) Cv0)
theorem av_mSide_sendsPacket_b65 {C : Nat → Prop} {v0 : Nat} {v1 : Int} {v2 : Int} {v3 : Int} {v4 : Int} {v5 : Nat} {s0 : Nat} {s1 : Int} {h : Hp} (c : Cl C h) (Cv0 : C v0) (Cs0 : C s0) : Ao (qV C h) (f_mSide_sendsPacket_b65 v0 v1 v2 v3 v4 v5 s0 s1 h) := by
  unfold f_mSide_sendsPacket_b65
  have F0 := Av.rf c
  refine ao_it ao_no ?_
  refine ao_b1 F0 (av_mDraft_put (F0.cl) Cs0) (fun h14 F1 => ?_)
  refine ao_it ?_ ?_
  · exact ao_jV F1 (av_mSide_sendsPacket_b96 (F1.cl) Cv0)
  · refine ao_it ao_no ?_
    refine ao_b1 F1 (av_mDraft_put (F1.cl) (F1.cl.r Cv0)) (fun h17 F2 => ?_)
    refine ao_it ao_no ?_
    refine ao_b1 F2 (av_mDraft_put (F2.cl) (F2.cl.r Cv0)) (fun h20 F3 => ?_)
    exact ao_jV F3 (av_mSide_sendsPacket_b96 (F3.cl) Cv0)
theorem av_mSide_sendsPacket {C : Nat → Prop} {v0 : Nat} {v1 : Int} {h : Hp} (c : Cl C h) (Cv0 : C v0) : Ao (qV C h) (f_mSide_sendsPacket v0 v1 h) := by
  unfold f_mSide_sendsPacket
  have F0 := Av.rf c
  refine ao_it ao_no ?_
  refine ao_v (fun y2 => ?_)
  refine ao_b2 F0 (av_mSide_cut (F0.cl)) (fun r5 h3 F2 => ?_)
  refine ao_it ao_no ?_
  refine ao_it ao_no ?_
  refine ao_it ?_ ao_no
  refine ao_v (fun y9 => ?_)
  refine ao_it ao_no ?_
  refine ao_it ?_ ao_no
  refine ao_m (F2.cl.r (F2.cl.r Cv0)) (fun y12 Cy12 => ?_)
  refine ao_it ?_ ?_
  · exact ao_jV F2 (av_mSide_sendsPacket_b65 (F2.cl) Cv0 (F2.cl.r Cv0))
  · exact ao_jV F2 (av_mSide_sendsPacket_b65 (F2.cl) Cv0 (F2.cl.r Cv0))
theorem av_mSide_sends_b211 {C : Nat → Prop} {k94 : Nat → Int → Int → Int → Int → Int → Hp → Option (Int × Hp)} (hk94 : ∀ (v0 : Nat) (v1 : Int) (v2 : Int) (v3 : Int) (v4 : Int) (v5 : Int) (h : Hp), Cl C h → C v0 → Ao (qI C h) (k94 v0 v1 v2 v3 v4 v5 h)) {v0 : Nat} {v1 : Int} {v2 : Int} {v3 : Int} {v4 : Int} {v5 : Int} {h : Hp} (c : Cl C h) (Cv0 : C v0) : Ao (qI C h) (f_mSide_sends_b211 k94 v0 v1 v2 v3 v4 v5 h) := by
  unfold f_mSide_sends_b211
  have F0 := Av.rf c
  exact ao_jI F0 (hk94 _ _ _ _ _ _ _ (F0.cl) Cv0)
theorem av_mSide_sends_b298 {C : Nat → Prop} {k273 : Nat → Int → Hp → Option (Int × Hp)} (hk273 : ∀ (v0 : Nat) (v5 : Int) (h : Hp), Cl C h → C v0 → Ao (qI C h) (k273 v0 v5 h)) {v0 : Nat} {v5 : Int} {h : Hp} (c : Cl C h) (Cv0 : C v0) : Ao (qI C h) (f_mSide_sends_b298 k273 v0 v5 h) := by
  unfold f_mSide_sends_b298
  have F0 := Av.rf c
  exact ao_jI F0 (hk273 _ _ _ (F0.cl) Cv0)
theorem av_mSide_sends_b332 {C : Nat → Prop} {v0 : Nat} {h : Hp} (c : Cl C h) (Cv0 : C v0) : Ao (qI C h) (f_mSide_sends_b332 v0 h) := by
  unfold f_mSide_sends_b332
  have F0 := Av.rf c
  refine ao_it ?_ ?_
  · exact ao_so F0
  · refine ao_it ao_no ?_
    refine ao_it ?_ ao_no
    refine ao_it ao_no ?_
    refine ao_it ?_ ?_
    · exact ao_so F0
    · refine ao_b1 F0 (av_mSide_discard (F0.cl) Cv0) (fun h45 F1 => ?_)
      exact ao_so F1
theorem av_mSide_sends_b273 {C : Nat → Prop} {k273 : Nat → Int → Hp → Option (Int × Hp)} (hk273 : ∀ (v0 : Nat) (v5 : Int) (h : Hp), Cl C h → C v0 → Ao (qI C h) (k273 v0 v5 h)) {v0 : Nat} {v5 : Int} {h : Hp} (c : Cl C h) (Cv0 : C v0) : Ao (qI C h) (f_mSide_sends_b273 k273 v0 v5 h) := by
  unfold f_mSide_sends_b273
  have F0 := Av.rf c
  refine ao_it ?_ ?_
  · refine ao_it ao_no ?_
    refine ao_I F0 Cv0 (fun h35 F1 => ?_)
    refine ao_it ?_ ?_
    · exact ao_jI F1 (av_mSide_sends_b332 (F1.cl) Cv0)
    · refine ao_I F1 Cv0 (fun h36 F2 => ?_)
      exact ao_jI F2 (av_mSide_sends_b332 (F2.cl) Cv0)
  · refine ao_it ao_no ?_
    refine ao_it ?_ ao_no
    refine ao_it ao_no ?_
    refine ao_it ?_ ?_
    · exact ao_jI F0 (av_mSide_sends_b298 hk273 (F0.cl) Cv0)
    · refine ao_b1 F0 (av_mSide_sendsPacket (F0.cl) Cv0) (fun h40 F3 => ?_)
      exact ao_jI F3 (av_mSide_sends_b298 hk273 (F3.cl) Cv0)
theorem av_mSide_sends_b273_lp {C : Nat → Prop} (n : Nat) : ∀ {v0 : Nat} {v5 : Int} {h : Hp}, Cl C h → C v0 → Ao (qI C h) (f_mSide_sends_b273_lp n v0 v5 h) := by
  induction n with
  | zero => intros; exact ao_no
  | succ n ih => intro v0 v5 h c Cv0; exact av_mSide_sends_b273 (fun _ _ h => ih) c Cv0
theorem av_mSide_sends_b262 {C : Nat → Prop} {v0 : Nat} {h : Hp} (c : Cl C h) (Cv0 : C v0) : Ao (qI C h) (f_mSide_sends_b262 v0 h) := by
  unfold f_mSide_sends_b262
  have F0 := Av.rf c
  refine ao_it ao_no ?_
  refine ao_I F0 (F0.cl.r Cv0) (fun h33 F1 => ?_)
  exact ao_jI F1 (av_mSide_sends_b273_lp FU (F1.cl) Cv0)
theorem av_mSide_sends_b168 {C : Nat → Prop} {k94 : Nat → Int → Int → Int → Int → Int → Hp → Option (Int × Hp)} (hk94 : ∀ (v0 : Nat) (v1 : Int) (v2 : Int) (v3 : Int) (v4 : Int) (v5 : Int) (h : Hp), Cl C h → C v0 → Ao (qI C h) (k94 v0 v1 v2 v3 v4 v5 h)) {k168 : Nat → Int → Int → Int → Int → Hp → Option (Int × Hp)} (hk168 : ∀ (v0 : Nat) (v1 : Int) (v2 : Int) (v3 : Int) (v5 : Int) (h : Hp), Cl C h → C v0 → Ao (qI C h) (k168 v0 v1 v2 v3 v5 h)) {v0 : Nat} {v1 : Int} {v2 : Int} {v3 : Int} {v5 : Int} {h : Hp} (c : Cl C h) (Cv0 : C v0) : Ao (qI C h) (f_mSide_sends_b168 k94 k168 v0 v1 v2 v3 v5 h) := by
  unfold f_mSide_sends_b168
  have F0 := Av.rf c
  refine ao_b2 F0 (av_mSide_cut (F0.cl)) (fun r49 h47 F1 => ?_)
  refine ao_it ao_no ?_
  refine ao_it ?_ ao_no
  refine ao_it ao_no ?_
  refine ao_it ?_ ?_
  · refine ao_b2 F1 (av_mSide_sizeOf (F1.cl)) (fun r55 h53 F2 => ?_)
    refine ao_v (fun y56 => ?_)
    exact ao_jI F2 (av_mSide_sends_b211 hk94 (F2.cl) Cv0)
  · refine ao_b1 F1 (av_mSide_pad (F1.cl) Cv0) (fun h57 F4 => ?_)
    exact ao_jI F4 (hk168 _ _ _ _ _ _ (F4.cl) Cv0)
theorem av_mSide_sends_b168_lp {C : Nat → Prop} {k94 : Nat → Int → Int → Int → Int → Int → Hp → Option (Int × Hp)} (hk94 : ∀ (v0 : Nat) (v1 : Int) (v2 : Int) (v3 : Int) (v4 : Int) (v5 : Int) (h : Hp), Cl C h → C v0 → Ao (qI C h) (k94 v0 v1 v2 v3 v4 v5 h)) (n : Nat) : ∀ {v0 : Nat} {v1 : Int} {v2 : Int} {v3 : Int} {v5 : Int} {h : Hp}, Cl C h → C v0 → Ao (qI C h) (f_mSide_sends_b168_lp k94 n v0 v1 v2 v3 v5 h) := by
  induction n with
  | zero => intros; exact ao_no
  | succ n ih => intro v0 v1 v2 v3 v5 h c Cv0; exact av_mSide_sends_b168 hk94 (fun _ _ _ _ _ h => ih) c Cv0
theorem av_mSide_sends_b245 {C : Nat → Prop} {k245 : Nat → Int → Int → Int → Hp → Option (Int × Hp)} (hk245 : ∀ (v0 : Nat) (v2 : Int) (v3 : Int) (v4 : Int) (h : Hp), Cl C h → C v0 → Ao (qI C h) (k245 v0 v2 v3 v4 h)) {v0 : Nat} {v2 : Int} {v3 : Int} {v4 : Int} {h : Hp} (c : Cl C h) (Cv0 : C v0) : Ao (qI C h) (f_mSide_sends_b245 k245 v0 v2 v3 v4 h) := by
  unfold f_mSide_sends_b245
  have F0 := Av.rf c
  refine ao_it ?_ ?_
  · exact ao_jI F0 (av_mSide_sends_b262 (F0.cl) Cv0)
  · refine ao_b1 F0 (av_mSide_pad (F0.cl) Cv0) (fun h30 F1 => ?_)
    exact ao_jI F1 (hk245 _ _ _ _ _ (F1.cl) Cv0)
theorem av_mSide_sends_b245_lp {C : Nat → Prop} (n : Nat) : ∀ {v0 : Nat} {v2 : Int} {v3 : Int} {v4 : Int} {h : Hp}, Cl C h → C v0 → Ao (qI C h) (f_mSide_sends_b245_lp n v0 v2 v3 v4 h) := by
  induction n with
  | zero => intros; exact ao_no
  | succ n ih => intro v0 v2 v3 v4 h c Cv0; exact av_mSide_sends_b245 (fun _ _ _ _ h => ih) c Cv0
theorem av_mSide_sends_b94 {C : Nat → Prop} {k94 : Nat → Int → Int → Int → Int → Int → Hp → Option (Int × Hp)} (hk94 : ∀ (v0 : Nat) (v1 : Int) (v2 : Int) (v3 : Int) (v4 : Int) (v5 : Int) (h : Hp), Cl C h → C v0 → Ao (qI C h) (k94 v0 v1 v2 v3 v4 v5 h)) {v0 : Nat} {v1 : Int} {v2 : Int} {v3 : Int} {v4 : Int} {v5 : Int} {h : Hp} (c : Cl C h) (Cv0 : C v0) : Ao (qI C h) (f_mSide_sends_b94 k94 v0 v1 v2 v3 v4 v5 h) := by
  unfold f_mSide_sends_b94
  have F0 := Av.rf c
  refine ao_it ?_ ?_
  · refine ao_it ?_ ?_
    · refine ao_it ao_no ?_
      refine ao_it ?_ ao_no
      refine ao_it ao_no ?_
      refine ao_it ?_ ?_
      · exact ao_jI F0 (av_mSide_sends_b262 (F0.cl) Cv0)
      · refine ao_it ao_no ?_
        refine ao_it ?_ ao_no
        refine ao_it ?_ ?_
        · exact ao_jI F0 (av_mSide_sends_b262 (F0.cl) Cv0)
        · exact ao_jI F0 (av_mSide_sends_b245_lp FU (F0.cl) Cv0)
    · exact ao_so F0
  · refine ao_it ao_no ?_
    refine ao_it ?_ ao_no
    refine ao_it ao_no ?_
    refine ao_I F0 (F0.cl.r (F0.cl.r Cv0)) (fun h17 F1 => ?_)
    refine ao_b2 F1 (av_mSide_headerOf (F1.cl)) (fun r20 h18 F2 => ?_)
    refine ao_v (fun y21 => ?_)
    refine ao_b2 F2 (av_mSide_hasGuards (F2.cl)) (fun r24 h22 F4 => ?_)
    refine ao_it ?_ ?_
    · exact ao_jI F4 (av_mSide_sends_b211 hk94 (F4.cl) Cv0)
    · refine ao_it ?_ ?_
      · refine ao_b1 F4 (av_mSide_laysFrames (F4.cl) Cv0) (fun h25 F5 => ?_)
        refine ao_it ao_no ?_
        refine ao_it ?_ ao_no
        refine ao_it ao_no ?_
        refine ao_it ?_ ?_
        · exact ao_jI F5 (av_mSide_sends_b168_lp hk94 FU (F5.cl) Cv0)
        · exact ao_jI F5 (av_mSide_sends_b211 hk94 (F5.cl) Cv0)
      · exact ao_jI F4 (av_mSide_sends_b211 hk94 (F4.cl) Cv0)
theorem av_mSide_sends_b94_lp {C : Nat → Prop} (n : Nat) : ∀ {v0 : Nat} {v1 : Int} {v2 : Int} {v3 : Int} {v4 : Int} {v5 : Int} {h : Hp}, Cl C h → C v0 → Ao (qI C h) (f_mSide_sends_b94_lp n v0 v1 v2 v3 v4 v5 h) := by
  induction n with
  | zero => intros; exact ao_no
  | succ n ih => intro v0 v1 v2 v3 v4 v5 h c Cv0; exact av_mSide_sends_b94 (fun _ _ _ _ _ _ h => ih) c Cv0
theorem av_mSide_sends_b81 {C : Nat → Prop} {v0 : Nat} {v1 : Int} {v2 : Int} {h : Hp} (c : Cl C h) (Cv0 : C v0) : Ao (qI C h) (f_mSide_sends_b81 v0 v1 v2 h) := by
  unfold f_mSide_sends_b81
  have F0 := Av.rf c
  refine ao_I F0 Cv0 (fun h8 F1 => ?_)
  exact ao_jI F1 (av_mSide_sends_b94_lp FU (F1.cl) Cv0)
theorem av_mSide_sends_b30 {C : Nat → Prop} {v0 : Nat} {s0 : Nat} {s1 : Int} {h : Hp} (c : Cl C h) (Cs0 : C s0) : Ao (qI C h) (f_mSide_sends_b30 v0 s0 s1 h) := by
  unfold f_mSide_sends_b30
  have F0 := Av.rf c
  refine ao_it ao_no ?_
  refine ao_I F0 Cs0 (fun h7 F1 => ?_)
  exact ao_so F1
theorem av_mSide_sends {C : Nat → Prop} {v0 : Nat} {v1 : Int} {h : Hp} (c : Cl C h) (Cv0 : C v0) : Ao (qI C h) (f_mSide_sends v0 v1 h) := by
  unfold f_mSide_sends
  have F0 := Av.rf c
  refine ao_b2 F0 (av_mSide_isFull (F0.cl)) (fun r3 h1 F1 => ?_)
  refine ao_it ?_ ?_
  · refine ao_it ?_ ?_
    · exact ao_jI F1 (av_mSide_sends_b81 (F1.cl) Cv0)
    · refine ao_it ?_ ?_
      · exact ao_jI F1 (av_mSide_sends_b81 (F1.cl) Cv0)
      · refine ao_it ?_ ?_
        · exact ao_jI F1 (av_mSide_sends_b81 (F1.cl) Cv0)
        · refine ao_v (fun y4 => ?_)
          exact ao_jI F1 (av_mSide_sends_b81 (F1.cl) Cv0)
  · refine ao_I F1 Cv0 (fun h5 F3 => ?_)
    refine ao_it ?_ ?_
    · exact ao_jI F3 (av_mSide_sends_b30 (F3.cl) Cv0)
    · exact ao_jI F3 (av_mSide_sends_b30 (F3.cl) Cv0)
theorem av_mP_ticks_b26 {C : Nat → Prop} {k12 : Nat → Int → Hp → Option (Hp)} (hk12 : ∀ (v0 : Nat) (v1 : Int) (h : Hp), Cl C h → C v0 → Ao (qV C h) (k12 v0 v1 h)) {k26 : Nat → Int → Int → Hp → Option (Hp)} (hk26 : ∀ (v0 : Nat) (v1 : Int) (v2 : Int) (h : Hp), Cl C h → C v0 → Ao (qV C h) (k26 v0 v1 v2 h)) {v0 : Nat} {v1 : Int} {v2 : Int} {h : Hp} (c : Cl C h) (Cv0 : C v0) : Ao (qV C h) (f_mP_ticks_b26 k12 k26 v0 v1 v2 h) := by
  unfold f_mP_ticks_b26
  have F0 := Av.rf c
  refine ao_it ao_no ?_
  refine ao_it ?_ ao_no
  refine ao_it ?_ ?_
  · exact ao_jV F0 (hk12 _ _ _ (F0.cl) Cv0)
  · refine ao_b2 F0 (av_mP_place (F0.cl)) (fun r23 h21 F1 => ?_)
    refine ao_it ao_no ?_
    refine ao_it ?_ ao_no
    refine ao_it ?_ ?_
    · exact ao_jV F1 (hk26 _ _ _ _ (F1.cl) Cv0)
    · refine ao_b2 F1 (av_mP_delivers (F1.cl) Cv0) (fun r28 h26 F2 => ?_)
      exact ao_jV F2 (hk26 _ _ _ _ (F2.cl) Cv0)
theorem av_mP_ticks_b26_lp {C : Nat → Prop} {k12 : Nat → Int → Hp → Option (Hp)} (hk12 : ∀ (v0 : Nat) (v1 : Int) (h : Hp), Cl C h → C v0 → Ao (qV C h) (k12 v0 v1 h)) (n : Nat) : ∀ {v0 : Nat} {v1 : Int} {v2 : Int} {h : Hp}, Cl C h → C v0 → Ao (qV C h) (f_mP_ticks_b26_lp k12 n v0 v1 v2 h) := by
  induction n with
  | zero => intros; exact ao_no
  | succ n ih => intro v0 v1 v2 h c Cv0; exact av_mP_ticks_b26 hk12 (fun _ _ _ h => ih) c Cv0
theorem av_mP_ticks_b176 {C : Nat → Prop} {k83 : Nat → Int → Hp → Option (Hp)} (hk83 : ∀ (v0 : Nat) (v1 : Int) (h : Hp), Cl C h → C v0 → Ao (qV C h) (k83 v0 v1 h)) {k123 : Nat → Int → Nat → Int → Int → Hp → Option (Hp)} (hk123 : ∀ (v0 : Nat) (v1 : Int) (v2 : Nat) (v3 : Int) (v4 : Int) (h : Hp), Cl C h → C v0 → C v2 → Ao (qV C h) (k123 v0 v1 v2 v3 v4 h)) {v0 : Nat} {v1 : Int} {v2 : Nat} {v3 : Int} {v4 : Int} {h : Hp} (c : Cl C h) (Cv0 : C v0) (Cv2 : C v2) : Ao (qV C h) (f_mP_ticks_b176 k83 k123 v0 v1 v2 v3 v4 h) := by
  unfold f_mP_ticks_b176
  have F0 := Av.rf c
  exact ao_jV F0 (hk123 _ _ _ _ _ _ (F0.cl) Cv0 Cv2)
theorem av_mP_ticks_b145 {C : Nat → Prop} {k83 : Nat → Int → Hp → Option (Hp)} (hk83 : ∀ (v0 : Nat) (v1 : Int) (h : Hp), Cl C h → C v0 → Ao (qV C h) (k83 v0 v1 h)) {k123 : Nat → Int → Nat → Int → Int → Hp → Option (Hp)} (hk123 : ∀ (v0 : Nat) (v1 : Int) (v2 : Nat) (v3 : Int) (v4 : Int) (h : Hp), Cl C h → C v0 → C v2 → Ao (qV C h) (k123 v0 v1 v2 v3 v4 h)) {v0 : Nat} {v1 : Int} {v2 : Nat} {v4 : Int} {s0 : Nat} {s1 : Int} {h : Hp} (c : Cl C h) (Cv0 : C v0) (Cv2 : C v2) (Cs0 : C s0) : Ao (qV C h) (f_mP_ticks_b145 k83 k123 v0 v1 v2 v4 s0 s1 h) := by
  unfold f_mP_ticks_b145
  have F0 := Av.rf c
  refine ao_it ao_no ?_
  refine ao_b2 F0 (av_mSide_sends (F0.cl) Cs0) (fun r14 h12 F1 => ?_)
  refine ao_it ?_ ?_
  · exact ao_jV F1 (av_mP_ticks_b176 hk83 hk123 (F1.cl) Cv0 Cv2)
  · refine ao_it ao_no ?_
    refine ao_it ao_no ?_
    refine ao_b1 F1 (av_mP_lies (F1.cl) Cv0) (fun h17 F2 => ?_)
    exact ao_jV F2 (av_mP_ticks_b176 hk83 hk123 (F2.cl) Cv0 Cv2)
theorem av_mP_ticks_b182 {C : Nat → Prop} {k83 : Nat → Int → Hp → Option (Hp)} (hk83 : ∀ (v0 : Nat) (v1 : Int) (h : Hp), Cl C h → C v0 → Ao (qV C h) (k83 v0 v1 h)) {v0 : Nat} {v1 : Int} {h : Hp} (c : Cl C h) (Cv0 : C v0) : Ao (qV C h) (f_mP_ticks_b182 k83 v0 v1 h) := by
  unfold f_mP_ticks_b182
  have F0 := Av.rf c
  exact ao_jV F0 (hk83 _ _ _ (F0.cl) Cv0)
theorem av_mP_ticks_b123 {C : Nat → Prop} {k83 : Nat → Int → Hp → Option (Hp)} (hk83 : ∀ (v0 : Nat) (v1 : Int) (h : Hp), Cl C h → C v0 → Ao (qV C h) (k83 v0 v1 h)) {k123 : Nat → Int → Nat → Int → Int → Hp → Option (Hp)} (hk123 : ∀ (v0 : Nat) (v1 : Int) (v2 : Nat) (v3 : Int) (v4 : Int) (h : Hp), Cl C h → C v0 → C v2 → Ao (qV C h) (k123 v0 v1 v2 v3 v4 h)) {v0 : Nat} {v1 : Int} {v2 : Nat} {v3 : Int} {v4 : Int} {h : Hp} (c : Cl C h) (Cv0 : C v0) (Cv2 : C v2) : Ao (qV C h) (f_mP_ticks_b123 k83 k123 v0 v1 v2 v3 v4 h) := by
  unfold f_mP_ticks_b123
  have F0 := Av.rf c
  refine ao_it ?_ ?_
  · exact ao_jV F0 (av_mP_ticks_b182 hk83 (F0.cl) Cv0)
  · refine ao_it ?_ ?_
    · exact ao_jV F0 (av_mP_ticks_b182 hk83 (F0.cl) Cv0)
    · refine ao_it ?_ ?_
      · exact ao_jV F0 (av_mP_ticks_b145 hk83 hk123 (F0.cl) Cv0 Cv2 Cv2)
      · exact ao_jV F0 (av_mP_ticks_b145 hk83 hk123 (F0.cl) Cv0 Cv2 Cv2)
theorem av_mP_ticks_b123_lp {C : Nat → Prop} {k83 : Nat → Int → Hp → Option (Hp)} (hk83 : ∀ (v0 : Nat) (v1 : Int) (h : Hp), Cl C h → C v0 → Ao (qV C h) (k83 v0 v1 h)) (n : Nat) : ∀ {v0 : Nat} {v1 : Int} {v2 : Nat} {v3 : Int} {v4 : Int} {h : Hp}, Cl C h → C v0 → C v2 → Ao (qV C h) (f_mP_ticks_b123_lp k83 n v0 v1 v2 v3 v4 h) := by
  induction n with
  | zero => intros; exact ao_no
  | succ n ih => intro v0 v1 v2 v3 v4 h c Cv0 Cv2; exact av_mP_ticks_b123 hk83 (fun _ _ _ _ _ h => ih) c Cv0 Cv2
theorem av_mP_ticks_b119 {C : Nat → Prop} {k83 : Nat → Int → Hp → Option (Hp)} (hk83 : ∀ (v0 : Nat) (v1 : Int) (h : Hp), Cl C h → C v0 → Ao (qV C h) (k83 v0 v1 h)) {v0 : Nat} {v1 : Int} {v2 : Nat} {s0 : Int} {h : Hp} (c : Cl C h) (Cv0 : C v0) (Cv2 : C v2) : Ao (qV C h) (f_mP_ticks_b119 k83 v0 v1 v2 s0 h) := by
  unfold f_mP_ticks_b119
  have F0 := Av.rf c
  exact ao_jV F0 (av_mP_ticks_b123_lp hk83 FU (F0.cl) Cv0 Cv2)
theorem av_mP_ticks_b114 {C : Nat → Prop} {k83 : Nat → Int → Hp → Option (Hp)} (hk83 : ∀ (v0 : Nat) (v1 : Int) (h : Hp), Cl C h → C v0 → Ao (qV C h) (k83 v0 v1 h)) {v0 : Nat} {v1 : Int} {v2 : Nat} {h : Hp} (c : Cl C h) (Cv0 : C v0) (Cv2 : C v2) : Ao (qV C h) (f_mP_ticks_b114 k83 v0 v1 v2 h) := by
  unfold f_mP_ticks_b114
  have F0 := Av.rf c
  exact ao_jV F0 (av_mP_ticks_b119 hk83 (F0.cl) Cv0 Cv2)
theorem av_mP_ticks_b83 {C : Nat → Prop} {k83 : Nat → Int → Hp → Option (Hp)} (hk83 : ∀ (v0 : Nat) (v1 : Int) (h : Hp), Cl C h → C v0 → Ao (qV C h) (k83 v0 v1 h)) {v0 : Nat} {v1 : Int} {h : Hp} (c : Cl C h) (Cv0 : C v0) : Ao (qV C h) (f_mP_ticks_b83 k83 v0 v1 h) := by
  unfold f_mP_ticks_b83
  have F0 := Av.rf c
  refine ao_it ?_ ?_
  · exact ao_so F0
  · refine ao_it ao_no ?_
    refine ao_it ?_ ao_no
    refine ao_m (F0.cl.r (F0.cl.r Cv0)) (fun y4 Cy4 => ?_)
    refine ao_it ao_no ?_
    refine ao_b1 F0 (av_mSide_tick (F0.cl) Cy4) (fun h6 F2 => ?_)
    refine ao_b2 F2 (av_mSide_isAlive (F2.cl)) (fun r10 h8 F3 => ?_)
    refine ao_it ?_ ?_
    · exact ao_jV F3 (av_mP_ticks_b114 hk83 (F3.cl) Cv0 Cy4)
    · refine ao_it ?_ ?_
      · exact ao_jV F3 (av_mP_ticks_b119 hk83 (F3.cl) Cv0 Cy4)
      · exact ao_jV F3 (av_mP_ticks_b114 hk83 (F3.cl) Cv0 Cy4)
theorem av_mP_ticks_b83_lp {C : Nat → Prop} (n : Nat) : ∀ {v0 : Nat} {v1 : Int} {h : Hp}, Cl C h → C v0 → Ao (qV C h) (f_mP_ticks_b83_lp n v0 v1 h) := by
  induction n with
  | zero => intros; exact ao_no
  | succ n ih => intro v0 v1 h c Cv0; exact av_mP_ticks_b83 (fun _ _ h => ih) c Cv0
theorem av_mP_ticks_b81 {C : Nat → Prop} {v0 : Nat} {h : Hp} (c : Cl C h) (Cv0 : C v0) : Ao (qV C h) (f_mP_ticks_b81 v0 h) := by
  unfold f_mP_ticks_b81
  have F0 := Av.rf c
  exact ao_jV F0 (av_mP_ticks_b83_lp FU (F0.cl) Cv0)
theorem av_mP_ticks_b12 {C : Nat → Prop} {k12 : Nat → Int → Hp → Option (Hp)} (hk12 : ∀ (v0 : Nat) (v1 : Int) (h : Hp), Cl C h → C v0 → Ao (qV C h) (k12 v0 v1 h)) {v0 : Nat} {v1 : Int} {h : Hp} (c : Cl C h) (Cv0 : C v0) : Ao (qV C h) (f_mP_ticks_b12 k12 v0 v1 h) := by
  unfold f_mP_ticks_b12
  have F0 := Av.rf c
  refine ao_it ?_ ?_
  · exact ao_jV F0 (av_mP_ticks_b81 (F0.cl) Cv0)
  · refine ao_it ?_ ?_
    · exact ao_jV F0 (av_mP_ticks_b81 (F0.cl) Cv0)
    · exact ao_jV F0 (av_mP_ticks_b26_lp hk12 FU (F0.cl) Cv0)
theorem av_mP_ticks_b12_lp {C : Nat → Prop} (n : Nat) : ∀ {v0 : Nat} {v1 : Int} {h : Hp}, Cl C h → C v0 → Ao (qV C h) (f_mP_ticks_b12_lp n v0 v1 h) := by
  induction n with
  | zero => intros; exact ao_no
  | succ n ih => intro v0 v1 h c Cv0; exact av_mP_ticks_b12 (fun _ _ h => ih) c Cv0
theorem av_mP_ticks {C : Nat → Prop} {v0 : Nat} {h : Hp} (c : Cl C h) (Cv0 : C v0) : Ao (qV C h) (f_mP_ticks v0 h) := by
  unfold f_mP_ticks
  have F0 := Av.rf c
  refine ao_I F0 Cv0 (fun h1 F1 => ?_)
  exact ao_jV F1 (av_mP_ticks_b12_lp FU (F1.cl) Cv0)
theorem av_mP_tick_b53 {C : Nat → Prop} {k53 : Nat → Int → Int → Hp → Option (Int × Hp)} (hk53 : ∀ (v0 : Nat) (v1 : Int) (v2 : Int) (h : Hp), Cl C h → C v0 → Ao (qI C h) (k53 v0 v1 v2 h)) {v0 : Nat} {v1 : Int} {v2 : Int} {h : Hp} (c : Cl C h) (Cv0 : C v0) : Ao (qI C h) (f_mP_tick_b53 k53 v0 v1 v2 h) := by
  unfold f_mP_tick_b53
  have F0 := Av.rf c
  refine ao_it ?_ ?_
  · exact ao_so F0
  · refine ao_b1 F0 (av_mP_ticks (F0.cl) Cv0) (fun h9 F1 => ?_)
    exact ao_jI F1 (hk53 _ _ _ _ (F1.cl) Cv0)
theorem av_mP_tick_b53_lp {C : Nat → Prop} (n : Nat) : ∀ {v0 : Nat} {v1 : Int} {v2 : Int} {h : Hp}, Cl C h → C v0 → Ao (qI C h) (f_mP_tick_b53_lp n v0 v1 v2 h) := by
  induction n with
  | zero => intros; exact ao_no
  | succ n ih => intro v0 v1 v2 h c Cv0; exact av_mP_tick_b53 (fun _ _ _ h => ih) c Cv0
theorem av_mP_tick_b42 {C : Nat → Prop} {v0 : Nat} {v1 : Int} {s0 : Nat} {s1 : Int} {h : Hp} (c : Cl C h) (Cv0 : C v0) (Cs0 : C s0) : Ao (qI C h) (f_mP_tick_b42 v0 v1 s0 s1 h) := by
  unfold f_mP_tick_b42
  have F0 := Av.rf c
  refine ao_it ao_no ?_
  refine ao_b2 F0 (av_mP_fails (F0.cl) Cs0) (fun r8 h6 F1 => ?_)
  refine ao_it ?_ ?_
  · exact ao_jI F1 (av_mP_tick_b53_lp FU (F1.cl) Cv0)
  · exact ao_so F1
theorem av_mP_tick_b18 {C : Nat → Prop} {v0 : Nat} {v1 : Int} {s0 : Nat} {s1 : Int} {h : Hp} (c : Cl C h) (Cv0 : C v0) (Cs0 : C s0) : Ao (qI C h) (f_mP_tick_b18 v0 v1 s0 s1 h) := by
  unfold f_mP_tick_b18
  have F0 := Av.rf c
  refine ao_it ao_no ?_
  refine ao_b2 F0 (av_mP_fails (F0.cl) Cs0) (fun r4 h2 F1 => ?_)
  refine ao_it ?_ ?_
  · exact ao_so F1
  · refine ao_it ?_ ?_
    · exact ao_jI F1 (av_mP_tick_b42 (F1.cl) Cv0 Cv0)
    · exact ao_jI F1 (av_mP_tick_b42 (F1.cl) Cv0 Cv0)
theorem av_mP_tick_b13 {C : Nat → Prop} {v0 : Nat} {v1 : Int} {s0 : Nat} {h : Hp} (c : Cl C h) (Cv0 : C v0) (Cs0 : C s0) : Ao (qI C h) (f_mP_tick_b13 v0 v1 s0 h) := by
  unfold f_mP_tick_b13
  have F0 := Av.rf c
  exact ao_jI F0 (av_mP_tick_b18 (F0.cl) Cv0 Cs0)
theorem av_mP_tick {C : Nat → Prop} {v0 : Nat} {v1 : Int} {h : Hp} (c : Cl C h) (Cv0 : C v0) : Ao (qI C h) (f_mP_tick v0 v1 h) := by
  unfold f_mP_tick
  have F0 := Av.rf c
  refine ao_it ?_ ?_
  · exact ao_jI F0 (av_mP_tick_b13 (F0.cl) Cv0 Cv0)
  · refine ao_it ?_ ?_
    · exact ao_jI F0 (av_mP_tick_b18 (F0.cl) Cv0 Cv0)
    · exact ao_jI F0 (av_mP_tick_b13 (F0.cl) Cv0 Cv0)
theorem av_mP_line_b22 {C : Nat → Prop} {v0 : Nat} {v1 : Int} {v2 : Int} {s0 : Nat} {s1 : Int} {h : Hp} (c : Cl C h) (Cs0 : C s0) : Ao (qI C h) (f_mP_line_b22 v0 v1 v2 s0 s1 h) := by
  unfold f_mP_line_b22
  have F0 := Av.rf c
  refine ao_it ao_no ?_
  refine ao_b2 F0 (av_mP_fails (F0.cl) Cs0) (fun r7 h5 F1 => ?_)
  refine ao_it ?_ ?_
  · refine ao_it ?_ ?_
    · refine ao_it ?_ ?_
      · refine ao_it ao_no ?_
        refine ao_it ?_ ao_no
        exact ao_so F1
      · refine ao_it ao_no ?_
        refine ao_it ?_ ao_no
        exact ao_so F1
    · refine ao_it ao_no ?_
      refine ao_it ?_ ao_no
      exact ao_so F1
  · exact ao_so F1
theorem av_mP_line_b17 {C : Nat → Prop} {v0 : Nat} {v1 : Int} {v2 : Int} {s0 : Nat} {h : Hp} (c : Cl C h) (Cs0 : C s0) : Ao (qI C h) (f_mP_line_b17 v0 v1 v2 s0 h) := by
  unfold f_mP_line_b17
  have F0 := Av.rf c
  exact ao_jI F0 (av_mP_line_b22 (F0.cl) Cs0)
theorem av_mP_line {C : Nat → Prop} {v0 : Nat} {v1 : Int} {v2 : Int} {h : Hp} (c : Cl C h) (Cv0 : C v0) : Ao (qI C h) (f_mP_line v0 v1 v2 h) := by
  unfold f_mP_line
  have F0 := Av.rf c
  refine ao_b2 F0 (av_mP_no (F0.cl)) (fun r3 h1 F1 => ?_)
  refine ao_it ?_ ?_
  · exact ao_jI F1 (av_mP_line_b17 (F1.cl) Cv0)
  · refine ao_it ?_ ?_
    · exact ao_jI F1 (av_mP_line_b17 (F1.cl) Cv0)
    · refine ao_it ?_ ?_
      · exact ao_jI F1 (av_mP_line_b22 (F1.cl) Cv0)
      · exact ao_jI F1 (av_mP_line_b17 (F1.cl) Cv0)
theorem av_mP_at_b48 {C : Nat → Prop} {v0 : Nat} {v1 : Int} {v2 : Int} {v3 : Int} {s0 : Nat} {s1 : Int} {h : Hp} (c : Cl C h) (Cs0 : C s0) : Ao (qI C h) (f_mP_at_b48 v0 v1 v2 v3 s0 s1 h) := by
  unfold f_mP_at_b48
  have F0 := Av.rf c
  refine ao_it ao_no ?_
  refine ao_b2 F0 (av_mP_fails (F0.cl) Cs0) (fun r18 h16 F1 => ?_)
  refine ao_it ?_ ?_
  · refine ao_b2 F1 (av_mP_place (F1.cl)) (fun r21 h19 F2 => ?_)
    refine ao_it ?_ ?_
    · refine ao_it ?_ ?_
      · refine ao_it ao_no ?_
        refine ao_it ?_ ao_no
        exact ao_so F2
      · refine ao_it ao_no ?_
        refine ao_it ?_ ao_no
        exact ao_so F2
    · refine ao_it ao_no ?_
      refine ao_it ?_ ao_no
      exact ao_so F2
  · exact ao_so F1
theorem av_mP_at_b43 {C : Nat → Prop} {v0 : Nat} {v1 : Int} {v2 : Int} {v3 : Int} {s0 : Nat} {h : Hp} (c : Cl C h) (Cs0 : C s0) : Ao (qI C h) (f_mP_at_b43 v0 v1 v2 v3 s0 h) := by
  unfold f_mP_at_b43
  have F0 := Av.rf c
  exact ao_jI F0 (av_mP_at_b48 (F0.cl) Cs0)
theorem av_mP_at {C : Nat → Prop} {v0 : Nat} {v1 : Int} {v2 : Int} {v3 : Int} {h : Hp} (c : Cl C h) (Cv0 : C v0) : Ao (qI C h) (f_mP_at v0 v1 v2 v3 h) := by
  unfold f_mP_at
  have F0 := Av.rf c
  refine ao_b2 F0 (av_mP_no (F0.cl)) (fun r3 h1 F1 => ?_)
  refine ao_b2 F1 (av_mP_fails (F1.cl) Cv0) (fun r6 h4 F2 => ?_)
  refine ao_it ?_ ?_
  · exact ao_so F2
  · refine ao_b2 F2 (av_mP_isNone (F2.cl)) (fun r9 h7 F3 => ?_)
    refine ao_it ?_ ?_
    · exact ao_jI F3 (av_mP_at_b43 (F3.cl) Cv0)
    · refine ao_it ?_ ?_
      · exact ao_jI F3 (av_mP_at_b43 (F3.cl) Cv0)
      · refine ao_b2 F3 (av_mP_place (F3.cl)) (fun r12 h10 F4 => ?_)
        refine ao_it ao_no ?_
        refine ao_it ?_ ao_no
        refine ao_it ?_ ?_
        · exact ao_jI F4 (av_mP_at_b48 (F4.cl) Cv0)
        · exact ao_jI F4 (av_mP_at_b43 (F4.cl) Cv0)
theorem av_mP_look_b23 {C : Nat → Prop} {v0 : Nat} {v1 : Int} {v2 : Int} {s0 : Nat} {s1 : Int} {h : Hp} (c : Cl C h) (Cs0 : C s0) : Ao (qI C h) (f_mP_look_b23 v0 v1 v2 s0 s1 h) := by
  unfold f_mP_look_b23
  have F0 := Av.rf c
  refine ao_it ao_no ?_
  refine ao_b2 F0 (av_mP_fails (F0.cl) Cs0) (fun r7 h5 F1 => ?_)
  refine ao_it ?_ ?_
  · refine ao_it ao_no ?_
    refine ao_it ?_ ao_no
    refine ao_v (fun y10 => ?_)
    refine ao_it ?_ ?_
    · refine ao_it ao_no ?_
      exact ao_so F1
    · refine ao_it ?_ ?_
      · refine ao_it ao_no ?_
        exact ao_so F1
      · refine ao_it ?_ ?_
        · refine ao_it ao_no ?_
          refine ao_it ao_no ?_
          refine ao_it ?_ ?_
          · exact ao_so F1
          · exact ao_so F1
        · refine ao_it ?_ ?_
          · refine ao_it ao_no ?_
            refine ao_it ?_ ?_
            · exact ao_so F1
            · exact ao_so F1
          · refine ao_it ?_ ?_
            · refine ao_it ao_no ?_
              refine ao_it ao_no ?_
              exact ao_so F1
            · refine ao_it ?_ ?_
              · refine ao_it ao_no ?_
                refine ao_it ao_no ?_
                exact ao_so F1
              · refine ao_it ?_ ?_
                · refine ao_it ao_no ?_
                  exact ao_so F1
                · refine ao_it ?_ ?_
                  · refine ao_it ao_no ?_
                    exact ao_so F1
                  · refine ao_it ?_ ?_
                    · refine ao_it ao_no ?_
                      refine ao_it ao_no ?_
                      refine ao_it ?_ ao_no
                      refine ao_it ?_ ao_no
                      refine ao_it ?_ ao_no
                      exact ao_so F1
                    · refine ao_it ao_no ?_
                      refine ao_it ao_no ?_
                      refine ao_it ?_ ao_no
                      refine ao_it ao_no ?_
                      refine ao_it ?_ ao_no
                      refine ao_it ao_no ?_
                      refine ao_it ?_ ao_no
                      refine ao_it ao_no ?_
                      exact ao_so F1
  · exact ao_so F1
theorem av_mP_look_b18 {C : Nat → Prop} {v0 : Nat} {v1 : Int} {v2 : Int} {s0 : Nat} {h : Hp} (c : Cl C h) (Cs0 : C s0) : Ao (qI C h) (f_mP_look_b18 v0 v1 v2 s0 h) := by
  unfold f_mP_look_b18
  have F0 := Av.rf c
  exact ao_jI F0 (av_mP_look_b23 (F0.cl) Cs0)
theorem av_mP_look {C : Nat → Prop} {v0 : Nat} {v1 : Int} {v2 : Int} {h : Hp} (c : Cl C h) (Cv0 : C v0) : Ao (qI C h) (f_mP_look v0 v1 v2 h) := by
  unfold f_mP_look
  have F0 := Av.rf c
  refine ao_b2 F0 (av_mP_no (F0.cl)) (fun r3 h1 F1 => ?_)
  refine ao_it ?_ ?_
  · exact ao_jI F1 (av_mP_look_b18 (F1.cl) Cv0)
  · refine ao_it ?_ ?_
    · exact ao_jI F1 (av_mP_look_b18 (F1.cl) Cv0)
    · refine ao_it ?_ ?_
      · exact ao_jI F1 (av_mP_look_b23 (F1.cl) Cv0)
      · exact ao_jI F1 (av_mP_look_b18 (F1.cl) Cv0)
theorem av_mBook_look {C : Nat → Prop} {v0 : Nat} {v1 : Int} {h : Hp} (c : Cl C h) : Ao (qI C h) (f_mBook_look v0 v1 h) := by
  unfold f_mBook_look
  have F0 := Av.rf c
  refine ao_it ?_ ?_
  · exact ao_so F0
  · refine ao_it ?_ ?_
    · refine ao_b2 F0 (av_mBook_flight (F0.cl)) (fun r7 h5 F1 => ?_)
      exact ao_so F1
    · refine ao_it ?_ ?_
      · exact ao_so F0
      · refine ao_it ?_ ?_
        · exact ao_so F0
        · refine ao_it ?_ ?_
          · exact ao_so F0
          · refine ao_it ?_ ?_
            · exact ao_so F0
            · refine ao_it ?_ ?_
              · exact ao_so F0
              · refine ao_it ?_ ?_
                · exact ao_so F0
                · refine ao_it ?_ ?_
                  · exact ao_so F0
                  · refine ao_it ?_ ?_
                    · exact ao_so F0
                    · refine ao_b2 F0 (av_mBook_limit (F0.cl)) (fun r26 h24 F2 => ?_)
                      exact ao_so F2
theorem av_mP_book_b23 {C : Nat → Prop} {v0 : Nat} {v1 : Int} {v2 : Int} {s0 : Nat} {s1 : Int} {h : Hp} (c : Cl C h) (Cs0 : C s0) : Ao (qI C h) (f_mP_book_b23 v0 v1 v2 s0 s1 h) := by
  unfold f_mP_book_b23
  have F0 := Av.rf c
  refine ao_it ao_no ?_
  refine ao_b2 F0 (av_mP_fails (F0.cl) Cs0) (fun r7 h5 F1 => ?_)
  refine ao_it ?_ ?_
  · refine ao_it ao_no ?_
    refine ao_it ?_ ao_no
    refine ao_it ao_no ?_
    refine ao_it ao_no ?_
    refine ao_b2 F1 (av_mBook_look (F1.cl)) (fun r14 h12 F2 => ?_)
    exact ao_so F2
  · exact ao_so F1
theorem av_mP_book_b18 {C : Nat → Prop} {v0 : Nat} {v1 : Int} {v2 : Int} {s0 : Nat} {h : Hp} (c : Cl C h) (Cs0 : C s0) : Ao (qI C h) (f_mP_book_b18 v0 v1 v2 s0 h) := by
  unfold f_mP_book_b18
  have F0 := Av.rf c
  exact ao_jI F0 (av_mP_book_b23 (F0.cl) Cs0)
theorem av_mP_book {C : Nat → Prop} {v0 : Nat} {v1 : Int} {v2 : Int} {h : Hp} (c : Cl C h) (Cv0 : C v0) : Ao (qI C h) (f_mP_book v0 v1 v2 h) := by
  unfold f_mP_book
  have F0 := Av.rf c
  refine ao_b2 F0 (av_mP_no (F0.cl)) (fun r3 h1 F1 => ?_)
  refine ao_it ?_ ?_
  · exact ao_jI F1 (av_mP_book_b18 (F1.cl) Cv0)
  · refine ao_it ?_ ?_
    · exact ao_jI F1 (av_mP_book_b18 (F1.cl) Cv0)
    · refine ao_it ?_ ?_
      · exact ao_jI F1 (av_mP_book_b23 (F1.cl) Cv0)
      · exact ao_jI F1 (av_mP_book_b18 (F1.cl) Cv0)
theorem av_mBook_outs_b57 {C : Nat → Prop} {k10 : Nat → Int → Int → Int → Int → Hp → Option (Int × Hp)} (hk10 : ∀ (v0 : Nat) (v1 : Int) (v2 : Int) (v3 : Int) (v4 : Int) (h : Hp), Cl C h → Ao (qI C h) (k10 v0 v1 v2 v3 v4 h)) {v0 : Nat} {v1 : Int} {v2 : Int} {v4 : Int} {s0 : Int} {s1 : Int} {h : Hp} (c : Cl C h) : Ao (qI C h) (f_mBook_outs_b57 k10 v0 v1 v2 v4 s0 s1 h) := by
  unfold f_mBook_outs_b57
  have F0 := Av.rf c
  refine ao_v (fun y11 => ?_)
  exact ao_jI F0 (hk10 _ _ _ _ _ _ (F0.cl))
theorem av_mBook_outs_b56 {C : Nat → Prop} {k10 : Nat → Int → Int → Int → Int → Hp → Option (Int × Hp)} (hk10 : ∀ (v0 : Nat) (v1 : Int) (v2 : Int) (v3 : Int) (v4 : Int) (h : Hp), Cl C h → Ao (qI C h) (k10 v0 v1 v2 v3 v4 h)) {v0 : Nat} {v1 : Int} {v2 : Int} {v4 : Int} {s0 : Int} {h : Hp} (c : Cl C h) : Ao (qI C h) (f_mBook_outs_b56 k10 v0 v1 v2 v4 s0 h) := by
  unfold f_mBook_outs_b56
  have F0 := Av.rf c
  exact ao_jI F0 (av_mBook_outs_b57 hk10 (F0.cl))
theorem av_mBook_outs_b52 {C : Nat → Prop} {k10 : Nat → Int → Int → Int → Int → Hp → Option (Int × Hp)} (hk10 : ∀ (v0 : Nat) (v1 : Int) (v2 : Int) (v3 : Int) (v4 : Int) (h : Hp), Cl C h → Ao (qI C h) (k10 v0 v1 v2 v3 v4 h)) {v0 : Nat} {v1 : Int} {v2 : Int} {v4 : Int} {s0 : Int} {h : Hp} (c : Cl C h) : Ao (qI C h) (f_mBook_outs_b52 k10 v0 v1 v2 v4 s0 h) := by
  unfold f_mBook_outs_b52
  have F0 := Av.rf c
  exact ao_jI F0 (av_mBook_outs_b57 hk10 (F0.cl))
theorem av_mBook_outs_b10 {C : Nat → Prop} {k10 : Nat → Int → Int → Int → Int → Hp → Option (Int × Hp)} (hk10 : ∀ (v0 : Nat) (v1 : Int) (v2 : Int) (v3 : Int) (v4 : Int) (h : Hp), Cl C h → Ao (qI C h) (k10 v0 v1 v2 v3 v4 h)) {v0 : Nat} {v1 : Int} {v2 : Int} {v3 : Int} {v4 : Int} {h : Hp} (c : Cl C h) : Ao (qI C h) (f_mBook_outs_b10 k10 v0 v1 v2 v3 v4 h) := by
  unfold f_mBook_outs_b10
  have F0 := Av.rf c
  refine ao_it ao_no ?_
  refine ao_it ?_ ao_no
  refine ao_it ?_ ?_
  · exact ao_so F0
  · refine ao_b2 F0 (av_mBook_isOut (F0.cl)) (fun r8 h6 F1 => ?_)
    refine ao_it ?_ ?_
    · exact ao_jI F1 (av_mBook_outs_b56 hk10 (F1.cl))
    · refine ao_it ?_ ?_
      · exact ao_jI F1 (av_mBook_outs_b52 hk10 (F1.cl))
      · refine ao_it ao_no ?_
        refine ao_it ?_ ao_no
        refine ao_it ?_ ?_
        · exact ao_jI F1 (av_mBook_outs_b56 hk10 (F1.cl))
        · exact ao_jI F1 (av_mBook_outs_b52 hk10 (F1.cl))
theorem av_mBook_outs_b10_lp {C : Nat → Prop} (n : Nat) : ∀ {v0 : Nat} {v1 : Int} {v2 : Int} {v3 : Int} {v4 : Int} {h : Hp}, Cl C h → Ao (qI C h) (f_mBook_outs_b10_lp n v0 v1 v2 v3 v4 h) := by
  induction n with
  | zero => intros; exact ao_no
  | succ n ih => intro v0 v1 v2 v3 v4 h c; exact av_mBook_outs_b10 (fun _ _ _ _ _ h => ih) c
theorem av_mBook_outs {C : Nat → Prop} {v0 : Nat} {v1 : Int} {v2 : Int} {h : Hp} (c : Cl C h) : Ao (qI C h) (f_mBook_outs v0 v1 v2 h) := by
  unfold f_mBook_outs
  have F0 := Av.rf c
  refine ao_it ao_no ?_
  refine ao_it ?_ ao_no
  refine ao_v (fun y3 => ?_)
  exact ao_jI F0 (av_mBook_outs_b10_lp FU (F0.cl))
theorem av_mBook_space_b137 {C : Nat → Prop} {v0 : Nat} {s0 : Nat} {s1 : Int} {h : Hp} (c : Cl C h) : Ao (qI C h) (f_mBook_space_b137 v0 s0 s1 h) := by
  unfold f_mBook_space_b137
  have F0 := Av.rf c
  refine ao_it ao_no ?_
  refine ao_b2 F0 (av_mBook_patience (F0.cl)) (fun r47 h45 F1 => ?_)
  exact ao_so F1
theorem av_mBook_space_b136 {C : Nat → Prop} {v0 : Nat} {s0 : Nat} {h : Hp} (c : Cl C h) : Ao (qI C h) (f_mBook_space_b136 v0 s0 h) := by
  unfold f_mBook_space_b136
  have F0 := Av.rf c
  exact ao_jI F0 (av_mBook_space_b137 (F0.cl))
theorem av_mBook_space {C : Nat → Prop} {v0 : Nat} {v1 : Int} {v2 : Int} {h : Hp} (c : Cl C h) : Ao (qI C h) (f_mBook_space v0 v1 v2 h) := by
  unfold f_mBook_space
  have F0 := Av.rf c
  refine ao_it ?_ ?_
  · refine ao_it ao_no ?_
    refine ao_it ?_ ao_no
    exact ao_so F0
  · refine ao_it ?_ ?_
    · refine ao_it ao_no ?_
      refine ao_it ?_ ao_no
      exact ao_so F0
    · refine ao_it ?_ ?_
      · refine ao_it ao_no ?_
        refine ao_it ?_ ao_no
        exact ao_so F0
      · refine ao_it ?_ ?_
        · refine ao_b2 F0 (av_mBook_probeTime (F0.cl)) (fun r17 h15 F1 => ?_)
          exact ao_so F1
        · refine ao_it ?_ ?_
          · refine ao_b2 F0 (av_mBook_outs (F0.cl)) (fun r22 h20 F2 => ?_)
            exact ao_so F2
          · refine ao_it ?_ ?_
            · refine ao_b2 F0 (av_mBook_outs (F0.cl)) (fun r27 h25 F3 => ?_)
              exact ao_so F3
            · refine ao_it ?_ ?_
              · refine ao_it ao_no ?_
                refine ao_it ?_ ao_no
                exact ao_so F0
              · refine ao_it ?_ ?_
                · refine ao_it ao_no ?_
                  refine ao_it ?_ ao_no
                  exact ao_so F0
                · refine ao_it ?_ ?_
                  · refine ao_it ?_ ?_
                    · exact ao_jI F0 (av_mBook_space_b136 (F0.cl))
                    · refine ao_it ?_ ?_
                      · exact ao_jI F0 (av_mBook_space_b136 (F0.cl))
                      · exact ao_jI F0 (av_mBook_space_b137 (F0.cl))
                  · refine ao_it ?_ ?_
                    · refine ao_it ao_no ?_
                      refine ao_it ?_ ao_no
                      refine ao_it ?_ ?_
                      · exact ao_so F0
                      · exact ao_so F0
                    · refine ao_it ao_no ?_
                      refine ao_it ?_ ao_no
                      exact ao_so F0
theorem av_mP_space_b32 {C : Nat → Prop} {v0 : Nat} {v1 : Int} {v2 : Int} {v3 : Int} {s0 : Nat} {s1 : Int} {h : Hp} (c : Cl C h) (Cs0 : C s0) : Ao (qI C h) (f_mP_space_b32 v0 v1 v2 v3 s0 s1 h) := by
  unfold f_mP_space_b32
  have F0 := Av.rf c
  refine ao_it ao_no ?_
  refine ao_b2 F0 (av_mP_fails (F0.cl) Cs0) (fun r7 h5 F1 => ?_)
  refine ao_it ?_ ?_
  · refine ao_it ?_ ?_
    · refine ao_it ao_no ?_
      refine ao_it ?_ ao_no
      refine ao_it ao_no ?_
      refine ao_it ao_no ?_
      refine ao_b2 F1 (av_mBook_space (F1.cl)) (fun r14 h12 F2 => ?_)
      exact ao_so F2
    · refine ao_it ao_no ?_
      refine ao_it ?_ ao_no
      refine ao_it ao_no ?_
      refine ao_b2 F1 (av_mSide_hasGuards (F1.cl)) (fun r20 h18 F3 => ?_)
      refine ao_it ?_ ?_
      · exact ao_so F3
      · exact ao_so F3
  · exact ao_so F1
theorem av_mP_space_b27 {C : Nat → Prop} {v0 : Nat} {v1 : Int} {v2 : Int} {v3 : Int} {s0 : Nat} {h : Hp} (c : Cl C h) (Cs0 : C s0) : Ao (qI C h) (f_mP_space_b27 v0 v1 v2 v3 s0 h) := by
  unfold f_mP_space_b27
  have F0 := Av.rf c
  exact ao_jI F0 (av_mP_space_b32 (F0.cl) Cs0)
theorem av_mP_space {C : Nat → Prop} {v0 : Nat} {v1 : Int} {v2 : Int} {v3 : Int} {h : Hp} (c : Cl C h) (Cv0 : C v0) : Ao (qI C h) (f_mP_space v0 v1 v2 v3 h) := by
  unfold f_mP_space
  have F0 := Av.rf c
  refine ao_b2 F0 (av_mP_no (F0.cl)) (fun r3 h1 F1 => ?_)
  refine ao_it ?_ ?_
  · exact ao_jI F1 (av_mP_space_b27 (F1.cl) Cv0)
  · refine ao_it ?_ ?_
    · exact ao_jI F1 (av_mP_space_b27 (F1.cl) Cv0)
    · refine ao_it ?_ ?_
      · exact ao_jI F1 (av_mP_space_b27 (F1.cl) Cv0)
      · refine ao_it ?_ ?_
        · exact ao_jI F1 (av_mP_space_b27 (F1.cl) Cv0)
        · refine ao_it ?_ ?_
          · exact ao_jI F1 (av_mP_space_b32 (F1.cl) Cv0)
          · exact ao_jI F1 (av_mP_space_b27 (F1.cl) Cv0)
theorem av_mStreams_look_III_b31 {C : Nat → Prop} {v0 : Nat} {v1 : Int} {v2 : Int} {v3 : Int} {h : Hp} (c : Cl C h) : Ao (qI C h) (f_mStreams_look_III_b31 v0 v1 v2 v3 h) := by
  unfold f_mStreams_look_III_b31
  have F0 := Av.rf c
  refine ao_b2 F0 (av_mStreams_at (F0.cl)) (fun r9 h7 F1 => ?_)
  refine ao_it ?_ ?_
  · refine ao_b2 F1 (av_mStreams_sending (F1.cl)) (fun r14 h12 F2 => ?_)
    exact ao_so F2
  · refine ao_it ?_ ?_
    · refine ao_it ao_no ?_
      refine ao_it ?_ ao_no
      exact ao_so F1
    · refine ao_it ?_ ?_
      · refine ao_it ao_no ?_
        refine ao_it ?_ ao_no
        exact ao_so F1
      · refine ao_it ?_ ?_
        · refine ao_it ao_no ?_
          refine ao_it ?_ ao_no
          exact ao_so F1
        · refine ao_it ?_ ?_
          · refine ao_it ao_no ?_
            refine ao_it ?_ ao_no
            refine ao_it ?_ ?_
            · exact ao_so F1
            · refine ao_it ao_no ?_
              refine ao_it ?_ ao_no
              exact ao_so F1
          · refine ao_it ?_ ?_
            · refine ao_it ao_no ?_
              refine ao_it ?_ ao_no
              exact ao_so F1
            · refine ao_it ?_ ?_
              · refine ao_it ao_no ?_
                refine ao_it ?_ ao_no
                exact ao_so F1
              · refine ao_it ?_ ?_
                · refine ao_it ao_no ?_
                  refine ao_it ?_ ao_no
                  refine ao_it ?_ ?_
                  · refine ao_it ao_no ?_
                    refine ao_it ?_ ao_no
                    exact ao_so F1
                  · exact ao_so F1
                · refine ao_it ?_ ?_
                  · refine ao_b2 F1 (av_mStreams_receiving (F1.cl)) (fun r51 h49 F3 => ?_)
                    exact ao_so F3
                  · refine ao_it ?_ ?_
                    · refine ao_it ao_no ?_
                      refine ao_it ?_ ao_no
                      exact ao_so F1
                    · refine ao_it ?_ ?_
                      · refine ao_it ao_no ?_
                        refine ao_it ?_ ao_no
                        exact ao_so F1
                      · refine ao_it ?_ ?_
                        · refine ao_it ao_no ?_
                          refine ao_it ?_ ao_no
                          exact ao_so F1
                        · refine ao_it ?_ ?_
                          · refine ao_it ao_no ?_
                            refine ao_it ?_ ao_no
                            exact ao_so F1
                          · refine ao_it ?_ ?_
                            · refine ao_it ao_no ?_
                              refine ao_it ?_ ao_no
                              exact ao_so F1
                            · refine ao_it ao_no ?_
                              refine ao_it ?_ ao_no
                              refine ao_it ?_ ?_
                              · exact ao_so F1
                              · refine ao_it ao_no ?_
                                refine ao_it ?_ ao_no
                                exact ao_so F1
theorem av_mStreams_look_III_b27 {C : Nat → Prop} {v0 : Nat} {h : Hp} (c : Cl C h) : Ao (qI C h) (f_mStreams_look_III_b27 v0 h) := by
  unfold f_mStreams_look_III_b27
  have F0 := Av.rf c
  exact ao_so F0
theorem av_mStreams_look_III {C : Nat → Prop} {v0 : Nat} {v1 : Int} {v2 : Int} {v3 : Int} {h : Hp} (c : Cl C h) : Ao (qI C h) (f_mStreams_look_III v0 v1 v2 v3 h) := by
  unfold f_mStreams_look_III
  have F0 := Av.rf c
  refine ao_it ?_ ?_
  · refine ao_b2 F0 (av_mStreams_hasReceiving (F0.cl)) (fun r3 h1 F1 => ?_)
    refine ao_it ?_ ?_
    · exact ao_jI F1 (av_mStreams_look_III_b31 (F1.cl))
    · exact ao_jI F1 (av_mStreams_look_III_b27 (F1.cl))
  · refine ao_b2 F0 (av_mStreams_hasSending (F0.cl)) (fun r6 h4 F2 => ?_)
    refine ao_it ?_ ?_
    · exact ao_jI F2 (av_mStreams_look_III_b31 (F2.cl))
    · exact ao_jI F2 (av_mStreams_look_III_b27 (F2.cl))
theorem av_mP_stream_b23 {C : Nat → Prop} {v0 : Nat} {v1 : Int} {v2 : Int} {v3 : Int} {s0 : Nat} {s1 : Int} {h : Hp} (c : Cl C h) (Cs0 : C s0) : Ao (qI C h) (f_mP_stream_b23 v0 v1 v2 v3 s0 s1 h) := by
  unfold f_mP_stream_b23
  have F0 := Av.rf c
  refine ao_it ao_no ?_
  refine ao_b2 F0 (av_mP_fails (F0.cl) Cs0) (fun r7 h5 F1 => ?_)
  refine ao_it ?_ ?_
  · refine ao_it ao_no ?_
    refine ao_b2 F1 (av_mStreams_look_III (F1.cl)) (fun r11 h9 F2 => ?_)
    exact ao_so F2
  · exact ao_so F1
theorem av_mP_stream_b18 {C : Nat → Prop} {v0 : Nat} {v1 : Int} {v2 : Int} {v3 : Int} {s0 : Nat} {h : Hp} (c : Cl C h) (Cs0 : C s0) : Ao (qI C h) (f_mP_stream_b18 v0 v1 v2 v3 s0 h) := by
  unfold f_mP_stream_b18
  have F0 := Av.rf c
  exact ao_jI F0 (av_mP_stream_b23 (F0.cl) Cs0)
theorem av_mP_stream {C : Nat → Prop} {v0 : Nat} {v1 : Int} {v2 : Int} {v3 : Int} {h : Hp} (c : Cl C h) (Cv0 : C v0) : Ao (qI C h) (f_mP_stream v0 v1 v2 v3 h) := by
  unfold f_mP_stream
  have F0 := Av.rf c
  refine ao_b2 F0 (av_mP_no (F0.cl)) (fun r3 h1 F1 => ?_)
  refine ao_it ?_ ?_
  · exact ao_jI F1 (av_mP_stream_b18 (F1.cl) Cv0)
  · refine ao_it ?_ ?_
    · exact ao_jI F1 (av_mP_stream_b18 (F1.cl) Cv0)
    · refine ao_it ?_ ?_
      · exact ao_jI F1 (av_mP_stream_b23 (F1.cl) Cv0)
      · exact ao_jI F1 (av_mP_stream_b18 (F1.cl) Cv0)
theorem av_mStreams_look_II_b118 {C : Nat → Prop} {v0 : Nat} {v1 : Int} {v2 : Int} {h : Hp} (c : Cl C h) : Ao (qI C h) (f_mStreams_look_II_b118 v0 v1 v2 h) := by
  unfold f_mStreams_look_II_b118
  have F0 := Av.rf c
  refine ao_it ao_no ?_
  refine ao_it ?_ ao_no
  exact ao_so F0
theorem av_mStreams_look_II_b132 {C : Nat → Prop} {v0 : Nat} {v1 : Int} {v2 : Int} {h : Hp} (c : Cl C h) : Ao (qI C h) (f_mStreams_look_II_b132 v0 v1 v2 h) := by
  unfold f_mStreams_look_II_b132
  have F0 := Av.rf c
  refine ao_it ao_no ?_
  refine ao_it ?_ ao_no
  exact ao_so F0
theorem av_mStreams_look_II_b104 {C : Nat → Prop} {v0 : Nat} {v1 : Int} {v2 : Int} {h : Hp} (c : Cl C h) : Ao (qI C h) (f_mStreams_look_II_b104 v0 v1 v2 h) := by
  unfold f_mStreams_look_II_b104
  have F0 := Av.rf c
  refine ao_it ao_no ?_
  refine ao_it ?_ ao_no
  exact ao_so F0
theorem av_mStreams_look_II_b147 {C : Nat → Prop} {v0 : Nat} {v1 : Int} {v2 : Int} {h : Hp} (c : Cl C h) : Ao (qI C h) (f_mStreams_look_II_b147 v0 v1 v2 h) := by
  unfold f_mStreams_look_II_b147
  have F0 := Av.rf c
  refine ao_it ao_no ?_
  refine ao_it ?_ ao_no
  exact ao_so F0
theorem av_mStreams_look_II {C : Nat → Prop} {v0 : Nat} {v1 : Int} {v2 : Int} {h : Hp} (c : Cl C h) : Ao (qI C h) (f_mStreams_look_II v0 v1 v2 h) := by
  unfold f_mStreams_look_II
  have F0 := Av.rf c
  refine ao_it ?_ ?_
  · refine ao_it ao_no ?_
    refine ao_it ?_ ao_no
    exact ao_so F0
  · refine ao_it ?_ ?_
    · refine ao_it ao_no ?_
      refine ao_it ?_ ao_no
      exact ao_so F0
    · refine ao_it ?_ ?_
      · refine ao_b2 F0 (av_mStreams_received (F0.cl)) (fun r13 h11 F1 => ?_)
        exact ao_so F1
      · refine ao_it ?_ ?_
        · refine ao_b2 F0 (av_mStreams_consumed (F0.cl)) (fun r18 h16 F2 => ?_)
          exact ao_so F2
        · refine ao_it ?_ ?_
          · refine ao_it ao_no ?_
            refine ao_it ?_ ao_no
            exact ao_so F0
          · refine ao_it ?_ ?_
            · exact ao_jI F0 (av_mStreams_look_II_b104 (F0.cl))
            · refine ao_it ?_ ?_
              · exact ao_jI F0 (av_mStreams_look_II_b104 (F0.cl))
              · refine ao_it ?_ ?_
                · exact ao_jI F0 (av_mStreams_look_II_b118 (F0.cl))
                · refine ao_it ?_ ?_
                  · exact ao_jI F0 (av_mStreams_look_II_b118 (F0.cl))
                  · refine ao_it ?_ ?_
                    · exact ao_jI F0 (av_mStreams_look_II_b132 (F0.cl))
                    · refine ao_it ?_ ?_
                      · exact ao_jI F0 (av_mStreams_look_II_b132 (F0.cl))
                      · refine ao_it ?_ ?_
                        · exact ao_jI F0 (av_mStreams_look_II_b147 (F0.cl))
                        · refine ao_it ?_ ?_
                          · exact ao_jI F0 (av_mStreams_look_II_b147 (F0.cl))
                          · refine ao_it ao_no ?_
                            refine ao_it ?_ ao_no
                            exact ao_so F0
theorem av_mP_streams_b23 {C : Nat → Prop} {v0 : Nat} {v1 : Int} {v2 : Int} {s0 : Nat} {s1 : Int} {h : Hp} (c : Cl C h) (Cs0 : C s0) : Ao (qI C h) (f_mP_streams_b23 v0 v1 v2 s0 s1 h) := by
  unfold f_mP_streams_b23
  have F0 := Av.rf c
  refine ao_it ao_no ?_
  refine ao_b2 F0 (av_mP_fails (F0.cl) Cs0) (fun r7 h5 F1 => ?_)
  refine ao_it ?_ ?_
  · refine ao_it ao_no ?_
    refine ao_b2 F1 (av_mStreams_look_II (F1.cl)) (fun r11 h9 F2 => ?_)
    exact ao_so F2
  · exact ao_so F1
theorem av_mP_streams_b18 {C : Nat → Prop} {v0 : Nat} {v1 : Int} {v2 : Int} {s0 : Nat} {h : Hp} (c : Cl C h) (Cs0 : C s0) : Ao (qI C h) (f_mP_streams_b18 v0 v1 v2 s0 h) := by
  unfold f_mP_streams_b18
  have F0 := Av.rf c
  exact ao_jI F0 (av_mP_streams_b23 (F0.cl) Cs0)
theorem av_mP_streams {C : Nat → Prop} {v0 : Nat} {v1 : Int} {v2 : Int} {h : Hp} (c : Cl C h) (Cv0 : C v0) : Ao (qI C h) (f_mP_streams v0 v1 v2 h) := by
  unfold f_mP_streams
  have F0 := Av.rf c
  refine ao_b2 F0 (av_mP_no (F0.cl)) (fun r3 h1 F1 => ?_)
  refine ao_it ?_ ?_
  · exact ao_jI F1 (av_mP_streams_b18 (F1.cl) Cv0)
  · refine ao_it ?_ ?_
    · exact ao_jI F1 (av_mP_streams_b18 (F1.cl) Cv0)
    · refine ao_it ?_ ?_
      · exact ao_jI F1 (av_mP_streams_b23 (F1.cl) Cv0)
      · exact ao_jI F1 (av_mP_streams_b18 (F1.cl) Cv0)
theorem av_law_feed {C : Nat → Prop} {v0 : Nat} {v1 : Int} {v2 : Int} {v3 : Int} {v4 : Int} {v5 : Int} {v6 : Nat} {h : Hp} (c : Cl C h) (Cv0 : C v0) (Cv6 : C v6) : Ao (qI C h) (f_law_feed v0 v1 v2 v3 v4 v5 v6 h) := by
  unfold f_law_feed
  have F0 := Av.rf c
  refine ao_it ao_no ?_
  refine ao_bt2 F0 (av_cP_feed (F0.cl) Cv0) (fun a4 h5 F1 => ?_) (fun r9 h2 F2 => ?_)
  · refine ao_it ?_ ?_
    · exact ao_so F1
    · exact ao_no
  · refine ao_it ao_no ?_
    refine ao_it ?_ ao_no
    refine ao_J F2 Cv6 (fun h12 F3 => ?_)
    exact ao_so F3
theorem av_law_end {C : Nat → Prop} {v0 : Nat} {v1 : Int} {v2 : Nat} {h : Hp} (c : Cl C h) (Cv0 : C v0) (Cv2 : C v2) : Ao (qI C h) (f_law_end v0 v1 v2 h) := by
  unfold f_law_end
  have F0 := Av.rf c
  refine ao_it ao_no ?_
  refine ao_bt2 F0 (av_cP_end (F0.cl) Cv0) (fun a4 h5 F1 => ?_) (fun r9 h2 F2 => ?_)
  · refine ao_it ?_ ?_
    · exact ao_so F1
    · exact ao_no
  · refine ao_it ao_no ?_
    refine ao_it ?_ ao_no
    refine ao_J F2 Cv2 (fun h12 F3 => ?_)
    exact ao_so F3
theorem av_law_key {C : Nat → Prop} {v0 : Nat} {v1 : Int} {h : Hp} (c : Cl C h) (Cv0 : C v0) : Ao (qI C h) (f_law_key v0 v1 h) := by
  unfold f_law_key
  have F0 := Av.rf c
  refine ao_it ao_no ?_
  refine ao_bt F0 (av_cP_key (F0.cl) Cv0) (fun a4 h5 F1 => ?_) (fun h2 F2 => ?_)
  · refine ao_it ?_ ?_
    · exact ao_so F1
    · refine ao_it ?_ ?_
      · exact ao_so F1
      · exact ao_no
  · exact ao_so F2
theorem av_law_random {C : Nat → Prop} {v0 : Nat} {v1 : Int} {h : Hp} (c : Cl C h) (Cv0 : C v0) : Ao (qI C h) (f_law_random v0 v1 h) := by
  unfold f_law_random
  have F0 := Av.rf c
  refine ao_it ao_no ?_
  refine ao_bt F0 (av_cP_random (F0.cl) Cv0) (fun a4 h5 F1 => ?_) (fun h2 F2 => ?_)
  · refine ao_it ?_ ?_
    · exact ao_so F1
    · refine ao_it ?_ ?_
      · exact ao_so F1
      · exact ao_no
  · exact ao_so F2
theorem av_law_parameter {C : Nat → Prop} {v0 : Nat} {v1 : Int} {v2 : Int} {v3 : Int} {h : Hp} (c : Cl C h) (Cv0 : C v0) : Ao (qI C h) (f_law_parameter v0 v1 v2 v3 h) := by
  unfold f_law_parameter
  have F0 := Av.rf c
  refine ao_it ao_no ?_
  refine ao_bt F0 (av_cP_parameter (F0.cl) Cv0) (fun a4 h5 F1 => ?_) (fun h2 F2 => ?_)
  · refine ao_it ?_ ?_
    · exact ao_so F1
    · refine ao_it ?_ ?_
      · exact ao_so F1
      · exact ao_no
  · exact ao_so F2
theorem av_law_begin {C : Nat → Prop} {v0 : Nat} {h : Hp} (c : Cl C h) (Cv0 : C v0) : Ao (qI C h) (f_law_begin v0 h) := by
  unfold f_law_begin
  have F0 := Av.rf c
  refine ao_it ao_no ?_
  refine ao_bt F0 (av_cP_begin (F0.cl) Cv0) (fun a4 h5 F1 => ?_) (fun h2 F2 => ?_)
  · refine ao_it ?_ ?_
    · exact ao_so F1
    · exact ao_no
  · exact ao_so F2
theorem av_law_open {C : Nat → Prop} {v0 : Nat} {v1 : Int} {v2 : Int} {v3 : Nat} {h : Hp} (c : Cl C h) (Cv0 : C v0) (Cv3 : C v3) : Ao (qI C h) (f_law_open v0 v1 v2 v3 h) := by
  unfold f_law_open
  have F0 := Av.rf c
  refine ao_it ao_no ?_
  refine ao_bt2 F0 (av_cP_open (F0.cl) Cv0) (fun a4 h5 F1 => ?_) (fun r9 h2 F2 => ?_)
  · refine ao_it ?_ ?_
    · exact ao_so F1
    · exact ao_no
  · refine ao_it ao_no ?_
    refine ao_it ?_ ao_no
    refine ao_J F2 Cv3 (fun h12 F3 => ?_)
    exact ao_so F3
theorem av_law_write {C : Nat → Prop} {v0 : Nat} {v1 : Int} {v2 : Int} {v3 : Nat} {h : Hp} (c : Cl C h) (Cv0 : C v0) (Cv3 : C v3) : Ao (qI C h) (f_law_write v0 v1 v2 v3 h) := by
  unfold f_law_write
  have F0 := Av.rf c
  refine ao_it ao_no ?_
  refine ao_bt2 F0 (av_cP_write (F0.cl) Cv0) (fun a4 h5 F1 => ?_) (fun r9 h2 F2 => ?_)
  · refine ao_it ?_ ?_
    · exact ao_so F1
    · exact ao_no
  · refine ao_it ao_no ?_
    refine ao_it ?_ ao_no
    refine ao_J F2 Cv3 (fun h12 F3 => ?_)
    exact ao_so F3
theorem av_law_finish_b16 {C : Nat → Prop} {s0 : Nat} {s1 : Int} {s2 : Int} {h : Hp} (c : Cl C h) (Cs0 : C s0) : Ao (qI C h) (f_law_finish_b16 s0 s1 s2 h) := by
  unfold f_law_finish_b16
  have F0 := Av.rf c
  refine ao_it ao_no ?_
  refine ao_it ?_ ao_no
  refine ao_J F0 Cs0 (fun h12 F1 => ?_)
  exact ao_so F1
theorem av_law_finish {C : Nat → Prop} {v0 : Nat} {v1 : Int} {v2 : Int} {v3 : Nat} {h : Hp} (c : Cl C h) (Cv0 : C v0) (Cv3 : C v3) : Ao (qI C h) (f_law_finish v0 v1 v2 v3 h) := by
  unfold f_law_finish
  have F0 := Av.rf c
  refine ao_it ao_no ?_
  refine ao_bt2 F0 (av_cP_finish (F0.cl) Cv0) (fun a4 h5 F1 => ?_) (fun r9 h2 F2 => ?_)
  · refine ao_it ?_ ?_
    · exact ao_so F1
    · exact ao_no
  · refine ao_it ?_ ?_
    · exact ao_jI F2 (av_law_finish_b16 (F2.cl) Cv3)
    · exact ao_jI F2 (av_law_finish_b16 (F2.cl) Cv3)
theorem av_law_reset_b18 {C : Nat → Prop} {s0 : Nat} {s1 : Int} {s2 : Int} {h : Hp} (c : Cl C h) (Cs0 : C s0) : Ao (qI C h) (f_law_reset_b18 s0 s1 s2 h) := by
  unfold f_law_reset_b18
  have F0 := Av.rf c
  refine ao_it ao_no ?_
  refine ao_it ?_ ao_no
  refine ao_J F0 Cs0 (fun h12 F1 => ?_)
  exact ao_so F1
theorem av_law_reset {C : Nat → Prop} {v0 : Nat} {v1 : Int} {v2 : Int} {v3 : Int} {v4 : Nat} {h : Hp} (c : Cl C h) (Cv0 : C v0) (Cv4 : C v4) : Ao (qI C h) (f_law_reset v0 v1 v2 v3 v4 h) := by
  unfold f_law_reset
  have F0 := Av.rf c
  refine ao_it ao_no ?_
  refine ao_bt2 F0 (av_cP_reset (F0.cl) Cv0) (fun a4 h5 F1 => ?_) (fun r9 h2 F2 => ?_)
  · refine ao_it ?_ ?_
    · exact ao_so F1
    · exact ao_no
  · refine ao_it ?_ ?_
    · exact ao_jI F2 (av_law_reset_b18 (F2.cl) Cv4)
    · exact ao_jI F2 (av_law_reset_b18 (F2.cl) Cv4)
theorem av_law_stop_b18 {C : Nat → Prop} {s0 : Nat} {s1 : Int} {s2 : Int} {h : Hp} (c : Cl C h) (Cs0 : C s0) : Ao (qI C h) (f_law_stop_b18 s0 s1 s2 h) := by
  unfold f_law_stop_b18
  have F0 := Av.rf c
  refine ao_it ao_no ?_
  refine ao_it ?_ ao_no
  refine ao_J F0 Cs0 (fun h12 F1 => ?_)
  exact ao_so F1
theorem av_law_stop {C : Nat → Prop} {v0 : Nat} {v1 : Int} {v2 : Int} {v3 : Int} {v4 : Nat} {h : Hp} (c : Cl C h) (Cv0 : C v0) (Cv4 : C v4) : Ao (qI C h) (f_law_stop v0 v1 v2 v3 v4 h) := by
  unfold f_law_stop
  have F0 := Av.rf c
  refine ao_it ao_no ?_
  refine ao_bt2 F0 (av_cP_stop (F0.cl) Cv0) (fun a4 h5 F1 => ?_) (fun r9 h2 F2 => ?_)
  · refine ao_it ?_ ?_
    · exact ao_so F1
    · exact ao_no
  · refine ao_it ?_ ?_
    · exact ao_jI F2 (av_law_stop_b18 (F2.cl) Cv4)
    · exact ao_jI F2 (av_law_stop_b18 (F2.cl) Cv4)
theorem av_law_read {C : Nat → Prop} {v0 : Nat} {v1 : Int} {v2 : Int} {v3 : Int} {v4 : Nat} {h : Hp} (c : Cl C h) (Cv0 : C v0) (Cv4 : C v4) : Ao (qI C h) (f_law_read v0 v1 v2 v3 v4 h) := by
  unfold f_law_read
  have F0 := Av.rf c
  refine ao_it ao_no ?_
  refine ao_bt2 F0 (av_cP_read (F0.cl) Cv0) (fun a4 h5 F1 => ?_) (fun r9 h2 F2 => ?_)
  · refine ao_it ?_ ?_
    · exact ao_so F1
    · exact ao_no
  · refine ao_it ao_no ?_
    refine ao_it ?_ ao_no
    refine ao_J F2 Cv4 (fun h12 F3 => ?_)
    exact ao_so F3
theorem av_law_outs {C : Nat → Prop} {v0 : Nat} {v1 : Int} {v2 : Nat} {h : Hp} (c : Cl C h) (Cv2 : C v2) : Ao (qI C h) (f_law_outs v0 v1 v2 h) := by
  unfold f_law_outs
  have F0 := Av.rf c
  refine ao_it ao_no ?_
  refine ao_bt2 F0 (av_cP_outs (F0.cl)) (fun a4 h5 F1 => ?_) (fun r9 h2 F2 => ?_)
  · refine ao_it ?_ ?_
    · exact ao_so F1
    · exact ao_no
  · refine ao_it ao_no ?_
    refine ao_it ?_ ao_no
    refine ao_J F2 Cv2 (fun h12 F3 => ?_)
    exact ao_so F3
theorem av_law_close_b16 {C : Nat → Prop} {s0 : Nat} {s1 : Int} {s2 : Int} {h : Hp} (c : Cl C h) (Cs0 : C s0) : Ao (qI C h) (f_law_close_b16 s0 s1 s2 h) := by
  unfold f_law_close_b16
  have F0 := Av.rf c
  refine ao_it ao_no ?_
  refine ao_it ?_ ao_no
  refine ao_J F0 Cs0 (fun h12 F1 => ?_)
  exact ao_so F1
theorem av_law_close {C : Nat → Prop} {v0 : Nat} {v1 : Int} {v2 : Int} {v3 : Nat} {h : Hp} (c : Cl C h) (Cv0 : C v0) (Cv3 : C v3) : Ao (qI C h) (f_law_close v0 v1 v2 v3 h) := by
  unfold f_law_close
  have F0 := Av.rf c
  refine ao_it ao_no ?_
  refine ao_bt2 F0 (av_cP_close (F0.cl) Cv0) (fun a4 h5 F1 => ?_) (fun r9 h2 F2 => ?_)
  · refine ao_it ?_ ?_
    · exact ao_so F1
    · exact ao_no
  · refine ao_it ?_ ?_
    · exact ao_jI F2 (av_law_close_b16 (F2.cl) Cv3)
    · exact ao_jI F2 (av_law_close_b16 (F2.cl) Cv3)
theorem av_law_raw {C : Nat → Prop} {v0 : Nat} {v1 : Int} {h : Hp} (c : Cl C h) (Cv0 : C v0) : Ao (qI C h) (f_law_raw v0 v1 h) := by
  unfold f_law_raw
  have F0 := Av.rf c
  refine ao_it ao_no ?_
  refine ao_bt F0 (av_cP_raw (F0.cl) Cv0) (fun a4 h5 F1 => ?_) (fun h2 F2 => ?_)
  · refine ao_it ?_ ?_
    · exact ao_so F1
    · refine ao_it ?_ ?_
      · exact ao_so F1
      · exact ao_no
  · exact ao_so F2
theorem av_law_deliver {C : Nat → Prop} {v0 : Nat} {v1 : Int} {v2 : Int} {v3 : Nat} {h : Hp} (c : Cl C h) (Cv0 : C v0) (Cv3 : C v3) : Ao (qI C h) (f_law_deliver v0 v1 v2 v3 h) := by
  unfold f_law_deliver
  have F0 := Av.rf c
  refine ao_it ao_no ?_
  refine ao_bt2 F0 (av_cP_deliver (F0.cl) Cv0) (fun a4 h5 F1 => ?_) (fun r11 h2 F2 => ?_)
  · refine ao_it ?_ ?_
    · exact ao_so F1
    · refine ao_it ?_ ?_
      · exact ao_so F1
      · exact ao_no
  · refine ao_it ao_no ?_
    refine ao_it ?_ ao_no
    refine ao_J F2 Cv3 (fun h14 F3 => ?_)
    exact ao_so F3
theorem av_law_drop {C : Nat → Prop} {v0 : Nat} {v1 : Int} {v2 : Int} {v3 : Nat} {h : Hp} (c : Cl C h) (Cv0 : C v0) (Cv3 : C v3) : Ao (qI C h) (f_law_drop v0 v1 v2 v3 h) := by
  unfold f_law_drop
  have F0 := Av.rf c
  refine ao_it ao_no ?_
  refine ao_bt2 F0 (av_cP_drop (F0.cl) Cv0) (fun a4 h5 F1 => ?_) (fun r11 h2 F2 => ?_)
  · refine ao_it ?_ ?_
    · exact ao_so F1
    · refine ao_it ?_ ?_
      · exact ao_so F1
      · exact ao_no
  · refine ao_it ao_no ?_
    refine ao_it ?_ ao_no
    refine ao_J F2 Cv3 (fun h14 F3 => ?_)
    exact ao_so F3
theorem av_law_twice {C : Nat → Prop} {v0 : Nat} {v1 : Int} {v2 : Int} {v3 : Nat} {h : Hp} (c : Cl C h) (Cv0 : C v0) (Cv3 : C v3) : Ao (qI C h) (f_law_twice v0 v1 v2 v3 h) := by
  unfold f_law_twice
  have F0 := Av.rf c
  refine ao_it ao_no ?_
  refine ao_bt2 F0 (av_cP_twice (F0.cl) Cv0) (fun a4 h5 F1 => ?_) (fun r11 h2 F2 => ?_)
  · refine ao_it ?_ ?_
    · exact ao_so F1
    · refine ao_it ?_ ?_
      · exact ao_so F1
      · exact ao_no
  · refine ao_it ao_no ?_
    refine ao_it ?_ ao_no
    refine ao_J F2 Cv3 (fun h14 F3 => ?_)
    exact ao_so F3
theorem av_law_alter {C : Nat → Prop} {v0 : Nat} {v1 : Int} {v2 : Int} {v3 : Int} {v4 : Int} {v5 : Nat} {h : Hp} (c : Cl C h) (Cv0 : C v0) (Cv5 : C v5) : Ao (qI C h) (f_law_alter v0 v1 v2 v3 v4 v5 h) := by
  unfold f_law_alter
  have F0 := Av.rf c
  refine ao_it ao_no ?_
  refine ao_bt2 F0 (av_cP_alter (F0.cl) Cv0) (fun a4 h5 F1 => ?_) (fun r11 h2 F2 => ?_)
  · refine ao_it ?_ ?_
    · exact ao_so F1
    · refine ao_it ?_ ?_
      · exact ao_so F1
      · exact ao_no
  · refine ao_it ao_no ?_
    refine ao_it ?_ ao_no
    refine ao_J F2 Cv5 (fun h14 F3 => ?_)
    exact ao_so F3
theorem av_law_flow {C : Nat → Prop} {v0 : Nat} {v1 : Int} {h : Hp} (c : Cl C h) (Cv0 : C v0) : Ao (qI C h) (f_law_flow v0 v1 h) := by
  unfold f_law_flow
  have F0 := Av.rf c
  refine ao_it ao_no ?_
  refine ao_bt F0 (av_cP_flow (F0.cl) Cv0) (fun a4 h5 F1 => ?_) (fun h2 F2 => ?_)
  · refine ao_it ?_ ?_
    · exact ao_so F1
    · exact ao_no
  · exact ao_so F2
