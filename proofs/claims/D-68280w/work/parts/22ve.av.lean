/-! frames (gen/av.py) -/
theorem av_law_tick {C : Nat → Prop} {v0 : Nat} {v1 : Int} {v2 : Nat} {h : Hp} (c : Cl C h) (Cv0 : C v0) (Cv2 : C v2) : Ao (qI C h) (f_law_tick v0 v1 v2 h) := by
  unfold f_law_tick
  have F0 := Av.rf c
  refine ao_it ao_no ?_
  refine ao_bt2 F0 (av_cP_tick_I (F0.cl) Cv0) (fun a4 h5 F1 => ?_) (fun r11 h2 F2 => ?_)
  · refine ao_it ?_ ?_
    · exact ao_so F1
    · refine ao_it ?_ ?_
      · exact ao_so F1
      · exact ao_no
  · refine ao_it ao_no ?_
    refine ao_it ?_ ao_no
    refine ao_J F2 Cv2 (fun h14 F3 => ?_)
    exact ao_so F3
theorem av_law_line {C : Nat → Prop} {v0 : Nat} {v1 : Int} {v2 : Int} {v3 : Nat} {h : Hp} (c : Cl C h) (Cv3 : C v3) : Ao (qI C h) (f_law_line v0 v1 v2 v3 h) := by
  unfold f_law_line
  have F0 := Av.rf c
  refine ao_it ao_no ?_
  refine ao_bt2 F0 (av_cP_line (F0.cl)) (fun a4 h5 F1 => ?_) (fun r9 h2 F2 => ?_)
  · refine ao_it ?_ ?_
    · exact ao_so F1
    · exact ao_no
  · refine ao_it ao_no ?_
    refine ao_it ?_ ao_no
    refine ao_J F2 Cv3 (fun h12 F3 => ?_)
    exact ao_so F3
theorem av_law_at {C : Nat → Prop} {v0 : Nat} {v1 : Int} {v2 : Int} {v3 : Int} {v4 : Nat} {h : Hp} (c : Cl C h) (Cv0 : C v0) (Cv4 : C v4) : Ao (qI C h) (f_law_at v0 v1 v2 v3 v4 h) := by
  unfold f_law_at
  have F0 := Av.rf c
  refine ao_it ao_no ?_
  refine ao_bt2 F0 (av_cP_at (F0.cl) Cv0) (fun a4 h5 F1 => ?_) (fun r11 h2 F2 => ?_)
  · refine ao_it ?_ ?_
    · exact ao_so F1
    · refine ao_it ?_ ?_
      · exact ao_so F1
      · exact ao_no
  · refine ao_it ao_no ?_
    refine ao_it ?_ ao_no
    refine ao_J F2 Cv4 (fun h14 F3 => ?_)
    exact ao_so F3
theorem av_law_look {C : Nat → Prop} {v0 : Nat} {v1 : Int} {v2 : Int} {v3 : Nat} {h : Hp} (c : Cl C h) (Cv0 : C v0) (Cv3 : C v3) : Ao (qI C h) (f_law_look v0 v1 v2 v3 h) := by
  unfold f_law_look
  have F0 := Av.rf c
  refine ao_it ao_no ?_
  refine ao_bt2 F0 (av_cP_look (F0.cl) Cv0) (fun a4 h5 F1 => ?_) (fun r9 h2 F2 => ?_)
  · refine ao_it ?_ ?_
    · exact ao_so F1
    · exact ao_no
  · refine ao_it ao_no ?_
    refine ao_it ?_ ao_no
    refine ao_J F2 Cv3 (fun h12 F3 => ?_)
    exact ao_so F3
theorem av_law_book {C : Nat → Prop} {v0 : Nat} {v1 : Int} {v2 : Int} {v3 : Nat} {h : Hp} (c : Cl C h) (Cv0 : C v0) (Cv3 : C v3) : Ao (qI C h) (f_law_book v0 v1 v2 v3 h) := by
  unfold f_law_book
  have F0 := Av.rf c
  refine ao_it ao_no ?_
  refine ao_bt2 F0 (av_cP_book (F0.cl) Cv0) (fun a4 h5 F1 => ?_) (fun r9 h2 F2 => ?_)
  · refine ao_it ?_ ?_
    · exact ao_so F1
    · exact ao_no
  · refine ao_it ao_no ?_
    refine ao_it ?_ ao_no
    refine ao_J F2 Cv3 (fun h12 F3 => ?_)
    exact ao_so F3
theorem av_law_space {C : Nat → Prop} {v0 : Nat} {v1 : Int} {v2 : Int} {v3 : Int} {v4 : Nat} {h : Hp} (c : Cl C h) (Cv0 : C v0) (Cv4 : C v4) : Ao (qI C h) (f_law_space v0 v1 v2 v3 v4 h) := by
  unfold f_law_space
  have F0 := Av.rf c
  refine ao_it ao_no ?_
  refine ao_bt2 F0 (av_cP_space (F0.cl) Cv0) (fun a4 h5 F1 => ?_) (fun r9 h2 F2 => ?_)
  · refine ao_it ?_ ?_
    · exact ao_so F1
    · exact ao_no
  · refine ao_it ao_no ?_
    refine ao_it ?_ ao_no
    refine ao_J F2 Cv4 (fun h12 F3 => ?_)
    exact ao_so F3
theorem av_law_stream {C : Nat → Prop} {v0 : Nat} {v1 : Int} {v2 : Int} {v3 : Int} {v4 : Nat} {h : Hp} (c : Cl C h) (Cv0 : C v0) (Cv4 : C v4) : Ao (qI C h) (f_law_stream v0 v1 v2 v3 v4 h) := by
  unfold f_law_stream
  have F0 := Av.rf c
  refine ao_it ao_no ?_
  refine ao_bt2 F0 (av_cP_stream (F0.cl) Cv0) (fun a4 h5 F1 => ?_) (fun r9 h2 F2 => ?_)
  · refine ao_it ?_ ?_
    · exact ao_so F1
    · exact ao_no
  · refine ao_it ao_no ?_
    refine ao_it ?_ ao_no
    refine ao_J F2 Cv4 (fun h12 F3 => ?_)
    exact ao_so F3
theorem av_law_streams {C : Nat → Prop} {v0 : Nat} {v1 : Int} {v2 : Int} {v3 : Nat} {h : Hp} (c : Cl C h) (Cv0 : C v0) (Cv3 : C v3) : Ao (qI C h) (f_law_streams v0 v1 v2 v3 h) := by
  unfold f_law_streams
  have F0 := Av.rf c
  refine ao_it ao_no ?_
  refine ao_bt2 F0 (av_cP_streams (F0.cl) Cv0) (fun a4 h5 F1 => ?_) (fun r9 h2 F2 => ?_)
  · refine ao_it ?_ ?_
    · exact ao_so F1
    · exact ao_no
  · refine ao_it ao_no ?_
    refine ao_it ?_ ao_no
    refine ao_J F2 Cv3 (fun h12 F3 => ?_)
    exact ao_so F3
theorem av_law_law_b2028 {C : Nat → Prop} {k23 : Nat → Nat → Nat → Nat → Int → Hp → Option (Int × Hp)} (hk23 : ∀ (v0 : Nat) (v1 : Nat) (v2 : Nat) (v3 : Nat) (v4 : Int) (h : Hp), Cl C h → C v1 → C v2 → C v3 → Ao (qI C h) (k23 v0 v1 v2 v3 v4 h)) {v0 : Nat} {v1 : Nat} {v2 : Nat} {v3 : Nat} {v4 : Int} {h : Hp} (c : Cl C h) (Cv1 : C v1) (Cv2 : C v2) (Cv3 : C v3) : Ao (qI C h) (f_law_law_b2028 k23 v0 v1 v2 v3 v4 h) := by
  unfold f_law_law_b2028
  have F0 := Av.rf c
  exact ao_jI F0 (hk23 _ _ _ _ _ _ (F0.cl) Cv1 Cv2 Cv3)
theorem av_law_law_b1879 {C : Nat → Prop} {k23 : Nat → Nat → Nat → Nat → Int → Hp → Option (Int × Hp)} (hk23 : ∀ (v0 : Nat) (v1 : Nat) (v2 : Nat) (v3 : Nat) (v4 : Int) (h : Hp), Cl C h → C v1 → C v2 → C v3 → Ao (qI C h) (k23 v0 v1 v2 v3 v4 h)) {v0 : Nat} {v1 : Nat} {v2 : Nat} {v3 : Nat} {v4 : Int} {h : Hp} (c : Cl C h) (Cv1 : C v1) (Cv2 : C v2) (Cv3 : C v3) : Ao (qI C h) (f_law_law_b1879 k23 v0 v1 v2 v3 v4 h) := by
  unfold f_law_law_b1879
  have F0 := Av.rf c
  exact ao_jI F0 (av_law_law_b2028 hk23 (F0.cl) Cv1 Cv2 Cv3)
theorem av_law_law_b325 {C : Nat → Prop} {k23 : Nat → Nat → Nat → Nat → Int → Hp → Option (Int × Hp)} (hk23 : ∀ (v0 : Nat) (v1 : Nat) (v2 : Nat) (v3 : Nat) (v4 : Int) (h : Hp), Cl C h → C v1 → C v2 → C v3 → Ao (qI C h) (k23 v0 v1 v2 v3 v4 h)) {v0 : Nat} {v1 : Nat} {v2 : Nat} {v3 : Nat} {v4 : Int} {h : Hp} (c : Cl C h) (Cv1 : C v1) (Cv2 : C v2) (Cv3 : C v3) : Ao (qI C h) (f_law_law_b325 k23 v0 v1 v2 v3 v4 h) := by
  unfold f_law_law_b325
  have F0 := Av.rf c
  exact ao_jI F0 (av_law_law_b2028 hk23 (F0.cl) Cv1 Cv2 Cv3)
theorem av_law_law_b1017 {C : Nat → Prop} {k23 : Nat → Nat → Nat → Nat → Int → Hp → Option (Int × Hp)} (hk23 : ∀ (v0 : Nat) (v1 : Nat) (v2 : Nat) (v3 : Nat) (v4 : Int) (h : Hp), Cl C h → C v1 → C v2 → C v3 → Ao (qI C h) (k23 v0 v1 v2 v3 v4 h)) {v0 : Nat} {v1 : Nat} {v2 : Nat} {v3 : Nat} {v4 : Int} {h : Hp} (c : Cl C h) (Cv1 : C v1) (Cv2 : C v2) (Cv3 : C v3) : Ao (qI C h) (f_law_law_b1017 k23 v0 v1 v2 v3 v4 h) := by
  unfold f_law_law_b1017
  have F0 := Av.rf c
  exact ao_jI F0 (av_law_law_b2028 hk23 (F0.cl) Cv1 Cv2 Cv3)
theorem av_law_law_b633 {C : Nat → Prop} {k23 : Nat → Nat → Nat → Nat → Int → Hp → Option (Int × Hp)} (hk23 : ∀ (v0 : Nat) (v1 : Nat) (v2 : Nat) (v3 : Nat) (v4 : Int) (h : Hp), Cl C h → C v1 → C v2 → C v3 → Ao (qI C h) (k23 v0 v1 v2 v3 v4 h)) {v0 : Nat} {v1 : Nat} {v2 : Nat} {v3 : Nat} {v4 : Int} {h : Hp} (c : Cl C h) (Cv1 : C v1) (Cv2 : C v2) (Cv3 : C v3) : Ao (qI C h) (f_law_law_b633 k23 v0 v1 v2 v3 v4 h) := by
  unfold f_law_law_b633
  have F0 := Av.rf c
  exact ao_jI F0 (av_law_law_b2028 hk23 (F0.cl) Cv1 Cv2 Cv3)
theorem av_law_law_b1800 {C : Nat → Prop} {k23 : Nat → Nat → Nat → Nat → Int → Hp → Option (Int × Hp)} (hk23 : ∀ (v0 : Nat) (v1 : Nat) (v2 : Nat) (v3 : Nat) (v4 : Int) (h : Hp), Cl C h → C v1 → C v2 → C v3 → Ao (qI C h) (k23 v0 v1 v2 v3 v4 h)) {v0 : Nat} {v1 : Nat} {v2 : Nat} {v3 : Nat} {v4 : Int} {h : Hp} (c : Cl C h) (Cv1 : C v1) (Cv2 : C v2) (Cv3 : C v3) : Ao (qI C h) (f_law_law_b1800 k23 v0 v1 v2 v3 v4 h) := by
  unfold f_law_law_b1800
  have F0 := Av.rf c
  exact ao_jI F0 (av_law_law_b2028 hk23 (F0.cl) Cv1 Cv2 Cv3)
theorem av_law_law_b1516 {C : Nat → Prop} {k23 : Nat → Nat → Nat → Nat → Int → Hp → Option (Int × Hp)} (hk23 : ∀ (v0 : Nat) (v1 : Nat) (v2 : Nat) (v3 : Nat) (v4 : Int) (h : Hp), Cl C h → C v1 → C v2 → C v3 → Ao (qI C h) (k23 v0 v1 v2 v3 v4 h)) {v0 : Nat} {v1 : Nat} {v2 : Nat} {v3 : Nat} {v4 : Int} {h : Hp} (c : Cl C h) (Cv1 : C v1) (Cv2 : C v2) (Cv3 : C v3) : Ao (qI C h) (f_law_law_b1516 k23 v0 v1 v2 v3 v4 h) := by
  unfold f_law_law_b1516
  have F0 := Av.rf c
  exact ao_jI F0 (av_law_law_b2028 hk23 (F0.cl) Cv1 Cv2 Cv3)
theorem av_law_law_b1332 {C : Nat → Prop} {k23 : Nat → Nat → Nat → Nat → Int → Hp → Option (Int × Hp)} (hk23 : ∀ (v0 : Nat) (v1 : Nat) (v2 : Nat) (v3 : Nat) (v4 : Int) (h : Hp), Cl C h → C v1 → C v2 → C v3 → Ao (qI C h) (k23 v0 v1 v2 v3 v4 h)) {v0 : Nat} {v1 : Nat} {v2 : Nat} {v3 : Nat} {v4 : Int} {h : Hp} (c : Cl C h) (Cv1 : C v1) (Cv2 : C v2) (Cv3 : C v3) : Ao (qI C h) (f_law_law_b1332 k23 v0 v1 v2 v3 v4 h) := by
  unfold f_law_law_b1332
  have F0 := Av.rf c
  exact ao_jI F0 (av_law_law_b2028 hk23 (F0.cl) Cv1 Cv2 Cv3)
theorem av_law_law_b1424 {C : Nat → Prop} {k23 : Nat → Nat → Nat → Nat → Int → Hp → Option (Int × Hp)} (hk23 : ∀ (v0 : Nat) (v1 : Nat) (v2 : Nat) (v3 : Nat) (v4 : Int) (h : Hp), Cl C h → C v1 → C v2 → C v3 → Ao (qI C h) (k23 v0 v1 v2 v3 v4 h)) {v0 : Nat} {v1 : Nat} {v2 : Nat} {v3 : Nat} {v4 : Int} {h : Hp} (c : Cl C h) (Cv1 : C v1) (Cv2 : C v2) (Cv3 : C v3) : Ao (qI C h) (f_law_law_b1424 k23 v0 v1 v2 v3 v4 h) := by
  unfold f_law_law_b1424
  have F0 := Av.rf c
  exact ao_jI F0 (av_law_law_b2028 hk23 (F0.cl) Cv1 Cv2 Cv3)
theorem av_law_law_b1732 {C : Nat → Prop} {k23 : Nat → Nat → Nat → Nat → Int → Hp → Option (Int × Hp)} (hk23 : ∀ (v0 : Nat) (v1 : Nat) (v2 : Nat) (v3 : Nat) (v4 : Int) (h : Hp), Cl C h → C v1 → C v2 → C v3 → Ao (qI C h) (k23 v0 v1 v2 v3 v4 h)) {v0 : Nat} {v1 : Nat} {v2 : Nat} {v3 : Nat} {v4 : Int} {h : Hp} (c : Cl C h) (Cv1 : C v1) (Cv2 : C v2) (Cv3 : C v3) : Ao (qI C h) (f_law_law_b1732 k23 v0 v1 v2 v3 v4 h) := by
  unfold f_law_law_b1732
  have F0 := Av.rf c
  exact ao_jI F0 (av_law_law_b2028 hk23 (F0.cl) Cv1 Cv2 Cv3)
theorem av_law_law_b565 {C : Nat → Prop} {k23 : Nat → Nat → Nat → Nat → Int → Hp → Option (Int × Hp)} (hk23 : ∀ (v0 : Nat) (v1 : Nat) (v2 : Nat) (v3 : Nat) (v4 : Int) (h : Hp), Cl C h → C v1 → C v2 → C v3 → Ao (qI C h) (k23 v0 v1 v2 v3 v4 h)) {v0 : Nat} {v1 : Nat} {v2 : Nat} {v3 : Nat} {v4 : Int} {h : Hp} (c : Cl C h) (Cv1 : C v1) (Cv2 : C v2) (Cv3 : C v3) : Ao (qI C h) (f_law_law_b565 k23 v0 v1 v2 v3 v4 h) := by
  unfold f_law_law_b565
  have F0 := Av.rf c
  exact ao_jI F0 (av_law_law_b2028 hk23 (F0.cl) Cv1 Cv2 Cv3)
theorem av_law_law_b532 {C : Nat → Prop} {k23 : Nat → Nat → Nat → Nat → Int → Hp → Option (Int × Hp)} (hk23 : ∀ (v0 : Nat) (v1 : Nat) (v2 : Nat) (v3 : Nat) (v4 : Int) (h : Hp), Cl C h → C v1 → C v2 → C v3 → Ao (qI C h) (k23 v0 v1 v2 v3 v4 h)) {v0 : Nat} {v1 : Nat} {v2 : Nat} {v3 : Nat} {v4 : Int} {v5 : Int} {s0 : Nat} {s1 : Int} {s2 : Int} {h : Hp} (c : Cl C h) (Cv1 : C v1) (Cv2 : C v2) (Cv3 : C v3) (Cs0 : C s0) : Ao (qI C h) (f_law_law_b532 k23 v0 v1 v2 v3 v4 v5 s0 s1 s2 h) := by
  unfold f_law_law_b532
  have F0 := Av.rf c
  refine ao_it ao_no ?_
  refine ao_b2 F0 (av_mP_open (F0.cl) Cs0) (fun r509 h507 F1 => ?_)
  refine ao_it ao_no ?_
  refine ao_b2 F1 (av_mP_thrown (F1.cl)) (fun r513 h511 F2 => ?_)
  refine ao_it ?_ ?_
  · refine ao_it ?_ ?_
    · exact ao_jI F2 (av_law_law_b565 hk23 (F2.cl) Cv1 Cv2 Cv3)
    · refine ao_it ao_no ?_
      refine ao_it ?_ ao_no
      refine ao_it ?_ ?_
      · exact ao_jI F2 (av_law_law_b565 hk23 (F2.cl) Cv1 Cv2 Cv3)
      · exact ao_so F2
  · exact ao_so F2
theorem av_law_law_b505 {C : Nat → Prop} {k23 : Nat → Nat → Nat → Nat → Int → Hp → Option (Int × Hp)} (hk23 : ∀ (v0 : Nat) (v1 : Nat) (v2 : Nat) (v3 : Nat) (v4 : Int) (h : Hp), Cl C h → C v1 → C v2 → C v3 → Ao (qI C h) (k23 v0 v1 v2 v3 v4 h)) {v0 : Nat} {v1 : Nat} {v2 : Nat} {v3 : Nat} {v4 : Int} {s0 : Nat} {s1 : Int} {s2 : Int} {h : Hp} (c : Cl C h) (Cv1 : C v1) (Cv2 : C v2) (Cv3 : C v3) (Cs0 : C s0) : Ao (qI C h) (f_law_law_b505 k23 v0 v1 v2 v3 v4 s0 s1 s2 h) := by
  unfold f_law_law_b505
  have F0 := Av.rf c
  refine ao_b2 F0 (av_law_open (F0.cl) Cs0 Cv3) (fun r502 h500 F1 => ?_)
  refine ao_it ao_no ?_
  refine ao_it ?_ ao_no
  refine ao_it ?_ ao_no
  refine ao_it ?_ ?_
  · exact ao_jI F1 (av_law_law_b532 hk23 (F1.cl) Cv1 Cv2 Cv3 Cv2)
  · exact ao_jI F1 (av_law_law_b532 hk23 (F1.cl) Cv1 Cv2 Cv3 Cv2)
theorem av_law_law_b269 {C : Nat → Prop} {k23 : Nat → Nat → Nat → Nat → Int → Hp → Option (Int × Hp)} (hk23 : ∀ (v0 : Nat) (v1 : Nat) (v2 : Nat) (v3 : Nat) (v4 : Int) (h : Hp), Cl C h → C v1 → C v2 → C v3 → Ao (qI C h) (k23 v0 v1 v2 v3 v4 h)) {v0 : Nat} {v1 : Nat} {v2 : Nat} {v3 : Nat} {v4 : Int} {h : Hp} (c : Cl C h) (Cv1 : C v1) (Cv2 : C v2) (Cv3 : C v3) : Ao (qI C h) (f_law_law_b269 k23 v0 v1 v2 v3 v4 h) := by
  unfold f_law_law_b269
  have F0 := Av.rf c
  exact ao_jI F0 (av_law_law_b2028 hk23 (F0.cl) Cv1 Cv2 Cv3)
theorem av_law_law_b2025 {C : Nat → Prop} {k23 : Nat → Nat → Nat → Nat → Int → Hp → Option (Int × Hp)} (hk23 : ∀ (v0 : Nat) (v1 : Nat) (v2 : Nat) (v3 : Nat) (v4 : Int) (h : Hp), Cl C h → C v1 → C v2 → C v3 → Ao (qI C h) (k23 v0 v1 v2 v3 v4 h)) {v0 : Nat} {v1 : Nat} {v2 : Nat} {v3 : Nat} {v4 : Int} {h : Hp} (c : Cl C h) (Cv1 : C v1) (Cv2 : C v2) (Cv3 : C v3) : Ao (qI C h) (f_law_law_b2025 k23 v0 v1 v2 v3 v4 h) := by
  unfold f_law_law_b2025
  have F0 := Av.rf c
  exact ao_jI F0 (av_law_law_b2028 hk23 (F0.cl) Cv1 Cv2 Cv3)
theorem av_law_law_b962 {C : Nat → Prop} {k23 : Nat → Nat → Nat → Nat → Int → Hp → Option (Int × Hp)} (hk23 : ∀ (v0 : Nat) (v1 : Nat) (v2 : Nat) (v3 : Nat) (v4 : Int) (h : Hp), Cl C h → C v1 → C v2 → C v3 → Ao (qI C h) (k23 v0 v1 v2 v3 v4 h)) {v0 : Nat} {v1 : Nat} {v2 : Nat} {v3 : Nat} {v4 : Int} {h : Hp} (c : Cl C h) (Cv1 : C v1) (Cv2 : C v2) (Cv3 : C v3) : Ao (qI C h) (f_law_law_b962 k23 v0 v1 v2 v3 v4 h) := by
  unfold f_law_law_b962
  have F0 := Av.rf c
  exact ao_jI F0 (av_law_law_b2028 hk23 (F0.cl) Cv1 Cv2 Cv3)
theorem av_law_law_b1264 {C : Nat → Prop} {k23 : Nat → Nat → Nat → Nat → Int → Hp → Option (Int × Hp)} (hk23 : ∀ (v0 : Nat) (v1 : Nat) (v2 : Nat) (v3 : Nat) (v4 : Int) (h : Hp), Cl C h → C v1 → C v2 → C v3 → Ao (qI C h) (k23 v0 v1 v2 v3 v4 h)) {v0 : Nat} {v1 : Nat} {v2 : Nat} {v3 : Nat} {v4 : Int} {h : Hp} (c : Cl C h) (Cv1 : C v1) (Cv2 : C v2) (Cv3 : C v3) : Ao (qI C h) (f_law_law_b1264 k23 v0 v1 v2 v3 v4 h) := by
  unfold f_law_law_b1264
  have F0 := Av.rf c
  exact ao_jI F0 (av_law_law_b2028 hk23 (F0.cl) Cv1 Cv2 Cv3)
theorem av_law_law_b882 {C : Nat → Prop} {k23 : Nat → Nat → Nat → Nat → Int → Hp → Option (Int × Hp)} (hk23 : ∀ (v0 : Nat) (v1 : Nat) (v2 : Nat) (v3 : Nat) (v4 : Int) (h : Hp), Cl C h → C v1 → C v2 → C v3 → Ao (qI C h) (k23 v0 v1 v2 v3 v4 h)) {v0 : Nat} {v1 : Nat} {v2 : Nat} {v3 : Nat} {v4 : Int} {h : Hp} (c : Cl C h) (Cv1 : C v1) (Cv2 : C v2) (Cv3 : C v3) : Ao (qI C h) (f_law_law_b882 k23 v0 v1 v2 v3 v4 h) := by
  unfold f_law_law_b882
  have F0 := Av.rf c
  exact ao_jI F0 (av_law_law_b2028 hk23 (F0.cl) Cv1 Cv2 Cv3)
theorem av_law_law_b876 {C : Nat → Prop} {k23 : Nat → Nat → Nat → Nat → Int → Hp → Option (Int × Hp)} (hk23 : ∀ (v0 : Nat) (v1 : Nat) (v2 : Nat) (v3 : Nat) (v4 : Int) (h : Hp), Cl C h → C v1 → C v2 → C v3 → Ao (qI C h) (k23 v0 v1 v2 v3 v4 h)) {v0 : Nat} {v1 : Nat} {v2 : Nat} {v3 : Nat} {v4 : Int} {s0 : Int} {s1 : Int} {h : Hp} (c : Cl C h) (Cv1 : C v1) (Cv2 : C v2) (Cv3 : C v3) : Ao (qI C h) (f_law_law_b876 k23 v0 v1 v2 v3 v4 s0 s1 h) := by
  unfold f_law_law_b876
  have F0 := Av.rf c
  refine ao_it ?_ ?_
  · exact ao_jI F0 (av_law_law_b882 hk23 (F0.cl) Cv1 Cv2 Cv3)
  · exact ao_so F0
theorem av_law_law_b708 {C : Nat → Prop} {k23 : Nat → Nat → Nat → Nat → Int → Hp → Option (Int × Hp)} (hk23 : ∀ (v0 : Nat) (v1 : Nat) (v2 : Nat) (v3 : Nat) (v4 : Int) (h : Hp), Cl C h → C v1 → C v2 → C v3 → Ao (qI C h) (k23 v0 v1 v2 v3 v4 h)) {v0 : Nat} {v1 : Nat} {v2 : Nat} {v3 : Nat} {v4 : Int} {h : Hp} (c : Cl C h) (Cv1 : C v1) (Cv2 : C v2) (Cv3 : C v3) : Ao (qI C h) (f_law_law_b708 k23 v0 v1 v2 v3 v4 h) := by
  unfold f_law_law_b708
  have F0 := Av.rf c
  exact ao_jI F0 (av_law_law_b2028 hk23 (F0.cl) Cv1 Cv2 Cv3)
theorem av_law_law_b795 {C : Nat → Prop} {k23 : Nat → Nat → Nat → Nat → Int → Hp → Option (Int × Hp)} (hk23 : ∀ (v0 : Nat) (v1 : Nat) (v2 : Nat) (v3 : Nat) (v4 : Int) (h : Hp), Cl C h → C v1 → C v2 → C v3 → Ao (qI C h) (k23 v0 v1 v2 v3 v4 h)) {v0 : Nat} {v1 : Nat} {v2 : Nat} {v3 : Nat} {v4 : Int} {h : Hp} (c : Cl C h) (Cv1 : C v1) (Cv2 : C v2) (Cv3 : C v3) : Ao (qI C h) (f_law_law_b795 k23 v0 v1 v2 v3 v4 h) := by
  unfold f_law_law_b795
  have F0 := Av.rf c
  exact ao_jI F0 (av_law_law_b2028 hk23 (F0.cl) Cv1 Cv2 Cv3)
theorem av_law_law_b789 {C : Nat → Prop} {k23 : Nat → Nat → Nat → Nat → Int → Hp → Option (Int × Hp)} (hk23 : ∀ (v0 : Nat) (v1 : Nat) (v2 : Nat) (v3 : Nat) (v4 : Int) (h : Hp), Cl C h → C v1 → C v2 → C v3 → Ao (qI C h) (k23 v0 v1 v2 v3 v4 h)) {v0 : Nat} {v1 : Nat} {v2 : Nat} {v3 : Nat} {v4 : Int} {s0 : Int} {s1 : Int} {h : Hp} (c : Cl C h) (Cv1 : C v1) (Cv2 : C v2) (Cv3 : C v3) : Ao (qI C h) (f_law_law_b789 k23 v0 v1 v2 v3 v4 s0 s1 h) := by
  unfold f_law_law_b789
  have F0 := Av.rf c
  refine ao_it ?_ ?_
  · exact ao_jI F0 (av_law_law_b795 hk23 (F0.cl) Cv1 Cv2 Cv3)
  · exact ao_so F0
theorem av_law_law_b1664 {C : Nat → Prop} {k23 : Nat → Nat → Nat → Nat → Int → Hp → Option (Int × Hp)} (hk23 : ∀ (v0 : Nat) (v1 : Nat) (v2 : Nat) (v3 : Nat) (v4 : Int) (h : Hp), Cl C h → C v1 → C v2 → C v3 → Ao (qI C h) (k23 v0 v1 v2 v3 v4 h)) {v0 : Nat} {v1 : Nat} {v2 : Nat} {v3 : Nat} {v4 : Int} {h : Hp} (c : Cl C h) (Cv1 : C v1) (Cv2 : C v2) (Cv3 : C v3) : Ao (qI C h) (f_law_law_b1664 k23 v0 v1 v2 v3 v4 h) := by
  unfold f_law_law_b1664
  have F0 := Av.rf c
  exact ao_jI F0 (av_law_law_b2028 hk23 (F0.cl) Cv1 Cv2 Cv3)
theorem av_law_law_b1092 {C : Nat → Prop} {k23 : Nat → Nat → Nat → Nat → Int → Hp → Option (Int × Hp)} (hk23 : ∀ (v0 : Nat) (v1 : Nat) (v2 : Nat) (v3 : Nat) (v4 : Int) (h : Hp), Cl C h → C v1 → C v2 → C v3 → Ao (qI C h) (k23 v0 v1 v2 v3 v4 h)) {v0 : Nat} {v1 : Nat} {v2 : Nat} {v3 : Nat} {v4 : Int} {h : Hp} (c : Cl C h) (Cv1 : C v1) (Cv2 : C v2) (Cv3 : C v3) : Ao (qI C h) (f_law_law_b1092 k23 v0 v1 v2 v3 v4 h) := by
  unfold f_law_law_b1092
  have F0 := Av.rf c
  exact ao_jI F0 (av_law_law_b2028 hk23 (F0.cl) Cv1 Cv2 Cv3)
theorem av_law_law_b1086 {C : Nat → Prop} {k23 : Nat → Nat → Nat → Nat → Int → Hp → Option (Int × Hp)} (hk23 : ∀ (v0 : Nat) (v1 : Nat) (v2 : Nat) (v3 : Nat) (v4 : Int) (h : Hp), Cl C h → C v1 → C v2 → C v3 → Ao (qI C h) (k23 v0 v1 v2 v3 v4 h)) {v0 : Nat} {v1 : Nat} {v2 : Nat} {v3 : Nat} {v4 : Int} {s0 : Int} {s1 : Int} {h : Hp} (c : Cl C h) (Cv1 : C v1) (Cv2 : C v2) (Cv3 : C v3) : Ao (qI C h) (f_law_law_b1086 k23 v0 v1 v2 v3 v4 s0 s1 h) := by
  unfold f_law_law_b1086
  have F0 := Av.rf c
  refine ao_it ?_ ?_
  · exact ao_jI F0 (av_law_law_b1092 hk23 (F0.cl) Cv1 Cv2 Cv3)
  · exact ao_so F0
theorem av_law_law_b702 {C : Nat → Prop} {k23 : Nat → Nat → Nat → Nat → Int → Hp → Option (Int × Hp)} (hk23 : ∀ (v0 : Nat) (v1 : Nat) (v2 : Nat) (v3 : Nat) (v4 : Int) (h : Hp), Cl C h → C v1 → C v2 → C v3 → Ao (qI C h) (k23 v0 v1 v2 v3 v4 h)) {v0 : Nat} {v1 : Nat} {v2 : Nat} {v3 : Nat} {v4 : Int} {s0 : Int} {s1 : Int} {h : Hp} (c : Cl C h) (Cv1 : C v1) (Cv2 : C v2) (Cv3 : C v3) : Ao (qI C h) (f_law_law_b702 k23 v0 v1 v2 v3 v4 s0 s1 h) := by
  unfold f_law_law_b702
  have F0 := Av.rf c
  refine ao_it ?_ ?_
  · exact ao_jI F0 (av_law_law_b708 hk23 (F0.cl) Cv1 Cv2 Cv3)
  · exact ao_so F0
theorem av_law_law_b1958 {C : Nat → Prop} {k23 : Nat → Nat → Nat → Nat → Int → Hp → Option (Int × Hp)} (hk23 : ∀ (v0 : Nat) (v1 : Nat) (v2 : Nat) (v3 : Nat) (v4 : Int) (h : Hp), Cl C h → C v1 → C v2 → C v3 → Ao (qI C h) (k23 v0 v1 v2 v3 v4 h)) {v0 : Nat} {v1 : Nat} {v2 : Nat} {v3 : Nat} {v4 : Int} {h : Hp} (c : Cl C h) (Cv1 : C v1) (Cv2 : C v2) (Cv3 : C v3) : Ao (qI C h) (f_law_law_b1958 k23 v0 v1 v2 v3 v4 h) := by
  unfold f_law_law_b1958
  have F0 := Av.rf c
  exact ao_jI F0 (av_law_law_b2028 hk23 (F0.cl) Cv1 Cv2 Cv3)
theorem av_law_law_b1196 {C : Nat → Prop} {k23 : Nat → Nat → Nat → Nat → Int → Hp → Option (Int × Hp)} (hk23 : ∀ (v0 : Nat) (v1 : Nat) (v2 : Nat) (v3 : Nat) (v4 : Int) (h : Hp), Cl C h → C v1 → C v2 → C v3 → Ao (qI C h) (k23 v0 v1 v2 v3 v4 h)) {v0 : Nat} {v1 : Nat} {v2 : Nat} {v3 : Nat} {v4 : Int} {h : Hp} (c : Cl C h) (Cv1 : C v1) (Cv2 : C v2) (Cv3 : C v3) : Ao (qI C h) (f_law_law_b1196 k23 v0 v1 v2 v3 v4 h) := by
  unfold f_law_law_b1196
  have F0 := Av.rf c
  exact ao_jI F0 (av_law_law_b2028 hk23 (F0.cl) Cv1 Cv2 Cv3)
theorem av_law_law_b1584 {C : Nat → Prop} {k23 : Nat → Nat → Nat → Nat → Int → Hp → Option (Int × Hp)} (hk23 : ∀ (v0 : Nat) (v1 : Nat) (v2 : Nat) (v3 : Nat) (v4 : Int) (h : Hp), Cl C h → C v1 → C v2 → C v3 → Ao (qI C h) (k23 v0 v1 v2 v3 v4 h)) {v0 : Nat} {v1 : Nat} {v2 : Nat} {v3 : Nat} {v4 : Int} {h : Hp} (c : Cl C h) (Cv1 : C v1) (Cv2 : C v2) (Cv3 : C v3) : Ao (qI C h) (f_law_law_b1584 k23 v0 v1 v2 v3 v4 h) := by
  unfold f_law_law_b1584
  have F0 := Av.rf c
  exact ao_jI F0 (av_law_law_b2028 hk23 (F0.cl) Cv1 Cv2 Cv3)
theorem av_law_law_b23 {C : Nat → Prop} {k23 : Nat → Nat → Nat → Nat → Int → Hp → Option (Int × Hp)} (hk23 : ∀ (v0 : Nat) (v1 : Nat) (v2 : Nat) (v3 : Nat) (v4 : Int) (h : Hp), Cl C h → C v1 → C v2 → C v3 → Ao (qI C h) (k23 v0 v1 v2 v3 v4 h)) {v0 : Nat} {v1 : Nat} {v2 : Nat} {v3 : Nat} {v4 : Int} {h : Hp} (c : Cl C h) (Cv1 : C v1) (Cv2 : C v2) (Cv3 : C v3) : Ao (qI C h) (f_law_law_b23 k23 v0 v1 v2 v3 v4 h) := by
  unfold f_law_law_b23
  have F0 := Av.rf c
  refine ao_it ao_no ?_
  refine ao_it ?_ ?_
  · exact ao_so F0
  · refine ao_it ?_ ao_no
    refine ao_it ?_ ?_
    · refine ao_it ?_ ao_no
      refine ao_it ?_ ao_no
      refine ao_it ?_ ao_no
      refine ao_it ?_ ao_no
      refine ao_it ?_ ao_no
      refine ao_b2 F0 (av_law_feed (F0.cl) Cv1 Cv3) (fun r31 h29 F1 => ?_)
      refine ao_it ?_ ao_no
      refine ao_it ?_ ao_no
      refine ao_it ?_ ao_no
      refine ao_it ?_ ao_no
      refine ao_it ?_ ao_no
      refine ao_it ao_no ?_
      refine ao_b2 F1 (av_mP_feed (F1.cl) Cv2) (fun r40 h38 F2 => ?_)
      refine ao_b2 F2 (av_mP_thrown (F2.cl)) (fun r43 h41 F3 => ?_)
      refine ao_it ?_ ?_
      · refine ao_it ?_ ?_
        · exact ao_jI F3 (av_law_law_b269 hk23 (F3.cl) Cv1 Cv2 Cv3)
        · refine ao_it ao_no ?_
          refine ao_it ?_ ao_no
          refine ao_it ?_ ?_
          · exact ao_jI F3 (av_law_law_b269 hk23 (F3.cl) Cv1 Cv2 Cv3)
          · exact ao_so F3
      · exact ao_so F3
    · refine ao_it ?_ ?_
      · refine ao_it ?_ ao_no
        refine ao_b2 F0 (av_law_end (F0.cl) Cv1 Cv3) (fun r51 h49 F4 => ?_)
        refine ao_it ?_ ao_no
        refine ao_it ao_no ?_
        refine ao_b2 F4 (av_mP_end (F4.cl) Cv2) (fun r56 h54 F5 => ?_)
        refine ao_b2 F5 (av_mP_thrown (F5.cl)) (fun r59 h57 F6 => ?_)
        refine ao_it ?_ ?_
        · refine ao_it ?_ ?_
          · exact ao_jI F6 (av_law_law_b325 hk23 (F6.cl) Cv1 Cv2 Cv3)
          · refine ao_it ao_no ?_
            refine ao_it ?_ ao_no
            refine ao_it ?_ ?_
            · exact ao_jI F6 (av_law_law_b325 hk23 (F6.cl) Cv1 Cv2 Cv3)
            · exact ao_so F6
        · exact ao_so F6
      · refine ao_it ?_ ?_
        · refine ao_it ?_ ao_no
          refine ao_b2 F0 (av_law_key (F0.cl) Cv1) (fun r67 h65 F7 => ?_)
          refine ao_it ?_ ao_no
          refine ao_it ao_no ?_
          refine ao_b1 F7 (av_mP_key (F7.cl) Cv2) (fun h70 F8 => ?_)
          refine ao_b2 F8 (av_mP_thrown (F8.cl)) (fun r74 h72 F9 => ?_)
          refine ao_it ?_ ?_
          · exact ao_jI F9 (av_law_law_b2028 hk23 (F9.cl) Cv1 Cv2 Cv3)
          · exact ao_so F9
        · refine ao_it ?_ ?_
          · refine ao_it ?_ ao_no
            refine ao_b2 F0 (av_law_random (F0.cl) Cv1) (fun r80 h78 F10 => ?_)
            refine ao_it ?_ ao_no
            refine ao_it ao_no ?_
            refine ao_b1 F10 (av_mP_random (F10.cl) Cv2) (fun h83 F11 => ?_)
            refine ao_b2 F11 (av_mP_thrown (F11.cl)) (fun r87 h85 F12 => ?_)
            refine ao_it ?_ ?_
            · exact ao_jI F12 (av_law_law_b2028 hk23 (F12.cl) Cv1 Cv2 Cv3)
            · exact ao_so F12
          · refine ao_it ?_ ?_
            · refine ao_it ?_ ao_no
              refine ao_it ?_ ao_no
              refine ao_it ?_ ao_no
              refine ao_b2 F0 (av_law_parameter (F0.cl) Cv1) (fun r95 h93 F13 => ?_)
              refine ao_it ?_ ao_no
              refine ao_it ?_ ao_no
              refine ao_it ?_ ao_no
              refine ao_it ao_no ?_
              refine ao_b1 F13 (av_mP_parameter (F13.cl) Cv2) (fun h100 F14 => ?_)
              refine ao_b2 F14 (av_mP_thrown (F14.cl)) (fun r104 h102 F15 => ?_)
              refine ao_it ?_ ?_
              · exact ao_jI F15 (av_law_law_b2028 hk23 (F15.cl) Cv1 Cv2 Cv3)
              · exact ao_so F15
            · refine ao_it ?_ ?_
              · refine ao_b2 F0 (av_law_begin (F0.cl) Cv1) (fun r109 h107 F16 => ?_)
                refine ao_it ao_no ?_
                refine ao_b1 F16 (av_mP_begin (F16.cl) Cv2) (fun h111 F17 => ?_)
                refine ao_b2 F17 (av_mP_thrown (F17.cl)) (fun r115 h113 F18 => ?_)
                refine ao_it ?_ ?_
                · exact ao_jI F18 (av_law_law_b2028 hk23 (F18.cl) Cv1 Cv2 Cv3)
                · exact ao_so F18
              · refine ao_it ?_ ?_
                · refine ao_it ?_ ao_no
                  refine ao_it ?_ ao_no
                  refine ao_it ?_ ?_
                  · exact ao_jI F0 (av_law_law_b505 hk23 (F0.cl) Cv1 Cv2 Cv3 Cv1)
                  · exact ao_jI F0 (av_law_law_b505 hk23 (F0.cl) Cv1 Cv2 Cv3 Cv1)
                · refine ao_it ?_ ?_
                  · refine ao_it ?_ ao_no
                    refine ao_it ?_ ao_no
                    refine ao_b2 F0 (av_law_write (F0.cl) Cv1 Cv3) (fun r126 h124 F19 => ?_)
                    refine ao_it ?_ ao_no
                    refine ao_it ?_ ao_no
                    refine ao_it ao_no ?_
                    refine ao_b2 F19 (av_mP_write (F19.cl) Cv2) (fun r132 h130 F20 => ?_)
                    refine ao_b2 F20 (av_mP_thrown (F20.cl)) (fun r135 h133 F21 => ?_)
                    refine ao_it ?_ ?_
                    · refine ao_it ?_ ?_
                      · exact ao_jI F21 (av_law_law_b633 hk23 (F21.cl) Cv1 Cv2 Cv3)
                      · refine ao_it ao_no ?_
                        refine ao_it ?_ ao_no
                        refine ao_it ?_ ?_
                        · exact ao_jI F21 (av_law_law_b633 hk23 (F21.cl) Cv1 Cv2 Cv3)
                        · exact ao_so F21
                    · exact ao_so F21
                  · refine ao_it ?_ ?_
                    · refine ao_it ?_ ao_no
                      refine ao_it ?_ ao_no
                      refine ao_b2 F0 (av_law_finish (F0.cl) Cv1 Cv3) (fun r144 h142 F22 => ?_)
                      refine ao_it ?_ ao_no
                      refine ao_it ?_ ao_no
                      refine ao_it ao_no ?_
                      refine ao_b2 F22 (av_mP_finish (F22.cl) Cv2) (fun r150 h148 F23 => ?_)
                      refine ao_b2 F23 (av_mP_thrown (F23.cl)) (fun r153 h151 F24 => ?_)
                      refine ao_it ?_ ?_
                      · refine ao_it ?_ ?_
                        · exact ao_jI F24 (av_law_law_b708 hk23 (F24.cl) Cv1 Cv2 Cv3)
                        · refine ao_it ao_no ?_
                          refine ao_it ?_ ao_no
                          refine ao_it ?_ ?_
                          · exact ao_jI F24 (av_law_law_b702 hk23 (F24.cl) Cv1 Cv2 Cv3)
                          · exact ao_jI F24 (av_law_law_b702 hk23 (F24.cl) Cv1 Cv2 Cv3)
                      · exact ao_so F24
                    · refine ao_it ?_ ?_
                      · refine ao_it ?_ ao_no
                        refine ao_it ?_ ao_no
                        refine ao_it ?_ ao_no
                        refine ao_b2 F0 (av_law_reset (F0.cl) Cv1 Cv3) (fun r163 h161 F25 => ?_)
                        refine ao_it ?_ ao_no
                        refine ao_it ?_ ao_no
                        refine ao_it ?_ ao_no
                        refine ao_it ao_no ?_
                        refine ao_b2 F25 (av_mP_reset (F25.cl) Cv2) (fun r170 h168 F26 => ?_)
                        refine ao_b2 F26 (av_mP_thrown (F26.cl)) (fun r173 h171 F27 => ?_)
                        refine ao_it ?_ ?_
                        · refine ao_it ?_ ?_
                          · exact ao_jI F27 (av_law_law_b795 hk23 (F27.cl) Cv1 Cv2 Cv3)
                          · refine ao_it ao_no ?_
                            refine ao_it ?_ ao_no
                            refine ao_it ?_ ?_
                            · exact ao_jI F27 (av_law_law_b789 hk23 (F27.cl) Cv1 Cv2 Cv3)
                            · exact ao_jI F27 (av_law_law_b789 hk23 (F27.cl) Cv1 Cv2 Cv3)
                        · exact ao_so F27
                      · refine ao_it ?_ ?_
                        · refine ao_it ?_ ao_no
                          refine ao_it ?_ ao_no
                          refine ao_it ?_ ao_no
                          refine ao_b2 F0 (av_law_stop (F0.cl) Cv1 Cv3) (fun r183 h181 F28 => ?_)
                          refine ao_it ?_ ao_no
                          refine ao_it ?_ ao_no
                          refine ao_it ?_ ao_no
                          refine ao_it ao_no ?_
                          refine ao_b2 F28 (av_mP_stop (F28.cl) Cv2) (fun r190 h188 F29 => ?_)
                          refine ao_b2 F29 (av_mP_thrown (F29.cl)) (fun r193 h191 F30 => ?_)
                          refine ao_it ?_ ?_
                          · refine ao_it ?_ ?_
                            · exact ao_jI F30 (av_law_law_b882 hk23 (F30.cl) Cv1 Cv2 Cv3)
                            · refine ao_it ao_no ?_
                              refine ao_it ?_ ao_no
                              refine ao_it ?_ ?_
                              · exact ao_jI F30 (av_law_law_b876 hk23 (F30.cl) Cv1 Cv2 Cv3)
                              · exact ao_jI F30 (av_law_law_b876 hk23 (F30.cl) Cv1 Cv2 Cv3)
                          · exact ao_so F30
                        · refine ao_it ?_ ?_
                          · refine ao_it ?_ ao_no
                            refine ao_it ?_ ao_no
                            refine ao_it ?_ ao_no
                            refine ao_b2 F0 (av_law_read (F0.cl) Cv1 Cv3) (fun r203 h201 F31 => ?_)
                            refine ao_it ?_ ao_no
                            refine ao_it ?_ ao_no
                            refine ao_it ?_ ao_no
                            refine ao_it ao_no ?_
                            refine ao_b2 F31 (av_mP_read (F31.cl) Cv2) (fun r210 h208 F32 => ?_)
                            refine ao_b2 F32 (av_mP_thrown (F32.cl)) (fun r213 h211 F33 => ?_)
                            refine ao_it ?_ ?_
                            · refine ao_it ?_ ?_
                              · exact ao_jI F33 (av_law_law_b962 hk23 (F33.cl) Cv1 Cv2 Cv3)
                              · refine ao_it ao_no ?_
                                refine ao_it ?_ ao_no
                                refine ao_it ?_ ?_
                                · exact ao_jI F33 (av_law_law_b962 hk23 (F33.cl) Cv1 Cv2 Cv3)
                                · exact ao_so F33
                            · exact ao_so F33
                          · refine ao_it ?_ ?_
                            · refine ao_it ?_ ao_no
                              refine ao_b2 F0 (av_law_outs (F0.cl) Cv3) (fun r221 h219 F34 => ?_)
                              refine ao_it ?_ ao_no
                              refine ao_it ao_no ?_
                              refine ao_b2 F34 (av_mP_outs (F34.cl) Cv2) (fun r226 h224 F35 => ?_)
                              refine ao_b2 F35 (av_mP_thrown (F35.cl)) (fun r229 h227 F36 => ?_)
                              refine ao_it ?_ ?_
                              · refine ao_it ?_ ?_
                                · exact ao_jI F36 (av_law_law_b1017 hk23 (F36.cl) Cv1 Cv2 Cv3)
                                · refine ao_it ao_no ?_
                                  refine ao_it ?_ ao_no
                                  refine ao_it ?_ ?_
                                  · exact ao_jI F36 (av_law_law_b1017 hk23 (F36.cl) Cv1 Cv2 Cv3)
                                  · exact ao_so F36
                              · exact ao_so F36
                            · refine ao_it ?_ ?_
                              · refine ao_it ?_ ao_no
                                refine ao_it ?_ ao_no
                                refine ao_b2 F0 (av_law_close (F0.cl) Cv1 Cv3) (fun r238 h236 F37 => ?_)
                                refine ao_it ?_ ao_no
                                refine ao_it ?_ ao_no
                                refine ao_it ao_no ?_
                                refine ao_b2 F37 (av_mP_close (F37.cl) Cv2) (fun r244 h242 F38 => ?_)
                                refine ao_b2 F38 (av_mP_thrown (F38.cl)) (fun r247 h245 F39 => ?_)
                                refine ao_it ?_ ?_
                                · refine ao_it ?_ ?_
                                  · exact ao_jI F39 (av_law_law_b1092 hk23 (F39.cl) Cv1 Cv2 Cv3)
                                  · refine ao_it ao_no ?_
                                    refine ao_it ?_ ao_no
                                    refine ao_it ?_ ?_
                                    · exact ao_jI F39 (av_law_law_b1086 hk23 (F39.cl) Cv1 Cv2 Cv3)
                                    · exact ao_jI F39 (av_law_law_b1086 hk23 (F39.cl) Cv1 Cv2 Cv3)
                                · exact ao_so F39
                              · refine ao_it ?_ ?_
                                · refine ao_it ?_ ao_no
                                  refine ao_b2 F0 (av_law_raw (F0.cl) Cv1) (fun r255 h253 F40 => ?_)
                                  refine ao_it ?_ ao_no
                                  refine ao_it ao_no ?_
                                  refine ao_b1 F40 (av_mP_raw (F40.cl) Cv2) (fun h258 F41 => ?_)
                                  refine ao_b2 F41 (av_mP_thrown (F41.cl)) (fun r262 h260 F42 => ?_)
                                  refine ao_it ?_ ?_
                                  · exact ao_jI F42 (av_law_law_b2028 hk23 (F42.cl) Cv1 Cv2 Cv3)
                                  · exact ao_so F42
                                · refine ao_it ?_ ?_
                                  · refine ao_it ?_ ao_no
                                    refine ao_it ?_ ao_no
                                    refine ao_b2 F0 (av_law_deliver (F0.cl) Cv1 Cv3) (fun r269 h267 F43 => ?_)
                                    refine ao_it ?_ ao_no
                                    refine ao_it ?_ ao_no
                                    refine ao_it ao_no ?_
                                    refine ao_b2 F43 (av_mP_deliver (F43.cl) Cv2) (fun r275 h273 F44 => ?_)
                                    refine ao_b2 F44 (av_mP_thrown (F44.cl)) (fun r278 h276 F45 => ?_)
                                    refine ao_it ?_ ?_
                                    · refine ao_it ?_ ?_
                                      · exact ao_jI F45 (av_law_law_b1196 hk23 (F45.cl) Cv1 Cv2 Cv3)
                                      · refine ao_it ao_no ?_
                                        refine ao_it ?_ ao_no
                                        refine ao_it ?_ ?_
                                        · exact ao_jI F45 (av_law_law_b1196 hk23 (F45.cl) Cv1 Cv2 Cv3)
                                        · exact ao_so F45
                                    · exact ao_so F45
                                  · refine ao_it ?_ ?_
                                    · refine ao_it ?_ ao_no
                                      refine ao_it ?_ ao_no
                                      refine ao_b2 F0 (av_law_drop (F0.cl) Cv1 Cv3) (fun r287 h285 F46 => ?_)
                                      refine ao_it ?_ ao_no
                                      refine ao_it ?_ ao_no
                                      refine ao_it ao_no ?_
                                      refine ao_b2 F46 (av_mP_drop (F46.cl) Cv2) (fun r293 h291 F47 => ?_)
                                      refine ao_b2 F47 (av_mP_thrown (F47.cl)) (fun r296 h294 F48 => ?_)
                                      refine ao_it ?_ ?_
                                      · refine ao_it ?_ ?_
                                        · exact ao_jI F48 (av_law_law_b1264 hk23 (F48.cl) Cv1 Cv2 Cv3)
                                        · refine ao_it ao_no ?_
                                          refine ao_it ?_ ao_no
                                          refine ao_it ?_ ?_
                                          · exact ao_jI F48 (av_law_law_b1264 hk23 (F48.cl) Cv1 Cv2 Cv3)
                                          · exact ao_so F48
                                      · exact ao_so F48
                                    · refine ao_it ?_ ?_
                                      · refine ao_it ?_ ao_no
                                        refine ao_it ?_ ao_no
                                        refine ao_b2 F0 (av_law_twice (F0.cl) Cv1 Cv3) (fun r305 h303 F49 => ?_)
                                        refine ao_it ?_ ao_no
                                        refine ao_it ?_ ao_no
                                        refine ao_it ao_no ?_
                                        refine ao_b2 F49 (av_mP_twice (F49.cl) Cv2) (fun r311 h309 F50 => ?_)
                                        refine ao_b2 F50 (av_mP_thrown (F50.cl)) (fun r314 h312 F51 => ?_)
                                        refine ao_it ?_ ?_
                                        · refine ao_it ?_ ?_
                                          · exact ao_jI F51 (av_law_law_b1332 hk23 (F51.cl) Cv1 Cv2 Cv3)
                                          · refine ao_it ao_no ?_
                                            refine ao_it ?_ ao_no
                                            refine ao_it ?_ ?_
                                            · exact ao_jI F51 (av_law_law_b1332 hk23 (F51.cl) Cv1 Cv2 Cv3)
                                            · exact ao_so F51
                                        · exact ao_so F51
                                      · refine ao_it ?_ ?_
                                        · refine ao_it ?_ ao_no
                                          refine ao_it ?_ ao_no
                                          refine ao_it ?_ ao_no
                                          refine ao_it ?_ ao_no
                                          refine ao_b2 F0 (av_law_alter (F0.cl) Cv1 Cv3) (fun r325 h323 F52 => ?_)
                                          refine ao_it ?_ ao_no
                                          refine ao_it ?_ ao_no
                                          refine ao_it ?_ ao_no
                                          refine ao_it ?_ ao_no
                                          refine ao_it ao_no ?_
                                          refine ao_b2 F52 (av_mP_alter (F52.cl) Cv2) (fun r333 h331 F53 => ?_)
                                          refine ao_b2 F53 (av_mP_thrown (F53.cl)) (fun r336 h334 F54 => ?_)
                                          refine ao_it ?_ ?_
                                          · refine ao_it ?_ ?_
                                            · exact ao_jI F54 (av_law_law_b1424 hk23 (F54.cl) Cv1 Cv2 Cv3)
                                            · refine ao_it ao_no ?_
                                              refine ao_it ?_ ao_no
                                              refine ao_it ?_ ?_
                                              · exact ao_jI F54 (av_law_law_b1424 hk23 (F54.cl) Cv1 Cv2 Cv3)
                                              · exact ao_so F54
                                          · exact ao_so F54
                                        · refine ao_it ?_ ?_
                                          · refine ao_it ?_ ao_no
                                            refine ao_b2 F0 (av_law_flow (F0.cl) Cv1) (fun r344 h342 F55 => ?_)
                                            refine ao_it ?_ ao_no
                                            refine ao_it ao_no ?_
                                            refine ao_b1 F55 (av_mP_flow (F55.cl) Cv2) (fun h347 F56 => ?_)
                                            refine ao_b2 F56 (av_mP_thrown (F56.cl)) (fun r351 h349 F57 => ?_)
                                            refine ao_it ?_ ?_
                                            · exact ao_jI F57 (av_law_law_b2028 hk23 (F57.cl) Cv1 Cv2 Cv3)
                                            · exact ao_so F57
                                          · refine ao_it ?_ ?_
                                            · refine ao_it ?_ ao_no
                                              refine ao_b2 F0 (av_law_tick (F0.cl) Cv1 Cv3) (fun r357 h355 F58 => ?_)
                                              refine ao_it ?_ ao_no
                                              refine ao_it ao_no ?_
                                              refine ao_b2 F58 (av_mP_tick (F58.cl) Cv2) (fun r362 h360 F59 => ?_)
                                              refine ao_b2 F59 (av_mP_thrown (F59.cl)) (fun r365 h363 F60 => ?_)
                                              refine ao_it ?_ ?_
                                              · refine ao_it ?_ ?_
                                                · exact ao_jI F60 (av_law_law_b1516 hk23 (F60.cl) Cv1 Cv2 Cv3)
                                                · refine ao_it ao_no ?_
                                                  refine ao_it ?_ ao_no
                                                  refine ao_it ?_ ?_
                                                  · exact ao_jI F60 (av_law_law_b1516 hk23 (F60.cl) Cv1 Cv2 Cv3)
                                                  · exact ao_so F60
                                              · exact ao_so F60
                                            · refine ao_it ?_ ?_
                                              · refine ao_it ?_ ao_no
                                                refine ao_it ?_ ao_no
                                                refine ao_b2 F0 (av_law_line (F0.cl) Cv3) (fun r374 h372 F61 => ?_)
                                                refine ao_it ?_ ao_no
                                                refine ao_it ?_ ao_no
                                                refine ao_it ao_no ?_
                                                refine ao_b2 F61 (av_mP_line (F61.cl) Cv2) (fun r380 h378 F62 => ?_)
                                                refine ao_b2 F62 (av_mP_thrown (F62.cl)) (fun r383 h381 F63 => ?_)
                                                refine ao_it ?_ ?_
                                                · refine ao_it ?_ ?_
                                                  · exact ao_jI F63 (av_law_law_b1584 hk23 (F63.cl) Cv1 Cv2 Cv3)
                                                  · refine ao_it ao_no ?_
                                                    refine ao_it ?_ ao_no
                                                    refine ao_it ?_ ?_
                                                    · exact ao_jI F63 (av_law_law_b1584 hk23 (F63.cl) Cv1 Cv2 Cv3)
                                                    · exact ao_so F63
                                                · exact ao_so F63
                                              · refine ao_it ?_ ?_
                                                · refine ao_it ?_ ao_no
                                                  refine ao_it ?_ ao_no
                                                  refine ao_it ?_ ao_no
                                                  refine ao_b2 F0 (av_law_at (F0.cl) Cv1 Cv3) (fun r393 h391 F64 => ?_)
                                                  refine ao_it ?_ ao_no
                                                  refine ao_it ?_ ao_no
                                                  refine ao_it ?_ ao_no
                                                  refine ao_it ao_no ?_
                                                  refine ao_b2 F64 (av_mP_at (F64.cl) Cv2) (fun r400 h398 F65 => ?_)
                                                  refine ao_b2 F65 (av_mP_thrown (F65.cl)) (fun r403 h401 F66 => ?_)
                                                  refine ao_it ?_ ?_
                                                  · refine ao_it ?_ ?_
                                                    · exact ao_jI F66 (av_law_law_b1664 hk23 (F66.cl) Cv1 Cv2 Cv3)
                                                    · refine ao_it ao_no ?_
                                                      refine ao_it ?_ ao_no
                                                      refine ao_it ?_ ?_
                                                      · exact ao_jI F66 (av_law_law_b1664 hk23 (F66.cl) Cv1 Cv2 Cv3)
                                                      · exact ao_so F66
                                                  · exact ao_so F66
                                                · refine ao_it ?_ ?_
                                                  · refine ao_it ?_ ao_no
                                                    refine ao_it ?_ ao_no
                                                    refine ao_b2 F0 (av_law_look (F0.cl) Cv1 Cv3) (fun r412 h410 F67 => ?_)
                                                    refine ao_it ?_ ao_no
                                                    refine ao_it ?_ ao_no
                                                    refine ao_it ao_no ?_
                                                    refine ao_b2 F67 (av_mP_look (F67.cl) Cv2) (fun r418 h416 F68 => ?_)
                                                    refine ao_b2 F68 (av_mP_thrown (F68.cl)) (fun r421 h419 F69 => ?_)
                                                    refine ao_it ?_ ?_
                                                    · refine ao_it ?_ ?_
                                                      · exact ao_jI F69 (av_law_law_b1732 hk23 (F69.cl) Cv1 Cv2 Cv3)
                                                      · refine ao_it ao_no ?_
                                                        refine ao_it ?_ ao_no
                                                        refine ao_it ?_ ?_
                                                        · exact ao_jI F69 (av_law_law_b1732 hk23 (F69.cl) Cv1 Cv2 Cv3)
                                                        · exact ao_so F69
                                                    · exact ao_so F69
                                                  · refine ao_it ?_ ?_
                                                    · refine ao_it ?_ ao_no
                                                      refine ao_it ?_ ao_no
                                                      refine ao_b2 F0 (av_law_book (F0.cl) Cv1 Cv3) (fun r430 h428 F70 => ?_)
                                                      refine ao_it ?_ ao_no
                                                      refine ao_it ?_ ao_no
                                                      refine ao_it ao_no ?_
                                                      refine ao_b2 F70 (av_mP_book (F70.cl) Cv2) (fun r436 h434 F71 => ?_)
                                                      refine ao_b2 F71 (av_mP_thrown (F71.cl)) (fun r439 h437 F72 => ?_)
                                                      refine ao_it ?_ ?_
                                                      · refine ao_it ?_ ?_
                                                        · exact ao_jI F72 (av_law_law_b1800 hk23 (F72.cl) Cv1 Cv2 Cv3)
                                                        · refine ao_it ao_no ?_
                                                          refine ao_it ?_ ao_no
                                                          refine ao_it ?_ ?_
                                                          · exact ao_jI F72 (av_law_law_b1800 hk23 (F72.cl) Cv1 Cv2 Cv3)
                                                          · exact ao_so F72
                                                      · exact ao_so F72
                                                    · refine ao_it ?_ ?_
                                                      · refine ao_it ?_ ao_no
                                                        refine ao_it ?_ ao_no
                                                        refine ao_it ?_ ao_no
                                                        refine ao_b2 F0 (av_law_space (F0.cl) Cv1 Cv3) (fun r449 h447 F73 => ?_)
                                                        refine ao_it ?_ ao_no
                                                        refine ao_it ?_ ao_no
                                                        refine ao_it ?_ ao_no
                                                        refine ao_it ao_no ?_
                                                        refine ao_b2 F73 (av_mP_space (F73.cl) Cv2) (fun r456 h454 F74 => ?_)
                                                        refine ao_b2 F74 (av_mP_thrown (F74.cl)) (fun r459 h457 F75 => ?_)
                                                        refine ao_it ?_ ?_
                                                        · refine ao_it ?_ ?_
                                                          · exact ao_jI F75 (av_law_law_b1879 hk23 (F75.cl) Cv1 Cv2 Cv3)
                                                          · refine ao_it ao_no ?_
                                                            refine ao_it ?_ ao_no
                                                            refine ao_it ?_ ?_
                                                            · exact ao_jI F75 (av_law_law_b1879 hk23 (F75.cl) Cv1 Cv2 Cv3)
                                                            · exact ao_so F75
                                                        · exact ao_so F75
                                                      · refine ao_it ?_ ?_
                                                        · refine ao_it ?_ ao_no
                                                          refine ao_it ?_ ao_no
                                                          refine ao_it ?_ ao_no
                                                          refine ao_b2 F0 (av_law_stream (F0.cl) Cv1 Cv3) (fun r469 h467 F76 => ?_)
                                                          refine ao_it ?_ ao_no
                                                          refine ao_it ?_ ao_no
                                                          refine ao_it ?_ ao_no
                                                          refine ao_it ao_no ?_
                                                          refine ao_b2 F76 (av_mP_stream (F76.cl) Cv2) (fun r476 h474 F77 => ?_)
                                                          refine ao_b2 F77 (av_mP_thrown (F77.cl)) (fun r479 h477 F78 => ?_)
                                                          refine ao_it ?_ ?_
                                                          · refine ao_it ?_ ?_
                                                            · exact ao_jI F78 (av_law_law_b1958 hk23 (F78.cl) Cv1 Cv2 Cv3)
                                                            · refine ao_it ao_no ?_
                                                              refine ao_it ?_ ao_no
                                                              refine ao_it ?_ ?_
                                                              · exact ao_jI F78 (av_law_law_b1958 hk23 (F78.cl) Cv1 Cv2 Cv3)
                                                              · exact ao_so F78
                                                          · exact ao_so F78
                                                        · refine ao_it ?_ ?_
                                                          · refine ao_it ?_ ao_no
                                                            refine ao_it ?_ ao_no
                                                            refine ao_b2 F0 (av_law_streams (F0.cl) Cv1 Cv3) (fun r488 h486 F79 => ?_)
                                                            refine ao_it ?_ ao_no
                                                            refine ao_it ?_ ao_no
                                                            refine ao_it ao_no ?_
                                                            refine ao_b2 F79 (av_mP_streams (F79.cl) Cv2) (fun r494 h492 F80 => ?_)
                                                            refine ao_b2 F80 (av_mP_thrown (F80.cl)) (fun r497 h495 F81 => ?_)
                                                            refine ao_it ?_ ?_
                                                            · refine ao_it ?_ ?_
                                                              · exact ao_jI F81 (av_law_law_b2025 hk23 (F81.cl) Cv1 Cv2 Cv3)
                                                              · refine ao_it ao_no ?_
                                                                refine ao_it ?_ ao_no
                                                                refine ao_it ?_ ?_
                                                                · exact ao_jI F81 (av_law_law_b2025 hk23 (F81.cl) Cv1 Cv2 Cv3)
                                                                · exact ao_so F81
                                                            · exact ao_so F81
                                                          · exact ao_jI F0 (av_law_law_b2028 hk23 (F0.cl) Cv1 Cv2 Cv3)
theorem av_law_law_b23_lp {C : Nat → Prop} (n : Nat) : ∀ {v0 : Nat} {v1 : Nat} {v2 : Nat} {v3 : Nat} {v4 : Int} {h : Hp}, Cl C h → C v1 → C v2 → C v3 → Ao (qI C h) (f_law_law_b23_lp n v0 v1 v2 v3 v4 h) := by
  induction n with
  | zero => intros; exact ao_no
  | succ n ih => intro v0 v1 v2 v3 v4 h c Cv1 Cv2 Cv3; exact av_law_law_b23 (fun _ _ _ _ _ h => ih) c Cv1 Cv2 Cv3
theorem av_law_law {C : Nat → Prop} {v0 : Nat} {h : Hp} (c : Cl C h) : Ao (qI C h) (f_law_law v0 h) := by
  unfold f_law_law
  have F0 := Av.rf c
  refine ao_it ?_ ao_no
  refine ao_nw F0 (fun h2 F1 => ?_)
  refine ao_b1 F1 (av_cP_init (F1.cl) (F0.cl.n)) (fun h4 F2 => ?_)
  refine ao_m (F0.cl.n) (fun y6 Cy6 => ?_)
  refine ao_it ?_ ao_no
  refine ao_nw F2 (fun h9 F4 => ?_)
  refine ao_b1 F4 (av_mP_init (F4.cl) (F2.cl.n)) (fun h11 F5 => ?_)
  refine ao_m (F2.cl.n) (fun y13 Cy13 => ?_)
  refine ao_it ?_ ao_no
  refine ao_nw F5 (fun h16 F7 => ?_)
  refine ao_m (F5.cl.n) (fun y18 Cy18 => ?_)
  exact ao_jI F7 (av_law_law_b23_lp FU (F7.cl) Cy6 Cy13 Cy18)
