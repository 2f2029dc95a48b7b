/-! streams, class: gone, whole -/
section
variable {h h' : Hp} {n i j k x a s : Nat} {arr v : Int} {z : HSt} {w w' : Nat → Nat} {kind fa fb fc id : Int}
theorem LHl.wq (L : LHl h a) {u : Nat} (hu : u < 2) : hR h (a + 3) u = a + 4 + u := by
  rcases (show u = 0 ∨ u = 1 by omega) with e | e
  · rw [e]; exact L.rr.2.2.2.2.2.2.2.2.2.1
  · rw [e]; exact L.rr.2.2.2.2.2.2.2.2.2.2.1
theorem zg5 : zGone s z 5 fa fb fc n 0 = uP z 19 (if fa < 256 then fa.toNat else 0) 1 := rfl
theorem zg16 : zGone s z 16 fa fb fc n 0 = if fa = zQ z 6 then uQ z 8 1 else z := rfl
theorem zg17 : zGone s z 17 fa fb fc n 0 = if fb = zP z 15 (if fa < 256 then fa.toNat else 0) then uP z 18 (if fa < 256 then fa.toNat else 0) 1 else z := rfl
theorem zg18 : zGone s z 18 fa fb fc n 0 = if fa = zQ z 12 then uQ z 16 1 else z := rfl
theorem zg19 : zGone s z 19 fa fb fc n 0 = if fa = zQ z 22 then uQ z 26 1 else z := rfl
theorem zg20 : zGone s z 20 fa fb fc n 0 = if fa = zQ z 2 then uQ z 2 (-1) else z := rfl
theorem zg21 : zGone s z 21 fa fb fc n 0 = if fb = zP z 7 (if fa < 256 then fa.toNat else 0) then uP z 7 (if fa < 256 then fa.toNat else 0) (-1) else z := rfl
theorem zg22 : zGone s z 22 fa fb fc n 0 = if fa = zQ z 15 then uQ z 15 (-1) else z := rfl
theorem zg23 : zGone s z 23 fa fb fc n 0 = if fa = zQ z 25 then uQ z 25 (-1) else z := rfl

theorem c_il22 (C : HC h a w s z) : ∃ h', f_cHall_isLost a 22 id fa fb h = some h' ∧ HC h' a w s (zGone s z 22 fa fb fc n 0) ∧ HO h a w z h' w (zGone s z 22 fa fb fc n 0) := by
  have L := C.L
  have l0 := L.1
  obtain ⟨r1, r2, r3, r4, r5, r6, r7, r8, r22, r30, r31, r120⟩ := L.rr
  obtain ⟨l1, l2, l3, _⟩ := L.ll
  have wy : ∀ u, u < 2 → HCw h (a + 4 + u) u z := fun u hu => by
    have := (C.wy (2 * u)).1
    rw [show 2 * u / 2 % 2 = u by omega] at this; exact this
  have n4 : ¬ a + 4 = 0 := by omega
  clear r1 r2 r4 r5 r6 r7 r8 r22 r120 l1 l2
  rw [zg22]
  rw [il0 (by decide), il15 (by decide), il36 (by decide), il68 (by decide) (by decide), il111 (by decide), il133 (by decide)]
  unfold f_cHall_isLost_b166 f_cHall_isLost_b178 f_cHall_isLost_b222
  have t0 : (Int.toNat 0) = 0 := rfl
  have q := wy 0 (by decide)
  have v5 : hJ h (a + 4) 5 = zQ z 15 := q.2.2.2.2.2.2.1
  rw [if_pos rfl, r3, if_neg (by omega), (show w32 (22 - 22) = 0 by decide), l3, if_pos (by decide), if_pos (by decide), t0, r30, if_neg n4, v5]
  by_cases c : fa = zQ z 15
  · rw [if_neg (fun t => t c), if_neg n4, lt1_eq, if_pos c]
    have := C.w5 (u := 0) (v := -1) (by decide)
    exact ⟨_, rfl, this.1, this.2⟩
  · rw [if_pos c, if_pos (by decide), if_neg n4, lt1_eq, if_neg c]
    have := C.w5 (u := 0) (v := zQ z 15) (by decide)
    have e : uQ z (15 + 10 * 0) (zQ z 15) = z := uQ_id
    rw [e] at this
    exact ⟨_, rfl, this.1, this.2⟩
theorem c_il23 (C : HC h a w s z) : ∃ h', f_cHall_isLost a 23 id fa fb h = some h' ∧ HC h' a w s (zGone s z 23 fa fb fc n 0) ∧ HO h a w z h' w (zGone s z 23 fa fb fc n 0) := by
  have L := C.L
  have l0 := L.1
  obtain ⟨r1, r2, r3, r4, r5, r6, r7, r8, r22, r30, r31, r120⟩ := L.rr
  obtain ⟨l1, l2, l3, _⟩ := L.ll
  have wy : ∀ u, u < 2 → HCw h (a + 4 + u) u z := fun u hu => by
    have := (C.wy (2 * u)).1
    rw [show 2 * u / 2 % 2 = u by omega] at this; exact this
  have n4 : ¬ a + 5 = 0 := by omega
  clear r1 r2 r4 r5 r6 r7 r8 r22 r120 l1 l2
  rw [zg23]
  rw [il0 (by decide), il15 (by decide), il36 (by decide), il68 (by decide) (by decide), il111 (by decide), il133 (by decide)]
  unfold f_cHall_isLost_b166 f_cHall_isLost_b178 f_cHall_isLost_b222
  have t0 : (Int.toNat 1) = 1 := rfl
  have q := wy 1 (by decide)
  have v5 : hJ h (a + 5) 5 = zQ z 25 := q.2.2.2.2.2.2.1
  rw [if_neg (by decide), if_neg (by decide), r3, if_neg (by omega), (show w32 (23 - 22) = 1 by decide), l3, if_pos (by decide), if_pos (by decide), t0, r31, if_neg n4, v5]
  by_cases c : fa = zQ z 25
  · rw [if_neg (fun t => t c), if_neg n4, lt1_eq, if_pos c]
    have := C.w5 (u := 1) (v := -1) (by decide)
    exact ⟨_, rfl, this.1, this.2⟩
  · rw [if_pos c, if_pos (by decide), if_neg n4, lt1_eq, if_neg c]
    have := C.w5 (u := 1) (v := zQ z 25) (by decide)
    have e : uQ z (15 + 10 * 1) (zQ z 25) = z := uQ_id
    rw [e] at this
    exact ⟨_, rfl, this.1, this.2⟩
/-- lost: a frame that is told again -/
theorem c_hIsLost (C : HC h a w s z) (hi : i < 256) (hid : fa < 256 → i = fa.toNat) (ok : zOk s z kind fa fb fc n) (k8 : kind ≠ 8) (k4 : kind ≠ 4) : ∃ h', f_cHall_isLost a kind (i : Int) fa fb h = some h' ∧ HC h' a w s (zGone s z kind fa fb fc n 0) ∧ HO h a w z h' w (zGone s z kind fa fb fc n 0) := by
  have L := C.L
  have l0 := L.1
  obtain ⟨r1, r2, r3, r4, r5, r6, r7, r8, r22, r30, r31, r120⟩ := L.rr
  obtain ⟨l1, l2, l3, _⟩ := L.ll
  have xi : ix (i : Int) 256 := ⟨by omega, by omega⟩
  obtain ⟨f0, _, _, fR, fS, fk⟩ := ok
  obtain ⟨q0, q9, q10, q11, q12, q13, q14, q15, q16⟩ := C.2.1.1
  have wy : ∀ u, u < 2 → HCw h (a + 4 + u) u z := fun u hu => by
    have := (C.wy (2 * u)).1
    rw [show 2 * u / 2 % 2 = u by omega] at this; exact this
  have ei : fa < 256 → (if fa < 256 then fa.toNat else 0) = i := fun t => by rw [if_pos t, hid t]
  rcases fk with e | e | e | e | e | e | e | e | e | e | e
  · exact absurd e k4
  · -- 5
    have fR' := fR (Or.inl e)
    have y0 := (C.y0 hi).2 (by rw [hid fR'.1]; exact fR'.2)
    subst e
    rw [zg5, ei fR'.1]
    unfold f_cHall_isLost
    rw [if_neg (by decide), r2, if_neg (by omega), l2, if_pos xi, Int.toNat_natCast, if_neg y0, lt1_eq, il15 (by decide), il36 (by decide), il68 (by decide) (by decide), il111 (by decide), il133 (by decide), il166 (by decide) (by decide)]
    have := C.y1 (v := 1) hi y0 (Or.inr ⟨rfl, rfl⟩)
    exact ⟨_, rfl, this.1, this.2⟩
  · exact absurd e k8
  · -- 16
    subst e
    rw [zg16]
    rw [il0 (by decide)]
    unfold f_cHall_isLost_b15
    rw [if_neg (by decide), q14]
    by_cases c : fa = zQ z 6
    · rw [if_neg (fun t => t c), lt1_eq, il36 (by decide), il68 (by decide) (by decide), il111 (by decide), il133 (by decide), il166 (by decide) (by decide), if_pos c]
      have := C.q8 (v := 1)
      exact ⟨_, rfl, this.1, this.2⟩
    · rw [if_pos c, il36 (by decide), il68 (by decide) (by decide), il111 (by decide), il133 (by decide), il166 (by decide) (by decide), if_neg c]
      exact ⟨h, rfl, C, HO.rf⟩
  · -- 17
    have fR' := fR (Or.inr e)
    have y0 := (C.y0 hi).2 (by rw [hid fR'.1]; exact fR'.2)
    have y6 := (C.ys hi y0).2.2.2.2.2.2.1
    subst e
    rw [zg17, ei fR'.1]
    rw [il0 (by decide), il15 (by decide)]
    unfold f_cHall_isLost_b36
    rw [if_neg (by decide), r2, if_neg (by omega), l2, if_pos xi, Int.toNat_natCast, if_neg y0, y6]
    by_cases c : fb = zP z 15 i
    · rw [if_neg (fun t => t c), if_pos xi, lt1_eq, il68 (by decide) (by decide), il111 (by decide), il133 (by decide), il166 (by decide) (by decide), if_pos c]
      have := C.y1 (v := 1) hi y0 (Or.inl ⟨rfl, rfl⟩)
      exact ⟨_, rfl, this.1, this.2⟩
    · rw [if_pos c, il68 (by decide) (by decide), il111 (by decide), il133 (by decide), il166 (by decide) (by decide), if_neg c]
      exact ⟨h, rfl, C, HO.rf⟩
  · -- 18
    subst e
    rw [zg18]
    rw [il0 (by decide), il15 (by decide), il36 (by decide)]
    unfold f_cHall_isLost_b68 f_cHall_isLost_b80
    have t0 : (Int.toNat 0) = 0 := rfl
    have q := wy 0 (by decide)
    rw [if_pos rfl, r3, if_neg (by omega), (show w32 (18 - 18) = 0 by decide), l3, if_pos (by decide), t0, r30, if_neg (by omega), (show hI h (a + 4) 2 = zQ z 12 from q.2.2.1)]
    by_cases c : fa = zQ z 12
    · rw [if_neg (fun t => t c), if_pos (by decide), lt1_eq, il111 (by decide), il133 (by decide), il166 (by decide) (by decide), if_pos c]
      have := C.w6 (u := 0) (v := 1) (by decide)
      exact ⟨_, rfl, this.1, this.2⟩
    · rw [if_pos c, il111 (by decide), il133 (by decide), il166 (by decide) (by decide), if_neg c]
      exact ⟨h, rfl, C, HO.rf⟩
  · -- 19
    subst e
    rw [zg19]
    rw [il0 (by decide), il15 (by decide), il36 (by decide)]
    unfold f_cHall_isLost_b68 f_cHall_isLost_b80
    have t0 : (Int.toNat 1) = 1 := rfl
    have q := wy 1 (by decide)
    rw [if_neg (by decide), if_neg (by decide), r3, if_neg (by omega), (show w32 (19 - 18) = 1 by decide), l3, if_pos (by decide), t0, r31, if_neg (by omega), (show hI h (a + 5) 2 = zQ z 22 from q.2.2.1)]
    by_cases c : fa = zQ z 22
    · rw [if_neg (fun t => t c), if_pos (by decide), lt1_eq, il111 (by decide), il133 (by decide), il166 (by decide) (by decide), if_pos c]
      have := C.w6 (u := 1) (v := 1) (by decide)
      exact ⟨_, rfl, this.1, this.2⟩
    · rw [if_pos c, il111 (by decide), il133 (by decide), il166 (by decide) (by decide), if_neg c]
      exact ⟨h, rfl, C, HO.rf⟩
  · -- 20
    subst e
    rw [zg20]
    rw [il0 (by decide), il15 (by decide), il36 (by decide), il68 (by decide) (by decide)]
    unfold f_cHall_isLost_b111
    rw [if_neg (by decide), q10]
    by_cases c : fa = zQ z 2
    · rw [if_neg (fun t => t c), lt1_eq, il133 (by decide), il166 (by decide) (by decide), if_pos c]
      have := C.q2 (v := -1)
      exact ⟨_, rfl, this.1, this.2⟩
    · rw [if_pos c, il133 (by decide), il166 (by decide) (by decide), if_neg c]
      exact ⟨h, rfl, C, HO.rf⟩
  · -- 21
    have fS' := fS e
    have x0 := (C.x0 hi).2 (by rw [hid fS'.1]; exact fS'.2)
    have x10 := (C.xs hi x0).2.2.2.2.2.2.1
    subst e
    rw [zg21, ei fS'.1]
    rw [il0 (by decide), il15 (by decide), il36 (by decide), il68 (by decide) (by decide), il111 (by decide)]
    unfold f_cHall_isLost_b133
    rw [if_neg (by decide), r1, if_neg (by omega), l1, if_pos xi, Int.toNat_natCast, if_neg x0, x10]
    by_cases c : fb = zP z 7 i
    · rw [if_neg (fun t => t c), if_pos xi, lt1_eq, il166 (by decide) (by decide), if_pos c]
      have := C.x7 (v := -1) hi x0
      exact ⟨_, rfl, this.1, this.2⟩
    · rw [if_pos c, il166 (by decide) (by decide), if_neg c]
      exact ⟨h, rfl, C, HO.rf⟩
  · subst e; exact c_il22 C
  · subst e; exact c_il23 C
theorem c_hGone (C : HC h a w s z) (V : HV s z) (ok : zOk s z kind fa fb fc n) (ha : arr = 0 ∨ arr = 1) (hb : fa < 4611686018427387904) (rN : hrN h a z ≤ CN) (rZ : hrZ h a z ≤ CZ) : ∃ h' w', f_cHall_gone a kind fa fb (n : Int) fc arr h = some h' ∧ HC h' a w' s (zGone s z kind fa fb fc n arr) ∧ HO h a w z h' w' (zGone s z kind fa fb fc n arr) := by
  have f0 := ok.1
  obtain ⟨i, hi, hid, e0⟩ : ∃ i : Nat, i < 256 ∧ (fa < 256 → i = fa.toNat) ∧ f_cHall_gone a kind fa fb (n : Int) fc arr h = f_cHall_gone_b14 a kind fa fb (n : Int) fc arr (i : Int) h := by
    unfold f_cHall_gone
    by_cases c : 256 ≤ fa
    · rw [if_pos c]; exact ⟨0, by decide, fun t => by omega, rfl⟩
    · rw [if_neg c]
      refine ⟨fa.toNat, by omega, fun _ => rfl, ?_⟩
      rw [w32_id ⟨by omega, by omega⟩, show ((fa.toNat : Nat) : Int) = fa by omega]
  rw [e0]
  have L := C.L
  have l0 := L.1
  obtain ⟨r1, r2, r3, r4, r5, r6, r7, r8, r22, r30, r31, r120⟩ := L.rr
  obtain ⟨l1, l2, l3, _⟩ := L.ll
  have xi : ix (i : Int) 256 := ⟨by omega, by omega⟩
  unfold f_cHall_gone_b14
  by_cases k8 : kind = 8
  · have o8 := ok.2.1 k8
    have ei := hid o8.1
    have o8' : (zP z 0 i = 1 ∧ zSd s i) ∧ 0 ≤ fb ∧ fb + n ≤ zP z 3 i ∧ (fc = 1 → zP z 4 i ≠ 0) := by rw [ei]; exact o8.2
    obtain ⟨sd, b0, bn, c4⟩ := o8'
    have x0 := (C.x0 hi).2 sd
    have v4 := (V.S hi).2.2.2.1.1
    obtain ⟨p, rfl⟩ : ∃ p : Nat, fb = p := ⟨fb.toNat, by omega⟩
    have pB : c32 (p : Int) := ⟨by omega, by omega⟩
    have go : ∀ last, last = (if fc = 1 then 1 else 0) → ∃ h' w', f_cHall_gone_b55 a arr (i : Int) (zOI s z i) a (hR h (a + 1) i) (p : Int) (n : Int) last h = some h' ∧ HC h' a w' s (zMay s (zOI s z i) (zGoS z i p n fc arr) i) ∧ HO h a w z h' w' (zMay s (zOI s z i) (zGoS z i p n fc arr) i) := fun last el => by
      have eg : zGoS z i p n last arr = zGoS z i p n fc arr := by
        have e4 : zG4 z i last arr = zG4 z i fc arr := by
          unfold zG4
          by_cases t : fc = 1
          · rw [if_pos t] at el; rw [el, t]
          · rw [if_neg t] at el; rw [el, if_neg (fun q => by omega), if_neg (fun q => t q.1)]
        unfold zGoS zG1
        rw [e4]
      have hl : last = 0 ∨ last = 1 := by rw [el]; split <;> omega
      obtain ⟨h1, w1, u1, u2, u3⟩ := c_hIsGone (n := n) (p := p) C V hi x0 (by omega) hl ha rN rZ
      rw [eg] at u2 u3
      have V1 : HV s (zGoS z i p n fc arr) := V.goS hi sd (by omega) c4
      have th : zP (zGoS z i p n fc arr) 0 i = 1 := by rw [zGoS_w.2.2.1 0 (Or.inl rfl)]; exact sd.1
      obtain ⟨h2, t1, t2, t3, _⟩ := c_hMay (was := zOI s z i) u2 V1 hi th
      unfold f_cHall_gone_b55
      rw [if_neg (by omega), u1, b1_some, t1, b1_some]
      exact ⟨h2, w1, rfl, t2, u3.tr t3⟩
    rw [if_neg (fun t => t k8), c_hOver C V hi sd.1, b2_some, r1, if_neg (by omega), l1, if_pos xi, Int.toNat_natCast, w32_id pB]
    have ez : zGone s z kind fa (p : Int) fc n arr = zMay s (zOI s z i) (zGoS z i p n fc arr) i := by
      unfold zGone
      simp only []
      rw [if_pos k8, if_pos o8.1, ← ei, Int.toNat_natCast]
    rw [ez]
    by_cases t : fc = 1
    · rw [if_neg (fun q => q t)]; exact go 1 (by rw [if_pos t])
    · rw [if_pos t]; exact go 0 (by rw [if_neg t])
  · rw [if_pos k8]
    by_cases k4 : kind = 4
    · have o4 := ok.2.2.1 k4
      have ei := hid o4.1
      have o4' : (zP z 0 i = 1 ∧ zSd s i) ∧ 3 ≤ zP z 1 i := by rw [ei]; exact o4.2
      obtain ⟨sd, b3⟩ := o4'
      have x0 := (C.x0 hi).2 sd
      have ez : zGone s z kind fa fb fc n arr = zMay s (zOI s z i) (if arr = 1 then uP z 1 i 4 else if zP z 1 i = 3 then uP z 8 i 1 else z) i := by
        unfold zGone
        simp only []
        rw [if_neg k8, if_pos k4, if_pos o4.1, ← ei]
      rw [ez, if_neg (fun t => t k4), c_hOver C V hi sd.1, b2_some]
      rcases ha with e | e
      · rw [if_pos e, r1, if_neg (by omega), l1, if_pos xi, Int.toNat_natCast, if_neg x0, lt1_eq, if_neg (by omega)]
        have C1 := C.x8 (v := 1) hi x0
        have V1 : HV s (if zP z 1 i = 3 then uP z 8 i 1 else z) := by
          by_cases t : zP z 1 i = 3
          · rw [if_pos t]; exact V.setP hi (by decide) (Or.inr (Or.inr (Or.inl ⟨rfl, Or.inr rfl, sd.1, sd.2⟩)))
          · rw [if_neg t]; exact V
        have th : zP (if zP z 1 i = 3 then uP z 8 i 1 else z) 0 i = 1 := by
          by_cases t : zP z 1 i = 3
          · rw [if_pos t, zP_uPn (by decide)]; exact sd.1
          · rw [if_neg t]; exact sd.1
        obtain ⟨h2, t1, t2, t3, _⟩ := c_hMay (was := zOI s z i) C1.1 V1 hi th
        unfold f_cHall_gone_b114
        rw [t1, b1_some]
        exact ⟨h2, w, rfl, t2, C1.2.tr t3⟩
      · rw [if_neg (by omega), r1, if_neg (by omega), l1, if_pos xi, Int.toNat_natCast, if_neg x0, lt1_eq, if_pos e]
        have C1 := C.x4 hi x0
        have V1 : HV s (uP z 1 i 4) := V.x4 hi sd b3
        obtain ⟨h2, t1, t2, t3, _⟩ := c_hMay (was := zOI s z i) C1.1 V1 hi (by rw [zP_uPn (by decide)]; exact sd.1)
        unfold f_cHall_gone_b114
        rw [t1, b1_some]
        exact ⟨h2, w, rfl, t2, C1.2.tr t3⟩
    · rw [if_pos k4]
      rcases ha with e | e
      · rw [if_neg (fun t => t e)]
        obtain ⟨h', u1, u2, u3⟩ := c_hIsLost C hi hid ok k8 k4
        rw [u1, b1_some, e]
        exact ⟨h', w, rfl, u2, u3⟩
      · rw [if_pos (by omega)]
        have ez : zGone s z kind fa fb fc n arr = z := by
          unfold zGone
          simp only []
          rw [if_neg k8, if_neg k4, if_pos e]
        rw [ez]
        exact ⟨h, w, rfl, C, HO.rf⟩
end
