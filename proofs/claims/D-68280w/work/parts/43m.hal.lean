/-! streams, class: isGone -/
section
variable {h h' h1 h4 h0 : Hp} {p m n i j k x a y s : Nat} {fr c a' b' last arr v : Int} {F T X F7 T7 X7 : Nat → Int} {L : Nat → List Nat} {z z' : HSt} {S S6 S7 S6' S7' : Int → Prop} {w w' : Nat → Nat} {l : List Nat}
/-- the hall behind steps on one record's ranges and numbers -/
theorem gz_end (C : HC h a w s z) (hi : i < 256) (x0 : hR h (a + 1) i ≠ 0) (ex : x = hR h (a + 1) i) (Z : GZ h h4 (a + 8) x) (O : OnI h4 h') (eo : ∀ y k, y ≠ x → hI h' y k = hI h4 y k) (e45 : ∀ k, 4 ≤ k → k ≤ 7 → hI h' x k = hI h4 x k) (hx : HCs h' x i z') (G : GS h' a x i z l F7 T7 X7 S6 S7) (s6 : ∀ j : Nat, S6 j ↔ zM z' i j = 2) (s7 : ∀ j : Nat, S7 j ↔ zM z' i j = 3) (zq : zQ z' = zQ z) (zj : ∀ f j, j ≠ i → zP z' f j = zP z f j) (zf : ∀ f, (f = 0 ∨ f = 2 ∨ 9 ≤ f) → zP z' f i = zP z f i) (zm : ∀ j, j ≠ i → zM z' j = zM z j) (zz : z'.2.2.2 = z.2.2.2) : ∃ w', HC h' a w' s z' ∧ HO h a w z h' w' z' := by
  have W := C.W
  have xw : w x = 1000 + i := by rw [ex]; exact C.xw hi x0
  have G4 : GF (fun y => y = x) h4 h' := OnI.gf (C := fun y => y = x) O (fun y k hy => eo y k hy)
  have FF : GF (fun y => SpD h (a + 8) y ∨ y = x) h h' := Z.1.1.trans' G4 (fun y _ q => Or.inr q)
  have dd : ∀ y, SpD h' (a + 8) y ↔ SpD h4 (a + 8) y := fun y => by unfold SpD; rw [O.r]
  obtain ⟨w', u1, u2⟩ := C.gz hi x0 ex FF (fun y hy => Z.1.2 y ((dd y).1 hy)) (fun y hy => by
    obtain ⟨m, fr, F, T, X, L, q1, _⟩ := G
    obtain ⟨⟨p1, p2⟩, _, ⟨⟨_, _, p3⟩, ⟨_, _, p4, _⟩, ⟨_, _, p5, _⟩⟩, _⟩ := q1.1
    rcases hy with e | e | e | e
    · rw [e]; exact p2
    · rw [e]; exact p3
    · rw [e]; exact p4
    · rw [e]; exact p5) ⟨by rw [e45 4 (by decide) (by decide), Z.2.1 4 (by decide) (by decide)], by rw [e45 5 (by decide) (by decide), Z.2.1 5 (by decide) (by decide)]⟩ hx G s6 s7 zq zj zf zm zz
  refine ⟨w', u1, ⟨?_, ?_⟩, u2, FF.mono (fun y hy => ?_)⟩
  · have b := bl_room (h := h) (h' := h') (o := a + 17) (FF.s (W.2.2.2.2.2.2 _ (by rw [W.sp.2]; decide)).2 (fun t => by
      rcases t with t | t
      · have := W.2.1 _ t; rw [W.sp.2] at this; omega
      · rw [← t, W.sp.2] at xw; omega)) (FF.s (W.2.2.2.2.2.2 _ (by rw [W.2.2.2.1 _ (Or.inr (Or.inr (Or.inl rfl)))]; decide)).2 (fun t => by
      have w11 := W.2.2.2.1 _ (Or.inr (Or.inr (Or.inl rfl)) : BlD h (a + 17) (hR h (a + 17) 1))
      rcases t with t | t
      · have := W.2.1 _ t; omega
      · rw [t, xw] at w11; omega))
    have sp : spN h' (a + 8) = spN h4 (a + 8) := by unfold spN; rw [O.r, O.l]
    unfold hrN hCnt
    rw [zq, b.1, sp, O.n]
    have := Z.2.2.2.1
    omega
  · have b := bl_room (h := h) (h' := h') (o := a + 17) (FF.s (W.2.2.2.2.2.2 _ (by rw [W.sp.2]; decide)).2 (fun t => by
      rcases t with t | t
      · have := W.2.1 _ t; rw [W.sp.2] at this; omega
      · rw [← t, W.sp.2] at xw; omega)) (FF.s (W.2.2.2.2.2.2 _ (by rw [W.2.2.2.1 _ (Or.inr (Or.inr (Or.inl rfl)))]; decide)).2 (fun t => by
      have w11 := W.2.2.2.1 _ (Or.inr (Or.inr (Or.inl rfl)) : BlD h (a + 17) (hR h (a + 17) 1))
      rcases t with t | t
      · have := W.2.1 _ t; omega
      · rw [t, xw] at w11; omega))
    have sp : spZ h' (a + 8) = spZ h4 (a + 8) := by unfold spZ; rw [O.r, O.l]
    unfold hrZ hCnt
    rw [zq, b.2, sp, O.z]
    have := Z.2.2.2.2
    omega
  · rcases hy with t | t
    · rw [W.2.1 _ t]; decide
    · rw [t, xw]; omega
/-- rows behind what became of a frame -/
theorem zGoS_w : zQ (zGoS z i p n last arr) = zQ z ∧ (∀ f j, j ≠ i → zP (zGoS z i p n last arr) f j = zP z f j) ∧ (∀ f, (f = 0 ∨ f = 2 ∨ 9 ≤ f) → zP (zGoS z i p n last arr) f i = zP z f i) ∧ (∀ j, j ≠ i → zM (zGoS z i p n last arr) j = zM z j) ∧ (zGoS z i p n last arr).2.2.2 = z.2.2.2 ∧ zM (zGoS z i p n last arr) i = zGm z i p n arr := by
  unfold zGoS
  refine ⟨rfl, fun f j hj => by rw [zP_uPj hj, zP_uPj hj]; rfl, fun f hf => by rw [zP_uPn (by omega), zP_uPn (by omega)]; rfl, fun j hj => ?_, rfl, ?_⟩
  · show zM (uM z i (zGm z i p n arr)) j = _
    exact zM_uMn hj
  · show zM (uM z i (zGm z i p n arr)) i = _
    exact zM_uMe
/-- all that is here of stream i -/
theorem gs_count (C : HC h0 a w s z) (V : HV s z) (hi : i < 256) (G : GS h a x i z l F7 T7 X7 S6 S7) {u : Nat → Int} (s7 : ∀ j : Nat, S7 j ↔ u j = 3) : f_cSpans_count (a + 8) (hI h x 7) h = some (ctV u 3 (zP z 2 i).toNat, h) := by
  obtain ⟨m, fr, F, T, X, L, q1, q2, q3, q4, q5, q6⟩ := G
  have w2 := (V.S hi).2.2.2.1.1
  have lim := q1.2.2.2 (2 + 2 * i) (by omega) (by omega)
  rw [show (2 + 2 * i - 1) / 2 = i by omega] at lim
  have := c_scount q1.1 q2.2 (fun k hk => q1.2.2.1.2.2.1 (2 + 2 * i) k hk) lim.1 (q1.TT V (by omega) (by omega))
  rw [this]
  have := cn_ct (u := u) (v := 3) (n := (zP z 2 i).toNat) (L (2 + 2 * i)) (-1) lim.1 (by omega) (by omega) (fun j _ _ => (q4 j).trans (s7 j)) (fun k hk => by have := lim.2 k hk; omega)
  rw [this]
  show some (ctV u 3 (zP z 2 i).toNat - ctV u 3 (-1 + 1 : Int).toNat, h) = _
  rw [show (-1 + 1 : Int).toNat = 0 from rfl]
  show some (ctV u 3 (zP z 2 i).toNat - 0, h) = _
  rw [Int.sub_zero]
/-- the end and the state, arrived -/
theorem c_gArr (C : HC h a w s z) (V : HV s z) (hi : i < 256) (x0 : hR h (a + 1) i ≠ 0) (ex : x = hR h (a + 1) i) (Z : GZ h h4 (a + 8) x) (G : GS h4 a x i z l F7 T7 X7 S6 S7) (s6 : ∀ j : Nat, S6 j ↔ zGm z i p n 1 j = 2) (s7 : ∀ j : Nat, S7 j ↔ zGm z i p n 1 j = 3) (hl : last = 0 ∨ last = 1) : ∃ h' w', f_cHall_isGone_b47 a x last h4 = some h' ∧ HC h' a w' s (zGoS z i p n last 1) ∧ HO h a w z h' w' (zGoS z i p n last 1) := by
  obtain ⟨t0, t1, t2, t3, t8, t9, t10, t11⟩ := C.xs hi x0
  rw [← ex] at t0 t1 t2 t3 t8 t9 t10 t11
  have xz : x ≠ 0 := by rw [ex]; exact x0
  have xw : w x = 1000 + i := by rw [ex]; exact C.xw hi x0
  have W := C.W
  obtain ⟨g1, g2, g3, g4, g5, g6⟩ := zGoS_w (z := z) (i := i) (p := p) (n := n) (last := last) (arr := 1)
  have z1 : zP (zGoS z i p n last 1) 1 i = zG1 z i p n last 1 := by unfold zGoS; rw [zP_uPe]
  have z4 : zP (zGoS z i p n last 1) 4 i = zG4 z i last 1 := by unfold zGoS; rw [zP_uPn (by decide), zP_uPe]
  have zo : ∀ f, f ≠ 1 → f ≠ 4 → zP (zGoS z i p n last 1) f i = zP z f i := fun f f1 f4 => by unfold zGoS; rw [zP_uPn f1, zP_uPn f4]; rfl
  have k4 : ∀ k, k ≠ 6 → k ≠ 7 → hI h4 x k = hI h x k := Z.2.1
  have fin : ∀ h', OnI h4 h' → (∀ y k, y ≠ x → hI h' y k = hI h4 y k) → (∀ k, k ≠ 0 → k ≠ 3 → hI h' x k = hI h4 x k) → hI h' x 0 = zG1 z i p n last 1 → hI h' x 3 = zG4 z i last 1 → GS h' a x i z l F7 T7 X7 S6 S7 → ∃ w', HC h' a w' s (zGoS z i p n last 1) ∧ HO h a w z h' w' (zGoS z i p n last 1) := fun h' O eo ek e0 e3 G' => by
    refine gz_end C hi x0 ex Z O eo (fun k k1 k2 => ek k (by omega) (by omega)) ?_ G' (fun j => by rw [g6]; exact s6 j) (fun j => by rw [g6]; exact s7 j) g1 g2 g3 g4 g5
    unfold HCs
    rw [z1, z4, zo 2 (by decide) (by decide), zo 3 (by decide) (by decide), zo 5 (by decide) (by decide), zo 6 (by decide) (by decide), zo 7 (by decide) (by decide), zo 8 (by decide) (by decide), e0, e3, ek 1 (by decide) (by decide), ek 2 (by decide) (by decide), ek 11 (by decide) (by decide), k4 1 (by decide) (by decide), k4 2 (by decide) (by decide), k4 11 (by decide) (by decide), O.j, Z.2.2.1, Z.2.2.1, Z.2.2.1]
    refine ⟨rfl, t1, t2, rfl, t8, t9, t10, fun q => t11 ?_⟩
    unfold zG1 at q
    split at q
    · omega
    · exact q
  -- behind the end
  have b57 : ∀ h5, OnI h4 h5 → (∀ y k, y ≠ x → hI h5 y k = hI h4 y k) → (∀ k, k ≠ 3 → hI h5 x k = hI h4 x k) → hI h5 x 3 = zG4 z i last 1 → GS h5 a x i z l F7 T7 X7 S6 S7 → GZ h h4 (a + 8) x → ∃ h' w', f_cHall_isGone_b57 a x h5 = some h' ∧ HC h' a w' s (zGoS z i p n last 1) ∧ HO h a w z h' w' (zGoS z i p n last 1) := fun h5 O eo ek e3 G5 _ => by
    have v0 : hI h5 x 0 = zP z 1 i := by rw [ek 0 (by decide), k4 0 (by decide) (by decide)]; exact t0
    have v1 : hI h5 x 1 = zP z 2 i := by rw [ek 1 (by decide), k4 1 (by decide) (by decide)]; exact t1
    have cnt := gs_count C V hi G5 s7
    have ra : hR h5 a 6 = a + 8 := by
      rw [O.r, (Z.keep C (y := a) (by rw [show a = a + 0 from rfl, W.own 0]; decide) (by rw [show a = a + 0 from rfl, W.own 0]; decide)).2.2 (fun t => by rw [← t, show a = a + 0 from rfl, W.own 0] at xw; omega) |>.r]
      exact C.L.rr.2.2.2.2.2.1
    have no : zG1 z i p n last 1 = zP z 1 i → ∃ h' w', some h5 = some h' ∧ HC h' a w' s (zGoS z i p n last 1) ∧ HO h a w z h' w' (zGoS z i p n last 1) := fun q => by
      obtain ⟨w', r1, r2⟩ := fin h5 O eo (fun k k0 k3 => ek k k3) (by rw [v0, q]) e3 G5
      exact ⟨h5, w', rfl, r1, r2⟩
    unfold f_cHall_isGone_b57
    rw [if_neg xz, v0]
    by_cases c1 : zP z 1 i = 1
    · rw [if_neg (fun t => t c1), e3]
      by_cases c2 : zG4 z i last 1 = 4
      · rw [if_neg (fun t => t c2), ra, if_neg (by omega), cnt, b2_some, v1]
        by_cases c3 : ctV (zGm z i p n 1) 3 (zP z 2 i).toNat = zP z 2 i
        · rw [if_neg (fun t => t c3), lt1_eq]
          have e1 : zG1 z i p n last 1 = 2 := by unfold zG1; rw [if_pos ⟨c1, c2, c3⟩]
          -- the record's codes
          obtain ⟨w', r1, r2⟩ := fin (sI h5 x 0 2) O.s (fun y k hy => by rw [hI_sI, if_neg (fun t => hy t.1)]; exact eo y k hy) (fun k k0 k3 => by rw [hI_sI, if_neg (fun t => k0 t.2)]; exact ek k k3) (by rw [hI_sI, if_pos ⟨rfl, rfl⟩, e1]) (by rw [hI_sI, if_neg (by omega)]; exact e3) (GS.wr C hi x0 ex ⟨Z.1.1.trans' (OnI.gf (C := fun y => y = x) O (fun y k hy => eo y k hy)) (fun y _ q => Or.inr q), fun y hy => Z.1.2 y (by unfold SpD at hy ⊢; rw [O.r] at hy; exact hy)⟩ (by decide) G5)
          exact ⟨_, w', rfl, r1, r2⟩
        · rw [if_pos c3]
          exact no (by unfold zG1; rw [if_neg (fun t => c3 t.2.2)])
      · rw [if_pos c2]
        exact no (by unfold zG1; rw [if_neg (fun t => c2 t.2.1)])
    · rw [if_pos c1]
      exact no (by unfold zG1; rw [if_neg (fun t => c1 t.1)])
  unfold f_cHall_isGone_b47
  rcases hl with e | e
  · rw [if_pos e]
    have z40 : zG4 z i last 1 = zP z 4 i := by unfold zG4; rw [if_neg (by omega)]
    exact b57 h4 OnI.refl (fun _ _ _ => rfl) (fun _ _ => rfl) (by rw [k4 3 (by decide) (by decide), t3, z40]) G Z
  · rw [if_neg (by omega), if_neg xz, lt1_eq]
    have z40 : zG4 z i last 1 = 4 := by
      unfold zG4
      by_cases q : zP z 4 i = 4
      · rw [if_neg (fun t => t.2 q)]; exact q
      · rw [if_pos ⟨e, q⟩, if_pos rfl]
    exact b57 _ OnI.refl.s (fun y k hy => by rw [hI_sI, if_neg (fun t => hy t.1)]) (fun k hk => by rw [hI_sI, if_neg (fun t => hk t.2)]) (by rw [hI_sI, if_pos ⟨rfl, rfl⟩, z40]) (GS.wr C hi x0 ex Z.1 (by decide) G) Z
end
