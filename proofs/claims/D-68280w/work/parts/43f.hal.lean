/-! streams, class: a stream begins -/
section
variable {h h' h'' : Hp} {a s i j k x y m X' Y' : Nat} {w w' w'' : Nat → Nat} {z z' z'' : HSt} {v b was c : Int}
/-- numbers of a stream that is not there -/
def zNo (z : HSt) (i : Nat) : Prop := zP z 0 i = 0 ∧ (zP z 1 i = 0 ∧ zP z 2 i = 0 ∧ zP z 3 i = 0 ∧ zP z 4 i = 0 ∧ zP z 6 i = 0 ∧ zP z 7 i = -1 ∧ zP z 8 i = 0) ∧ (zP z 10 i = 0 ∧ zP z 11 i = 0 ∧ zP z 12 i = 0 ∧ zP z 13 i = 0 ∧ zP z 14 i = -1 ∧ zP z 16 i = 0 ∧ zP z 17 i = 0 ∧ zP z 18 i = 0 ∧ zP z 19 i = 0 ∧ zP z 20 i = 0)
theorem HV.no (V : HV s z) (hi : i < 256) (h0 : zP z 0 i = 0) : zNo z i := by
  have v := V.S hi
  exact ⟨h0, v.2.1 (fun t => by omega), v.2.2.1 (fun t => by omega)⟩
/-- a new record for sending; for getting -/
def NwS (h : Hp) (x : Nat) (L : Int) : Prop := (hI h x 0 = 0 ∧ hI h x 1 = 0 ∧ hI h x 2 = 0 ∧ hI h x 3 = 0 ∧ hI h x 4 = -1 ∧ hI h x 5 = -1 ∧ hI h x 6 = -1 ∧ hI h x 7 = -1 ∧ hI h x 11 = 0) ∧ hJ h x 8 = L ∧ hJ h x 9 = 0 ∧ hJ h x 10 = -1
def NwR (h : Hp) (y : Nat) (G : Int) : Prop := (hI h y 0 = G ∧ hI h y 1 = 0 ∧ hI h y 2 = 0 ∧ hI h y 3 = 0 ∧ hI h y 4 = 0 ∧ hI h y 5 = -1 ∧ hI h y 6 = G ∧ hI h y 7 = -1 ∧ hI h y 10 = 0 ∧ hI h y 11 = 0 ∧ hI h y 12 = 0) ∧ hJ h y 8 = 0 ∧ hJ h y 9 = 0
theorem HC.beg (C : HC h a w s z) (D : zNo z i) (hi : i < 256) (n : hN h ≤ hN h') (e : ∀ x, w x ≠ 0 → x ≠ a + 1 → x ≠ a + 2 → Sx h h' x) (el1 : ln h' (a + 1) = ln h (a + 1)) (el2 : ln h' (a + 2) = ln h (a + 2)) (e1 : ∀ k, hR h' (a + 1) k = if k = i then X' else hR h (a + 1) k) (e2 : ∀ k, hR h' (a + 2) k = if k = i then Y' else hR h (a + 2) k)
    (hx : (zSd s i → (hN h ≤ X' ∧ X' < hN h') ∧ NwS h' X' (zLi s z i)) ∧ (¬ zSd s i → X' = 0)) (hy : (zRc s i → (hN h ≤ Y' ∧ Y' < hN h') ∧ NwR h' Y' (zGr s z i)) ∧ (¬ zRc s i → Y' = 0)) (hxy : zSd s i → zRc s i → X' ≠ Y') : ∃ w', HC h' a w' s (zBeg s z i) ∧ ∀ x, x < hN h → w' x = w x := by
  obtain ⟨d0, ds, dr⟩ := D
  have W := C.W
  have L := C.L
  have l0 := L.1
  have N64 : 64 ≤ hN h := by have := (W.2.2.2.2.2.2 a (by rw [show a = a + 0 from rfl, W.own 0]; decide)); omega
  obtain ⟨w', ew⟩ : ∃ w' : Nat → Nat, w' = fun x => if hN h ≤ x then (if x = X' then 1000 + i else if x = Y' then 2000 + i else 0) else w x := ⟨_, rfl⟩
  have wo : ∀ x, x < hN h → w' x = w x := fun x hx => by rw [ew]; exact if_neg (by omega)
  have wold : ∀ x, w x ≠ 0 → w' x = w x := fun x hx => wo x (W.2.2.2.2.2.2 x hx).2
  have wX : zSd s i → w' X' = 1000 + i := fun q => by
    have := ((hx.1 q).1).1
    rw [ew]; show (if hN h ≤ X' then (if X' = X' then 1000 + i else if X' = Y' then 2000 + i else 0) else w X') = _
    rw [if_pos this, if_pos rfl]
  have wY : zRc s i → w' Y' = 2000 + i := fun q => by
    have := ((hy.1 q).1).1
    rw [ew]; show (if hN h ≤ Y' then (if Y' = X' then 1000 + i else if Y' = Y' then 2000 + i else 0) else w Y') = _
    rw [if_pos this, if_neg (fun t => by
      by_cases sd : zSd s i
      · exact hxy sd q t.symm
      · have := hx.2 sd; omega), if_pos rfl]
  refine ⟨w', ?_, wo⟩
  have o : ∀ k, k < 8 → k ≠ 1 → k ≠ 2 → Sx h h' (a + k) := fun k hk k1 k2 => e _ (by rw [W.own k hk]; omega) (by omega) (by omega)
  have ec : ∀ x, w x ≠ 0 → w x ≠ 2 → w x ≠ 3 → Sx h h' x := fun x hx h2 h3 => e x hx (fun t => h2 (by rw [t]; exact W.own 1)) (fun t => h3 (by rw [t]; exact W.own 2))
  have zp : ∀ f j, (j ≠ i ∨ (f ≠ 0 ∧ f ≠ 5 ∧ f ≠ 15)) → zP (zBeg s z i) f j = zP z f j := fun f j hh => by
    rcases hh with hh | hh
    · exact zBeg_j hh
    · rw [zBeg_P hh]
  have L' : LHl h' a := by
    obtain ⟨l1, l2, l3⟩ := L
    have c1 : ∀ q ∈ LHlR, q.1 = 0 ∨ q.1 = 3 ∨ q.1 = 12 := by decide
    have c2 : ∀ q ∈ LHlU, q.1 = 1 ∨ q.1 = 2 ∨ q.1 = 3 ∨ q.1 = 6 ∨ q.1 = 7 ∨ q.1 = 13 ∨ q.1 = 22 := by decide
    have so := W.so C.L
    have s12 : Sx h h' (a + 12) := ec _ (by rw [so.1]; decide) (by rw [so.1]; decide) (by rw [so.1]; decide)
    have s13 : Sx h h' (a + 13) := ec _ (by rw [so.2]; decide) (by rw [so.2]; decide) (by rw [so.2]; decide)
    have s22 : Sx h h' (a + 22) := ec _ (by rw [W.2.2.2.2.1]; decide) (by rw [W.2.2.2.2.1]; decide) (by rw [W.2.2.2.2.1]; decide)
    refine ⟨l1, fun q hq => ?_, fun q hq => ?_⟩
    · rcases c1 q hq with t | t | t
      · rw [t, (o 0 (by decide) (by decide) (by decide)).r, ← t]; exact l2 q hq
      · rw [t, (o 3 (by decide) (by decide) (by decide)).r, ← t]; exact l2 q hq
      · rw [t, s12.r, ← t]; exact l2 q hq
    · rcases c2 q hq with t | t | t | t | t | t | t
      · rw [t, el1, ← t]; exact l3 q hq
      · rw [t, el2, ← t]; exact l3 q hq
      · rw [t, (o 3 (by decide) (by decide) (by decide)).l, ← t]; exact l3 q hq
      · rw [t, (o 6 (by decide) (by decide) (by decide)).l, ← t]; exact l3 q hq
      · rw [t, (o 7 (by decide) (by decide) (by decide)).l, ← t]; exact l3 q hq
      · rw [t, s13.l, ← t]; exact l3 q hq
      · rw [t, s22.l, ← t]; exact l3 q hq
  have s8 : Sx h h' (a + 8) := ec _ (by rw [W.sp.1]; decide) (by rw [W.sp.1]; decide) (by rw [W.sp.1]; decide)
  have s12 : Sx h h' (a + 12) := ec _ (by rw [(W.so C.L).1]; decide) (by rw [(W.so C.L).1]; decide) (by rw [(W.so C.L).1]; decide)
  have s17 : Sx h h' (a + 17) := ec _ (by rw [W.sp.2]; decide) (by rw [W.sp.2]; decide) (by rw [W.sp.2]; decide)
  have W' : HW h' a w' := by
    obtain ⟨w1, w2, w3, w4, w5, w6, w7⟩ := W
    refine ⟨fun k hk => ?_, fun x hx => ?_, fun x hx => ?_, fun x hx => ?_, ?_, ?_, fun x hq => ?_⟩
    · rw [wold _ (by rw [w1 k hk]; omega)]; exact w1 k hk
    · have := w2 x ((SpD.same s8).1 hx); rw [wold _ (by rw [this]; decide)]; exact this
    · have := w3 x ((SoD.same s12).1 hx); rw [wold _ (by rw [this]; decide)]; exact this
    · have := w4 x ((BlD.same s17).1 hx); rw [wold _ (by rw [this]; decide)]; exact this
    · rw [wold _ (by rw [w5]; decide)]; exact w5
    · rw [wo _ (by omega)]; exact w6
    · by_cases q : hN h ≤ x
      · refine ⟨by omega, ?_⟩
        rw [ew] at hq
        have hx' : (if hN h ≤ x then (if x = X' then 1000 + i else if x = Y' then 2000 + i else 0) else w x) ≠ 0 := hq
        rw [if_pos q] at hx'
        by_cases t : x = X'
        · by_cases sd : zSd s i
          · have := ((hx.1 sd).1).2; omega
          · have := hx.2 sd; omega
        · rw [if_neg t] at hx'
          by_cases u : x = Y'
          · by_cases rc : zRc s i
            · have := ((hy.1 rc).1).2; omega
            · have := hy.2 rc; omega
          · rw [if_neg u] at hx'; exact absurd rfl hx'
      · rw [wo x (by omega)] at hq
        have := w7 x hq; exact ⟨this.1, by omega⟩
  have xne : ∀ j, j < 256 → j ≠ i → (hR h (a + 1) j ≠ 0 → Sx h h' (hR h (a + 1) j)) ∧ (hR h (a + 2) j ≠ 0 → Sx h h' (hR h (a + 2) j)) := fun j hj _ => ⟨fun q => ec _ (by rw [C.xw hj q]; omega) (by rw [C.xw hj q]; omega) (by rw [C.xw hj q]; omega), fun q => ec _ (by rw [C.yw hj q]; omega) (by rw [C.yw hj q]; omega) (by rw [C.yw hj q]; omega)⟩
  have x00 : hR h (a + 1) i = 0 := Classical.byContradiction (fun q => by have := (C.x0 hi).1 q; omega)
  have y00 : hR h (a + 2) i = 0 := Classical.byContradiction (fun q => by have := (C.y0 hi).1 q; omega)
  have Xi : hR h' (a + 1) i = X' := by rw [e1, if_pos rfl]
  have Yi : hR h' (a + 2) i = Y' := by rw [e2, if_pos rfl]
  have Xn : X' ≠ 0 ↔ zSd s i := ⟨fun q => Classical.byContradiction (fun t => q (hx.2 t)), fun q => by have := ((hx.1 q).1).1; omega⟩
  have Yn : Y' ≠ 0 ↔ zRc s i := ⟨fun q => Classical.byContradiction (fun t => q (hy.2 t)), fun q => by have := ((hy.1 q).1).1; omega⟩
  have z0 := zBeg_0 (s := s) (x := z) (i := i)
  obtain ⟨q1, q2, q3, q4⟩ := C.2.1
  refine ⟨⟨L', W'⟩, ⟨?_, ?_, ?_, ?_⟩, fun j hj => ?_, ?_, ?_, ?_⟩
  · exact q1.same (o 0 (by decide) (by decide) (by decide)) (fun k _ => rfl)
  · exact q2.same (o 4 (by decide) (by decide) (by decide)) (fun k _ => rfl)
  · exact q3.same (o 5 (by decide) (by decide) (by decide)) (fun k _ => rfl)
  · exact ⟨fun k hk => by rw [(o 6 (by decide) (by decide) (by decide)).i]; exact q4.1 k hk, fun k hk => by rw [(o 7 (by decide) (by decide) (by decide)).j]; exact q4.2 k hk⟩
  · by_cases c : j = i
    · subst c
      unfold HCi
      rw [Xi, Yi, z0.1]
      refine ⟨⟨⟨fun q => ⟨rfl, Xn.1 q⟩, fun q => Xn.2 q.2⟩, fun q => ⟨wX (Xn.1 q), ?_⟩⟩, ⟨⟨fun q => ⟨rfl, Yn.1 q⟩, fun q => Yn.2 q.2⟩, fun q => ⟨wY (Yn.1 q), ?_⟩⟩⟩
      · obtain ⟨⟨n0, n1, n2, n3, n4, n5, n6, n7, n11⟩, n8, n9, n10⟩ := (hx.1 (Xn.1 q)).2
        unfold HCs
        rw [z0.2.1, zp 1 j (Or.inr (by decide)), zp 2 j (Or.inr (by decide)), zp 3 j (Or.inr (by decide)), zp 4 j (Or.inr (by decide)), zp 6 j (Or.inr (by decide)), zp 7 j (Or.inr (by decide)), zp 8 j (Or.inr (by decide)), n0, n1, n2, n3, n8, n9, n10, n11]
        obtain ⟨d1, d2, d3, d4, d6, d7, d8⟩ := ds
        exact ⟨d1.symm, d2.symm, d3.symm, d4.symm, rfl, d6.symm, d7.symm, fun _ => d8.symm⟩
      · obtain ⟨⟨n0, n1, n2, n3, n4, n5, n6, n7, n10, n11, n12⟩, n8, n9⟩ := (hy.1 (Yn.1 q)).2
        have eg : zGr s (zBeg s z j) j = zGr s z j := rfl
        unfold HCr
        rw [eg, z0.2.2, zp 10 j (Or.inr (by decide)), zp 11 j (Or.inr (by decide)), zp 12 j (Or.inr (by decide)), zp 13 j (Or.inr (by decide)), zp 14 j (Or.inr (by decide)), zp 16 j (Or.inr (by decide)), zp 17 j (Or.inr (by decide)), zp 18 j (Or.inr (by decide)), zp 19 j (Or.inr (by decide)), zp 20 j (Or.inr (by decide)), n0, n1, n2, n3, n4, n5, n6, n8, n9, n10, n11, n12]
        obtain ⟨d1, d2, d3, d4, d5, d6, d7, d8, d9, d10⟩ := dr
        exact ⟨rfl, d1.symm, d2.symm, d3.symm, d4.symm, d5.symm, rfl, d6.symm, d7.symm, d8.symm, d9.symm, d10.symm⟩
    · have ci := C.i hj
      unfold HCi
      rw [e1, if_neg c, e2, if_neg c, zp 0 j (Or.inl c)]
      refine ⟨⟨ci.1.1, fun q => ⟨?_, (ci.1.2 q).2.same ((xne j hj c).1 q) (fun f _ => zp f j (Or.inl c))⟩⟩, ⟨ci.2.1, fun q => ⟨?_, (ci.2.2 q).2.same ((xne j hj c).2 q) (fun f _ => zp f j (Or.inl c)) rfl⟩⟩⟩
      · rw [wold _ (by rw [(ci.1.2 q).1]; omega)]; exact (ci.1.2 q).1
      · rw [wold _ (by rw [(ci.2.2 q).1]; omega)]; exact (ci.2.2 q).1
  · obtain ⟨m, fr, F, T, X, LL, c1, c2, c3, c4⟩ := C.2.2.2.1
    refine ⟨m, fr, F, T, X, LL, c1.same n (fun x hx => ec x (by rw [W.2.1 x hx]; decide) (by rw [W.2.1 x hx]; decide) (by rw [W.2.1 x hx]; decide)), c2, c3, fun j hj => ?_⟩
    by_cases c : j = i
    · subst c
      obtain ⟨_, f2, f3, f4⟩ := c4 j hj
      have f2' := f2 x00
      unfold HCc
      rw [Xi]
      refine ⟨fun q => ?_, fun _ => f2', f3, f4⟩
      obtain ⟨⟨n0, n1, n2, n3, n4, n5, n6, n7, n11⟩, _⟩ := (hx.1 (Xn.1 q)).2
      rw [f2'.1, f2'.2, n6, n7]; exact ⟨rfl, rfl⟩
    · exact (c4 j hj).same (by rw [e1, if_neg c]) (fun q => ⟨((xne j hj c).1 q).i, ((xne j hj c).1 q).i⟩) rfl
  · obtain ⟨np, A, Z, X, LL, c1, c2, c3, c4⟩ := C.2.2.2.2.1
    refine ⟨np, A, Z, X, LL, c1.same (fun x hx => ec x (by rw [W.2.2.1 x hx]; decide) (by rw [W.2.2.1 x hx]; decide) (by rw [W.2.2.1 x hx]; decide)), c2, c3, fun j hj => ?_⟩
    by_cases c : j = i
    · subst c
      have f2 := (c4 j hj).2 x00
      rw [Xi, zp 2 j (Or.inr (by decide)), f2, ds.2.1]
      refine ⟨fun q => ?_, fun _ => rfl⟩
      obtain ⟨⟨n0, n1, n2, n3, n4, n5, n6, n7, n11⟩, _⟩ := (hx.1 (Xn.1 q)).2
      rw [n4, n5]
      exact ⟨rfl, Or.inl ⟨rfl, rfl⟩, List.nodup_nil, (fun k hk => by cases hk), trivial, rfl, Nat.zero_le _⟩
    · rw [e1, if_neg c, zp 2 j (Or.inl c)]
      exact ⟨fun q => by rw [((xne j hj c).1 q).i, ((xne j hj c).1 q).i]; exact (c4 j hj).1 q, (c4 j hj).2⟩
  · obtain ⟨m, fr, D, M, I, X, LL, c1, c2, c3, c4⟩ := C.2.2.2.2.2
    refine ⟨m, fr, D, M, I, X, LL, c1.same n (fun x hx => ec x (by rw [W.2.2.2.1 x hx]; decide) (by rw [W.2.2.2.1 x hx]; decide) (by rw [W.2.2.2.1 x hx]; decide)), c2, c3, fun j hj => ?_⟩
    obtain ⟨f1, f2, f3, f4, f5, f6⟩ := c4 j hj
    unfold HCd
    rw [e2, zp 10 j (Or.inr (by decide)), zp 11 j (Or.inr (by decide)), zp 13 j (Or.inr (by decide))]
    by_cases c : j = i
    · subst c
      rw [if_pos rfl]
      refine ⟨fun q => ?_, fun _ => f2 y00, f3, f4, f5, f6⟩
      obtain ⟨⟨n0, n1, n2, n3, n4, n5, n6, n7, n10, n11, n12⟩, _⟩ := (hy.1 (Yn.1 q)).2
      rw [f2 y00, n7]; exact rfl
    · rw [if_neg c]
      exact ⟨fun q => by rw [((xne j hj c).2 q).i]; exact f1 q, f2, f3, f4, f5, f6⟩
end
