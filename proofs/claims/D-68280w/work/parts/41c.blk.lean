/-! what came: the pool grows -/
section
variable {h h' : Hp} {o m : Nat} {fr a c : Int} {D M I X : Nat → Int}
theorem c_copyB {a n L : Nat} (a0 : a ≠ 0) (al : ln h a = L) (aN : a < hN h) (hn : n = 2 * L) (L0 : 0 < L) (r1 : hN h + 1 ≤ CN) (r2 : hZ h + n ≤ CZ) : ∃ h', f_jArrays_copyOf_ABI a (n : Int) h = some (hN h, h') ∧ (hN h' = hN h + 1 ∧ hZ h' = hZ h + n) ∧ ln h' (hN h) = n ∧ (∀ j, j < L → hI h' (hN h) j = hI h a j) ∧ (∀ x, x ≠ hN h → (∀ y, hI h' x y = hI h x y ∧ hJ h' x y = hJ h x y ∧ hR h' x y = hR h x y) ∧ ln h' x = ln h x) := by
  have e1 : ln (nwC h 102 n n) a = L := by rw [ln_nw', if_neg (by lia), al]
  have e2 : ln (nwC h 102 n n) (hN h) = n := by rw [ln_nw', if_pos rfl]
  have em : min (L : Int) (n : Int) = ((L : Nat) : Int) := by lia
  refine ⟨cpI (nwC h 102 n n) a 0 (hN h) 0 L, ?_, ⟨rfl, rfl⟩, ?_, fun j hj => ?_, fun x hx => ⟨fun y => ⟨?_, ?_, ?_⟩, ?_⟩⟩
  · unfold f_jArrays_copyOf_ABI
    rw [if_neg a0, al, if_pos (show (n : Int) ≠ (L : Int) by lia), if_pos ⟨by lia, r1, by rw [Int.toNat_natCast]; exact r2⟩, Int.toNat_natCast, lt1_eq, lt1_eq, e1, e2, em, if_pos ⟨by decide, by decide, by lia, by lia, by lia⟩, Int.toNat_natCast, lt1_eq]
    rfl
  · rw [ln_cI, e2]
  · rw [hI_cI, if_pos ⟨rfl, by lia, by lia⟩, hI_nw, if_neg (by lia)]; exact fcg (f := hI h a) (by lia)
  · rw [hI_cI, if_neg (fun z => hx z.1), hI_nw, if_neg hx]
  · rw [hJ_cI, hJ_nw, if_neg hx]
  · rw [hR_cI, hR_nw, if_neg hx]
  · rw [ln_cI, ln_nw', if_neg hx]
theorem c_copyJ {a n L : Nat} (a0 : a ≠ 0) (al : ln h a = L) (aN : a < hN h) (hn : n = 2 * L) (L0 : 0 < L) (r1 : hN h + 1 ≤ CN) (r2 : hZ h + n ≤ CZ) : ∃ h', f_jArrays_copyOf_AJI a (n : Int) h = some (hN h, h') ∧ (hN h' = hN h + 1 ∧ hZ h' = hZ h + n) ∧ ln h' (hN h) = n ∧ (∀ j, j < L → hJ h' (hN h) j = hJ h a j) ∧ (∀ x, x ≠ hN h → (∀ y, hI h' x y = hI h x y ∧ hJ h' x y = hJ h x y ∧ hR h' x y = hR h x y) ∧ ln h' x = ln h x) := by
  have e1 : ln (nwC h 105 n n) a = L := by rw [ln_nw', if_neg (by lia), al]
  have e2 : ln (nwC h 105 n n) (hN h) = n := by rw [ln_nw', if_pos rfl]
  have em : min (L : Int) (n : Int) = ((L : Nat) : Int) := by lia
  refine ⟨cpJ (nwC h 105 n n) a 0 (hN h) 0 L, ?_, ⟨rfl, rfl⟩, ?_, fun j hj => ?_, fun x hx => ⟨fun y => ⟨?_, ?_, ?_⟩, ?_⟩⟩
  · unfold f_jArrays_copyOf_AJI
    rw [if_neg a0, al, if_pos (show (n : Int) ≠ (L : Int) by lia), if_pos ⟨by lia, r1, by rw [Int.toNat_natCast]; exact r2⟩, Int.toNat_natCast, lt1_eq, lt1_eq, e1, e2, em, if_pos ⟨by decide, by decide, by lia, by lia, by lia⟩, Int.toNat_natCast, lt1_eq]
    rfl
  · rw [ln_cJ, e2]
  · rw [hJ_cJ, if_pos ⟨rfl, by lia, by lia⟩, hJ_nw, if_neg (by lia)]; exact fcg (f := hJ h a) (by lia)
  · rw [hI_cJ, hI_nw, if_neg hx]
  · rw [hJ_cJ, if_neg (fun z => hx z.1), hJ_nw, if_neg hx]
  · rw [hR_cJ, hR_nw, if_neg hx]
  · rw [ln_cJ, ln_nw', if_neg hx]
theorem c_bgrow (P : BlP h o m fr D M I X) (hm : m = ln h (hR h o 1)) (hm2 : m < 2048) (rN : hN h + blN h o ≤ CN) (rZ : hZ h + blZ h o ≤ CZ) :
    ∃ h1, (∀ f : Hp → Option (Int × Hp), (b2 (f_jArrays_copyOf_ABI (hR h o 0) (w32 ((w32 (2 * (hI h o 4))) * 64)) h) fun r5 h3 =>
    lt1 (sR h3 o 0 r5) fun h6 =>
    b2 (f_jArrays_copyOf_AJI (hR h6 o 1) (w32 (2 * (hI h6 o 4))) h6) fun r9 h7 =>
    lt1 (sR h7 o 1 r9) fun h10 =>
    b2 (f_jArrays_copyOf_AII (hR h10 o 2) (w32 (2 * (hI h10 o 4))) h10) fun r13 h11 =>
    lt1 (sR h11 o 2 r13) fun h14 =>
    b2 (f_jArrays_copyOf_AII (hR h14 o 3) (w32 (2 * (hI h14 o 4))) h14) fun r17 h15 =>
    lt1 (sR h15 o 3 r17) f) = f h1) ∧ BlP h1 o m fr D M I X ∧ m < ln h1 (hR h1 o 1) ∧ BlG o h h1 ∧ hN h1 + blN h1 o ≤ hN h + blN h o ∧ hZ h1 + blZ h1 o ≤ hZ h + blZ h o := by
  have dbl := P.2.2.2.2.1.2.1.dbl (by omega)
  have dle := dbl.le
  have l64 := P.2.2.2.2.1.1
  unfold blN blZ at *
  rw [← hm] at dbl dle rN rZ l64
  have ew : w32 (2 * (m : Int)) = ((2 * m : Nat) : Int) := by unfold w32; omega
  have ewb : w32 (((2 * m : Nat) : Int) * 64) = ((2 * (64 * m) : Nat) : Int) := by clear ew; unfold w32; omega
  obtain ⟨p1, p2, ⟨p3, p4, p5, p6⟩, p7, p8, p9, p10⟩ := P
  have on : o ≠ hN h := by lia
  obtain ⟨g1, q1, ⟨q1n, q1z⟩, q1l, q1v, q1o⟩ := c_copyB (h := h) (a := hR h o 0) (n := 2 * (64 * m)) (L := 64 * m) p3.1 (by rw [p3.2.2.2, hm]) p3.2.2.1 rfl (by lia) (by lia) (by lia)
  obtain ⟨s1, es1⟩ : ∃ s1, s1 = sR g1 o 0 (hN h) := ⟨_, rfl⟩
  have o1 : ∀ x, x ≠ hN h → ∀ y, hI s1 x y = hI h x y ∧ hJ s1 x y = hJ h x y := fun x hx y => by rw [es1]; exact ⟨((q1o x hx).1 y).1, ((q1o x hx).1 y).2.1⟩
  have l1 : ∀ x, x ≠ hN h → ln s1 x = ln h x := fun x hx => by rw [es1]; exact (q1o x hx).2
  have r1 : ∀ x y, x ≠ hN h → hR s1 x y = if x = o ∧ y = 0 then hN h else hR h x y := fun x y hx => by rw [es1, hR_sR, ((q1o x hx).1 y).2.2]
  have n1 : hN s1 = hN h + 1 ∧ hZ s1 = hZ h + 2 * (64 * m) := by rw [es1]; exact ⟨q1n, q1z⟩
  have a1 : hR s1 o 1 = hR h o 1 := by rw [r1 o 1 on, if_neg (by lia)]
  obtain ⟨g2, q2, ⟨q2n, q2z⟩, q2l, q2v, q2o⟩ := c_copyJ (h := s1) (a := hR h o 1) (n := 2 * m) (L := m) p4.1 (by rw [l1 _ (by lia), hm]) (by lia) rfl (by lia) (by lia) (by lia)
  obtain ⟨s2, es2⟩ : ∃ s2, s2 = sR g2 o 1 (hN s1) := ⟨_, rfl⟩
  have o2 : ∀ x, x ≠ hN s1 → ∀ y, hI s2 x y = hI s1 x y ∧ hJ s2 x y = hJ s1 x y := fun x hx y => by rw [es2]; exact ⟨((q2o x hx).1 y).1, ((q2o x hx).1 y).2.1⟩
  have l2 : ∀ x, x ≠ hN s1 → ln s2 x = ln s1 x := fun x hx => by rw [es2]; exact (q2o x hx).2
  have r2 : ∀ x y, x ≠ hN s1 → hR s2 x y = if x = o ∧ y = 1 then hN s1 else hR s1 x y := fun x y hx => by rw [es2, hR_sR, ((q2o x hx).1 y).2.2]
  have n2 : hN s2 = hN h + 2 ∧ hZ s2 = hZ h + 2 * (64 * m) + 2 * m := by rw [es2]; exact ⟨by show hN g2 = _; lia, by show hZ g2 = _; lia⟩
  have a2 : hR s2 o 2 = hR h o 2 := by rw [r2 o 2 (by lia), if_neg (by lia), r1 o 2 on, if_neg (by lia)]
  obtain ⟨g3, q3, ⟨q3n, q3z⟩, q3l, q3v, q3o⟩ := c_copyI (h := s2) (a := hR h o 2) (n := 2 * m) (L := m) p5.1 (by rw [l2 _ (by lia), l1 _ (by lia), p5.2.2.2, hm]) (by lia) rfl (by lia) (by lia) (by lia)
  obtain ⟨s3, es3⟩ : ∃ s3, s3 = sR g3 o 2 (hN s2) := ⟨_, rfl⟩
  have o3 : ∀ x, x ≠ hN s2 → ∀ y, hI s3 x y = hI s2 x y ∧ hJ s3 x y = hJ s2 x y := fun x hx y => by rw [es3]; exact ⟨((q3o x hx).1 y).1, ((q3o x hx).1 y).2.1⟩
  have l3 : ∀ x, x ≠ hN s2 → ln s3 x = ln s2 x := fun x hx => by rw [es3]; exact (q3o x hx).2
  have r3 : ∀ x y, x ≠ hN s2 → hR s3 x y = if x = o ∧ y = 2 then hN s2 else hR s2 x y := fun x y hx => by rw [es3, hR_sR, ((q3o x hx).1 y).2.2]
  have n3 : hN s3 = hN h + 3 ∧ hZ s3 = hZ h + 2 * (64 * m) + 4 * m := by rw [es3]; exact ⟨by show hN g3 = _; lia, by show hZ g3 = _; lia⟩
  have a3 : hR s3 o 3 = hR h o 3 := by rw [r3 o 3 (by lia), if_neg (by lia), r2 o 3 (by lia), if_neg (by lia), r1 o 3 on, if_neg (by lia)]
  obtain ⟨g4, q4, ⟨q4n, q4z⟩, q4l, q4v, q4o⟩ := c_copyI (h := s3) (a := hR h o 3) (n := 2 * m) (L := m) p6.1 (by rw [l3 _ (by lia), l2 _ (by lia), l1 _ (by lia), p6.2.2.2, hm]) (by lia) rfl (by lia) (by lia) (by lia)
  obtain ⟨s4, es4⟩ : ∃ s4, s4 = sR g4 o 3 (hN s3) := ⟨_, rfl⟩
  have o4 : ∀ x, x ≠ hN s3 → ∀ y, hI s4 x y = hI s3 x y ∧ hJ s4 x y = hJ s3 x y := fun x hx y => by rw [es4]; exact ⟨((q4o x hx).1 y).1, ((q4o x hx).1 y).2.1⟩
  have l4 : ∀ x, x ≠ hN s3 → ln s4 x = ln s3 x := fun x hx => by rw [es4]; exact (q4o x hx).2
  have r4 : ∀ x y, x ≠ hN s3 → hR s4 x y = if x = o ∧ y = 3 then hN s3 else hR s3 x y := fun x y hx => by rw [es4, hR_sR, ((q4o x hx).1 y).2.2]
  have n4 : hN s4 = hN h + 4 ∧ hZ s4 = hZ h + 2 * (64 * m) + 6 * m := by rw [es4]; exact ⟨by show hN g4 = _; lia, by show hZ g4 = _; lia⟩
  have i1 : hI s1 o 4 = (m : Int) := by rw [(o1 o on 4).1]; exact p2.1
  have i2 : hI s2 o 4 = (m : Int) := by rw [(o2 o (by lia) 4).1]; exact i1
  have i3 : hI s3 o 4 = (m : Int) := by rw [(o3 o (by lia) 4).1]; exact i2
  have z0 : hR s4 o 0 = hN h := by rw [r4 o 0 (by lia), if_neg (by lia), r3 o 0 (by lia), if_neg (by lia), r2 o 0 (by lia), if_neg (by lia), r1 o 0 on, if_pos ⟨rfl, rfl⟩]
  have z1 : hR s4 o 1 = hN h + 1 := by rw [r4 o 1 (by lia), if_neg (by lia), r3 o 1 (by lia), if_neg (by lia), r2 o 1 (by lia), if_pos ⟨rfl, rfl⟩, n1.1]
  have z2 : hR s4 o 2 = hN h + 2 := by rw [r4 o 2 (by lia), if_neg (by lia), r3 o 2 (by lia), if_pos ⟨rfl, rfl⟩, n2.1]
  have z3 : hR s4 o 3 = hN h + 3 := by rw [r4 o 3 (by lia), if_pos ⟨rfl, rfl⟩, n3.1]
  have w0 : ln s4 (hN h) = 64 * (2 * m) := by rw [l4 _ (by lia), l3 _ (by lia), l2 _ (by lia), es1, show 64 * (2 * m) = 2 * (64 * m) by lia]; exact q1l
  have w1 : ln s4 (hN h + 1) = 2 * m := by rw [l4 _ (by lia), l3 _ (by lia), es2, ← n1.1]; exact q2l
  have w2 : ln s4 (hN h + 2) = 2 * m := by rw [l4 _ (by lia), es3, ← n2.1]; exact q3l
  have w3 : ln s4 (hN h + 3) = 2 * m := by rw [es4, ← n3.1]; exact q4l
  refine ⟨s4, fun f => ?_, ⟨⟨p1.1, by lia⟩, ⟨?_, ?_⟩, ?_, ?_, ?_, fun j hj => ⟨?_, ?_, ?_⟩, fun j hj => ?_⟩, ?_, ⟨⟨by lia, fun x hx q => ⟨fun y => ⟨?_, ?_, ?_⟩, ?_⟩⟩, fun x q => ?_⟩, ?_, ?_⟩
  · rw [p2.1, ew, ewb, q1, b2_some, lt1_eq, ← es1, a1, i1, ew, q2, b2_some, lt1_eq, ← es2, a2, i2, ew, q3, b2_some, lt1_eq, ← es3, a3, i3, ew, q4, b2_some, lt1_eq, ← es4]
  · rw [(o4 o (by lia) 4).1]; exact i3
  · rw [(o4 o (by lia) 5).1, (o3 o (by lia) 5).1, (o2 o (by lia) 5).1, (o1 o on 5).1]; exact p2.2
  · rw [z0, z1, z2, z3, w0, w1, w2, w3]
    exact ⟨⟨by lia, by lia, by lia, rfl⟩, ⟨by lia, by lia, by lia⟩, ⟨by lia, by lia, by lia, rfl⟩, by lia, by lia, by lia, rfl⟩
  · rw [z0, z1, z2, z3]; exact ⟨by lia, by lia, by lia, by lia, by lia, by lia⟩
  · rw [z1, w1]; exact ⟨by lia, dbl, by lia⟩
  · rw [z1, (o4 _ (by lia) j).2, (o3 _ (by lia) j).2, es2, ← n1.1]
    show hJ g2 (hN s1) j = _
    rw [q2v j hj, (o1 _ (by lia) j).2]; exact (p9 j hj).1
  · rw [z2, (o4 _ (by lia) j).1, es3, ← n2.1]
    show hI g3 (hN s2) j = _
    rw [q3v j hj, (o2 _ (by lia) j).1, (o1 _ (by lia) j).1]; exact (p9 j hj).2.1
  · rw [z3, es4, ← n3.1]
    show hI g4 (hN s3) j = _
    rw [q4v j hj, (o3 _ (by lia) j).1, (o2 _ (by lia) j).1, (o1 _ (by lia) j).1]; exact (p9 j hj).2.2
  · rw [z0, (o4 _ (by lia) j).1, (o3 _ (by lia) j).1, (o2 _ (by lia) j).1, es1]
    show hI g1 (hN h) j = _
    rw [q1v j hj]; exact p10 j hj
  · rw [z1, w1]; lia
  · rw [(o4 x (by lia) y).1, (o3 x (by lia) y).1, (o2 x (by lia) y).1, (o1 x (by lia) y).1]
  · rw [(o4 x (by lia) y).2, (o3 x (by lia) y).2, (o2 x (by lia) y).2, (o1 x (by lia) y).2]
  · have xp : x ≠ o := fun z => q (Or.inl z)
    rw [r4 x y (by lia), if_neg (fun z => xp z.1), r3 x y (by lia), if_neg (fun z => xp z.1), r2 x y (by lia), if_neg (fun z => xp z.1), r1 x y (by lia), if_neg (fun z => xp z.1)]
  · rw [l4 x (by lia), l3 x (by lia), l2 x (by lia), l1 x (by lia)]
  · unfold BlD at q ⊢
    rw [z0, z1, z2, z3] at q
    rcases q with q | q | q | q | q
    · exact Or.inl (Or.inl q)
    · right; lia
    · right; lia
    · right; lia
    · right; lia
  · rw [z1, w1, ← hm]; lia
  · rw [z1, w1, ← hm]; lia
end
