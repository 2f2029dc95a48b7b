/-! spans: make -/
section
variable {h h' : Hp} {p m : Nat} {fr a b c : Int} {F T X : Nat → Int}
/-- the pool's arrays are twice as long -/
theorem c_sgrow (P : SpP h p m fr F T X) (hm : m = ln h (hR h p 0)) (hm2 : m < 131072) (rN : hN h + spN h p ≤ CN) (rZ : hZ h + spZ h p ≤ CZ) :
    ∃ h1, (∀ f : Hp → Option (Int × Hp), (b2 (f_jArrays_copyOf_AII (hR h p 0) (w32 (2 * (hI h p 3))) h) fun r5 h3 =>
    lt1 (sR h3 p 0 r5) fun h6 =>
    b2 (f_jArrays_copyOf_AII (hR h6 p 1) (w32 (2 * (hI h6 p 3))) h6) fun r9 h7 =>
    lt1 (sR h7 p 1 r9) fun h10 =>
    b2 (f_jArrays_copyOf_AII (hR h10 p 2) (w32 (2 * (hI h10 p 3))) h10) fun r13 h11 =>
    lt1 (sR h11 p 2 r13) f) = f h1) ∧ SpP h1 p m fr F T X ∧ m < ln h1 (hR h1 p 0) ∧ SpG p h h1 ∧ hN h1 + spN h1 p ≤ hN h + spN h p ∧ hZ h1 + spZ h1 p ≤ hZ h + spZ h p := by
  have P0 := P
  obtain ⟨p1, p2, ⟨p3, p4, p5⟩, p6, p7, p8⟩ := P
  have dbl := p7.2.1.dbl (by omega)
  have dle := dbl.le
  rw [← hm] at dbl dle
  unfold spN spZ at *
  rw [← hm] at rN rZ
  have ew : w32 (2 * (m : Int)) = ((2 * m : Nat) : Int) := by unfold w32; lia
  obtain ⟨g1, q1, ⟨q1n, q1z⟩, q1l, q1v, q1o⟩ := c_copyI (h := h) (a := hR h p 0) (n := 2 * m) (L := m) p3.1 hm.symm p3.2.2 rfl (by lia) (by lia) (by lia)
  obtain ⟨s1, es1⟩ : ∃ s1, s1 = sR g1 p 0 (hN h) := ⟨_, rfl⟩
  have pn : p ≠ hN h := by lia
  have o1 : ∀ x, x ≠ hN h → ∀ y, hI s1 x y = hI h x y ∧ hJ s1 x y = hJ h x y := fun x hx y => by rw [es1]; exact ⟨((q1o x hx).1 y).1, ((q1o x hx).1 y).2.1⟩
  have l1 : ∀ x, x ≠ hN h → ln s1 x = ln h x := fun x hx => by rw [es1]; exact (q1o x hx).2
  have r1 : ∀ x y, x ≠ hN h → hR s1 x y = if x = p ∧ y = 0 then hN h else hR h x y := fun x y hx => by rw [es1, hR_sR, ((q1o x hx).1 y).2.2]
  have n1 : hN s1 = hN h + 1 ∧ hZ s1 = hZ h + 2 * m := by rw [es1]; exact ⟨q1n, q1z⟩
  have a1 : hR s1 p 1 = hR h p 1 := by rw [r1 p 1 pn, if_neg (by lia)]
  obtain ⟨g2, q2, ⟨q2n, q2z⟩, q2l, q2v, q2o⟩ := c_copyI (h := s1) (a := hR h p 1) (n := 2 * m) (L := m) p4.1 (by rw [l1 _ (by lia), p4.2.2.2, hm]) (by lia) rfl (by lia) (by lia) (by lia)
  obtain ⟨s2, es2⟩ : ∃ s2, s2 = sR g2 p 1 (hN s1) := ⟨_, rfl⟩
  have o2 : ∀ x, x ≠ hN s1 → ∀ y, hI s2 x y = hI s1 x y ∧ hJ s2 x y = hJ s1 x y := fun x hx y => by rw [es2]; exact ⟨((q2o x hx).1 y).1, ((q2o x hx).1 y).2.1⟩
  have l2 : ∀ x, x ≠ hN s1 → ln s2 x = ln s1 x := fun x hx => by rw [es2]; exact (q2o x hx).2
  have r2 : ∀ x y, x ≠ hN s1 → hR s2 x y = if x = p ∧ y = 1 then hN s1 else hR s1 x y := fun x y hx => by rw [es2, hR_sR, ((q2o x hx).1 y).2.2]
  have n2 : hN s2 = hN h + 2 ∧ hZ s2 = hZ h + 4 * m := by rw [es2]; exact ⟨by show hN g2 = _; lia, by show hZ g2 = _; lia⟩
  have a2 : hR s2 p 2 = hR h p 2 := by rw [r2 p 2 (by lia), if_neg (by lia), r1 p 2 pn, if_neg (by lia)]
  obtain ⟨g3, q3, ⟨q3n, q3z⟩, q3l, q3v, q3o⟩ := c_copyI (h := s2) (a := hR h p 2) (n := 2 * m) (L := m) p5.1 (by rw [l2 _ (by lia), l1 _ (by lia), p5.2.2.2, hm]) (by lia) rfl (by lia) (by lia) (by lia)
  obtain ⟨s3, es3⟩ : ∃ s3, s3 = sR g3 p 2 (hN s2) := ⟨_, rfl⟩
  have o3 : ∀ x, x ≠ hN s2 → ∀ y, hI s3 x y = hI s2 x y ∧ hJ s3 x y = hJ s2 x y := fun x hx y => by rw [es3]; exact ⟨((q3o x hx).1 y).1, ((q3o x hx).1 y).2.1⟩
  have l3 : ∀ x, x ≠ hN s2 → ln s3 x = ln s2 x := fun x hx => by rw [es3]; exact (q3o x hx).2
  have r3 : ∀ x y, x ≠ hN s2 → hR s3 x y = if x = p ∧ y = 2 then hN s2 else hR s2 x y := fun x y hx => by rw [es3, hR_sR, ((q3o x hx).1 y).2.2]
  have n3 : hN s3 = hN h + 3 ∧ hZ s3 = hZ h + 6 * m := by rw [es3]; exact ⟨by show hN g3 = _; lia, by show hZ g3 = _; lia⟩
  have i1 : hI s1 p 3 = (m : Int) := by rw [(o1 p pn 3).1]; exact p2.1
  have i2 : hI s2 p 3 = (m : Int) := by rw [(o2 p (by lia) 3).1]; exact i1
  have z0 : hR s3 p 0 = hN h := by rw [r3 p 0 (by lia), if_neg (by lia), r2 p 0 (by lia), if_neg (by lia), r1 p 0 pn, if_pos ⟨rfl, rfl⟩]
  have z1 : hR s3 p 1 = hN h + 1 := by rw [r3 p 1 (by lia), if_neg (by lia), r2 p 1 (by lia), if_pos ⟨rfl, rfl⟩, n1.1]
  have z2 : hR s3 p 2 = hN h + 2 := by rw [r3 p 2 (by lia), if_pos ⟨rfl, rfl⟩, n2.1]
  have w0 : ln s3 (hN h) = 2 * m := by rw [l3 _ (by lia), l2 _ (by lia), es1]; exact q1l
  have w1 : ln s3 (hN h + 1) = 2 * m := by rw [l3 _ (by lia), es2, ← n1.1]; exact q2l
  have w2 : ln s3 (hN h + 2) = 2 * m := by rw [es3, ← n2.1]; exact q3l
  refine ⟨s3, fun f => ?_, ⟨⟨p1.1, by lia⟩, ⟨?_, ?_⟩, ?_, ?_, ?_, fun j hj => ⟨?_, ?_, ?_⟩⟩, ?_, ⟨⟨by lia, fun x hx q => ⟨fun y => ⟨?_, ?_, ?_⟩, ?_⟩⟩, fun x q => ?_⟩, ?_, ?_⟩
  · rw [p2.1, ew, q1, b2_some, lt1_eq, ← es1, a1, i1, ew, q2, b2_some, lt1_eq, ← es2, a2, i2, ew, q3, b2_some, lt1_eq, ← es3]
  · rw [(o3 p (by lia) 3).1]; exact i2
  · rw [(o3 p (by lia) 4).1, (o2 p (by lia) 4).1, (o1 p pn 4).1]; exact p2.2
  · rw [z0, z1, z2, w0, w1, w2]
    exact ⟨⟨by lia, by lia, by lia⟩, ⟨by lia, by lia, by lia, rfl⟩, by lia, by lia, by lia, rfl⟩
  · rw [z0, z1, z2]; exact ⟨by lia, by lia, by lia⟩
  · rw [z0, w0]; exact ⟨by omega, dbl, by omega⟩
  · rw [z0, (o3 _ (by lia) j).1, (o2 _ (by lia) j).1, es1]
    show hI g1 (hN h) j = _
    rw [q1v j hj]; exact (p8 j hj).1
  · rw [z1, (o3 _ (by lia) j).1, es2, ← n1.1]
    show hI g2 (hN s1) j = _
    rw [q2v j hj, (o1 _ (by lia) j).1]; exact (p8 j hj).2.1
  · rw [z2, es3, ← n2.1]
    show hI g3 (hN s2) j = _
    rw [q3v j hj, (o2 _ (by lia) j).1, (o1 _ (by lia) j).1]; exact (p8 j hj).2.2
  · rw [z0, w0]; lia
  · rw [(o3 x (by lia) y).1, (o2 x (by lia) y).1, (o1 x (by lia) y).1]
  · rw [(o3 x (by lia) y).2, (o2 x (by lia) y).2, (o1 x (by lia) y).2]
  · have xp : x ≠ p := fun z => q (Or.inl z)
    rw [r3 x y (by lia), if_neg (fun z => xp z.1), r2 x y (by lia), if_neg (fun z => xp z.1), r1 x y (by lia), if_neg (fun z => xp z.1)]
  · rw [l3 x (by lia), l2 x (by lia), l1 x (by lia)]
  · unfold SpD at q ⊢
    rw [z0, z1, z2] at q
    rcases q with q | q | q | q
    · exact Or.inl (Or.inl q)
    · right; lia
    · right; lia
    · right; lia
  · rw [z0, w0, ← hm]; omega
  · rw [z0, w0, ← hm]; omega
theorem c_smk102 {k : Nat} (P : SpP h p m fr F T X) (hk : k < m) : ∃ h', f_cSpans_make_b102 p a b c (k : Int) h = some ((k : Int), h') ∧ SpP h' p m fr (up1 F k a) (up1 T k b) (up1 X k c) ∧ SpG p h h' ∧ (hN h' = hN h ∧ hZ h' = hZ h ∧ hR h' = hR h ∧ ln h' = ln h) := by
  have x := P.xk hk
  have q1 := P.sF (v := a) hk
  have q2 := q1.sT (v := b) hk
  have q3 := q2.sX (v := c) hk
  obtain ⟨p1, p2, ⟨p3, p4, p5⟩, p6, p7, p8⟩ := P
  refine ⟨_, ?_, q3, ?_, rfl, rfl, rfl, rfl⟩
  · unfold f_cSpans_make_b102
    rw [if_neg p3.1, if_pos x.1, Int.toNat_natCast, lt1_eq, hR_sI, if_neg p4.1, ln_sI, if_pos x.2.1, lt1_eq, hR_sI, hR_sI, if_neg p5.1, ln_sI, ln_sI, if_pos x.2.2, lt1_eq]
  · exact ((SpG.sI (Or.inr (Or.inl rfl))).tr (SpG.sI (Or.inr (Or.inr (Or.inl rfl))))).tr (SpG.sI (Or.inr (Or.inr (Or.inr rfl))))
theorem c_smake (P : SpP h p m fr F T X) (hfr : fr = -1 ∨ (0 ≤ fr ∧ fr < m)) (hm2 : fr = -1 → m < 131072) (rN : hN h + spN h p ≤ CN) (rZ : hZ h + spZ h p ≤ CZ) :
    ∃ k m' fr' h', f_cSpans_make p a b c h = some (((k : Nat) : Int), h') ∧ (fr = -1 → k = m ∧ m' = m + 1 ∧ fr' = -1) ∧ (fr ≠ -1 → (k : Int) = fr ∧ m' = m ∧ fr' = X k) ∧ SpP h' p m' fr' (up1 F k a) (up1 T k b) (up1 X k c) ∧ SpG p h h' ∧ hN h' + spN h' p ≤ hN h + spN h p ∧ hZ h' + spZ h' p ≤ hZ h + spZ h p := by
  have P0 := P
  obtain ⟨p1, p2, ⟨p3, p4, p5⟩, p6, p7, p8⟩ := P
  unfold f_cSpans_make
  rw [p2.2, lt1_eq]
  by_cases c1 : fr = -1
  · rw [if_pos c1, if_neg p3.1, p2.1]
    have step : ∀ g, SpP g p m fr F T X → m < ln g (hR g p 0) → ∃ h', f_cSpans_make_b89 p a b c g = some ((m : Int), h') ∧ SpP h' p (m + 1) (-1) (up1 F m a) (up1 T m b) (up1 X m c) ∧ SpG p g h' ∧ (hN h' = hN g ∧ hZ h' = hZ g ∧ hR h' = hR g ∧ ln h' = ln g) := fun g Pg hl => by
      have ew : w32 ((m : Int) + 1) = ((m + 1 : Nat) : Int) := by have := Pg.2.2.2.2.1.2.1.le; unfold w32; omega
      have P1 : SpP (sI g p 3 ((m + 1 : Nat) : Int)) p (m + 1) (-1) (up1 F m (hI g (hR g p 0) m)) (up1 T m (hI g (hR g p 1) m)) (up1 X m (hI g (hR g p 2) m)) := by
        obtain ⟨g1, g2, ⟨g3, g4, g5⟩, g6, g7, g8⟩ := Pg
        refine ⟨g1, ⟨?_, ?_⟩, ⟨g3, g4, g5⟩, g6, ⟨g7.1, g7.2.1, hl⟩, fun j hj => ?_⟩
        · rw [hI_sI, if_pos ⟨rfl, rfl⟩]
        · rw [hI_sI, if_neg (by lia), ← c1]; exact g2.2
        · show hI (sI g p 3 _) (hR g p 0) j = _ ∧ hI (sI g p 3 _) (hR g p 1) j = _ ∧ hI (sI g p 3 _) (hR g p 2) j = _
          rw [hI_sI, if_neg (by lia), hI_sI, if_neg (by lia), hI_sI, if_neg (by lia)]
          by_cases q : j = m
          · rw [q, up1_eq, up1_eq, up1_eq]; exact ⟨rfl, rfl, rfl⟩
          · rw [up1_ne q, up1_ne q, up1_ne q]; exact g8 j (by lia)
      obtain ⟨h2, e2, P2, G2, s2⟩ := c_smk102 (a := a) (b := b) (c := c) P1 (Nat.lt_succ_self m)
      have uu : ∀ (f : Nat → Int) (u v : Int), up1 (up1 f m u) m v = up1 f m v := fun f u v => funext fun j => by
        by_cases q : j = m
        · rw [q, up1_eq, up1_eq]
        · rw [up1_ne q, up1_ne q, up1_ne q]
      rw [uu, uu, uu] at P2
      refine ⟨h2, ?_, P2, (SpG.sI (Or.inl rfl)).tr G2, s2⟩
      unfold f_cSpans_make_b89
      rw [Pg.2.1.1, ew, lt1_eq, lt1_eq]; exact e2
    by_cases c2 : m = ln h (hR h p 0)
    · rw [if_neg (by rw [← c2]; exact fun z => z rfl)]
      obtain ⟨h1, e1, P1, l1, G1, r1, z1⟩ := c_sgrow P0 c2 (hm2 c1) rN rZ
      obtain ⟨h2, e2, P2, G2, s2⟩ := step h1 P1 l1
      have := e1 (f_cSpans_make_b89 p a b c)
      rw [p2.1] at this
      refine ⟨m, m + 1, -1, h2, by rw [this]; exact e2, fun _ => ⟨rfl, rfl, rfl⟩, fun z => absurd c1 z, P2, G1.tr G2, ?_, ?_⟩
      · unfold spN at *; rw [s2.1, s2.2.2.1, s2.2.2.2]; exact r1
      · unfold spZ at *; rw [s2.2.1, s2.2.2.1, s2.2.2.2]; exact z1
    · rw [if_pos (by lia)]
      obtain ⟨h2, e2, P2, G2, s2⟩ := step h P0 (by lia)
      refine ⟨m, m + 1, -1, h2, e2, fun _ => ⟨rfl, rfl, rfl⟩, fun z => absurd c1 z, P2, G2, ?_, ?_⟩
      · unfold spN; rw [s2.1, s2.2.2.1, s2.2.2.2]; exact Nat.le_refl _
      · unfold spZ; rw [s2.2.1, s2.2.2.1, s2.2.2.2]; exact Nat.le_refl _
  · rw [if_neg c1]
    obtain ⟨k, ek⟩ : ∃ k : Nat, (k : Int) = fr := ⟨fr.toNat, by lia⟩
    have hk : k < m := by lia
    have x := P0.xk hk
    obtain ⟨h2, e2, P2, G2, s2⟩ := c_smk102 (a := a) (b := b) (c := c) (P0.s4 (v := X k)) hk
    refine ⟨k, m, X k, h2, ?_, fun z => absurd z c1, fun _ => ⟨ek, rfl, rfl⟩, P2, (SpG.sI (Or.inl rfl)).tr G2, ?_, ?_⟩
    · rw [if_neg p5.1, ← ek, if_pos x.2.2, Int.toNat_natCast, (p8 k hk).2.2, lt1_eq]; exact e2
    · unfold spN; rw [s2.1, s2.2.2.1, s2.2.2.2]; exact Nat.le_refl _
    · unfold spZ; rw [s2.2.1, s2.2.2.1, s2.2.2.2]; exact Nat.le_refl _
end
