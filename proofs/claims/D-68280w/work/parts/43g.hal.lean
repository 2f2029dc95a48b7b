/-! streams, class: begin, come, open -/
section
variable {h h' h'' : Hp} {a s i j k x y m X' Y' : Nat} {w w' w'' : Nat → Nat} {z z' z'' : HSt} {v b was c : Int}
theorem c_sInit (x : Nat) (L : Int) : ∃ h', f_cSending_init (hN h) L (nwC h 33 0 12) = some h' ∧ NwS h' (hN h) L ∧ (∀ x, x ≠ hN h → Sx h h' x) ∧ hN h' = hN h + 1 ∧ hZ h' = hZ h + 12 := by
  unfold f_cSending_init
  rw [lt1_eq, lt1_eq, lt1_eq, lt1_eq, lt1_eq, lt1_eq]
  refine ⟨_, rfl, ?_, fun x hx => ?_, rfl, rfl⟩
  · unfold NwS
    refine ⟨⟨?_, ?_, ?_, ?_, ?_, ?_, ?_, ?_, ?_⟩, ?_, ?_, ?_⟩ <;> grind [hI_sI, hJ_sI, hI_sJ, hJ_sJ, hI_nw, hJ_nw]
  · exact (((((Sx.nw hx).tr (Sx.sI hx)).tr (Sx.sI hx)).tr ((Sx.sI hx).tr (Sx.sI hx))).tr (Sx.sJ hx)).tr (Sx.sJ hx)
theorem c_rInit (x : Nat) (G : Int) : ∃ h', f_cReceiving_init (hN h) G (nwC h 34 0 13) = some h' ∧ NwR h' (hN h) G ∧ (∀ x, x ≠ hN h → Sx h h' x) ∧ hN h' = hN h + 1 ∧ hZ h' = hZ h + 13 := by
  unfold f_cReceiving_init
  rw [lt1_eq, lt1_eq, lt1_eq, lt1_eq]
  refine ⟨_, rfl, ?_, fun x hx => ?_, rfl, rfl⟩
  · unfold NwR
    refine ⟨⟨?_, ?_, ?_, ?_, ?_, ?_, ?_, ?_, ?_, ?_, ?_⟩, ?_, ?_⟩ <;> grind [hI_sI, hJ_sI, hI_sJ, hJ_sJ, hI_nw, hJ_nw]
  · exact (((Sx.nw hx).tr (Sx.sI hx)).tr (Sx.sI hx)).tr ((Sx.sI hx).tr (Sx.sI hx))
/-- rooms are as they were: ranges and blocks -/
def RmE (h h' : Hp) (a : Nat) : Prop := spN h' (a + 8) = spN h (a + 8) ∧ spZ h' (a + 8) = spZ h (a + 8) ∧ blN h' (a + 17) = blN h (a + 17) ∧ blZ h' (a + 17) = blZ h (a + 17)
theorem RmE.of (C : HC h a w s z) (e : ∀ x, w x = 9 ∨ w x = 11 → Sx h h' x) : RmE h h' a := by
  have W := C.W
  have a1 := sp_room (e _ (Or.inl W.sp.1)) (e _ (Or.inl (W.2.1 _ (Or.inr (Or.inl rfl)))))
  have a2 := bl_room (e _ (Or.inr W.sp.2)) (e _ (Or.inr (W.2.2.2.1 _ (Or.inr (Or.inr (Or.inl rfl))))))
  exact ⟨a1.1, a1.2, a2.1, a2.2⟩
theorem bg_io {i s : Nat} : ((i : Int) % 2 = (s : Int)) ↔ i % 2 = s := by omega
theorem bg_i1 {i : Nat} : ((i : Int) / 2 % 2 = 1) ↔ i / 2 % 2 = 1 := by omega
theorem bg_rR : ∃ u : Nat, (if (i : Int) / 2 % 2 = 1 then (3 : Int) else if (if (i : Int) % 2 = (s : Int) then (1 : Int) else 0) = 0 then 2 else 1) = (u : Int) ∧ u < 6 ∧ zGr s z i = zQ z (30 + u) := by
  unfold zGr
  by_cases c : i / 2 % 2 = 1
  · rw [if_pos (bg_i1.2 c), if_pos c]; exact ⟨3, rfl, by decide, rfl⟩
  · rw [if_neg (fun t => c (bg_i1.1 t)), if_neg c]
    by_cases d : i % 2 = s
    · rw [if_pos (bg_io.2 d), if_pos d, if_neg (by decide)]; exact ⟨1, rfl, by decide, rfl⟩
    · rw [if_neg (fun t => d (bg_io.1 t)), if_neg d, if_pos rfl]; exact ⟨2, rfl, by decide, rfl⟩
theorem bg_rS : ∃ u : Nat, (if (i : Int) / 2 % 2 = 1 then (3 : Int) else if (if (i : Int) % 2 = (s : Int) then (1 : Int) else 0) = 1 then 2 else 1) = ((1 + u : Nat) : Int) ∧ u < 3 ∧ zLi s z i = zQ z (41 + u) := by
  unfold zLi
  by_cases c : i / 2 % 2 = 1
  · rw [if_pos (bg_i1.2 c), if_pos c]; exact ⟨2, rfl, by decide, rfl⟩
  · rw [if_neg (fun t => c (bg_i1.1 t)), if_neg c]
    by_cases d : i % 2 = s
    · rw [if_pos (bg_io.2 d), if_pos d, if_pos rfl]; exact ⟨1, rfl, by decide, rfl⟩
    · rw [if_neg (fun t => d (bg_io.1 t)), if_neg d, if_neg (by decide)]; exact ⟨0, rfl, by decide, rfl⟩
theorem bg_x {u n : Nat} (h : u < n) : ix (u : Int) n := ⟨by omega, by omega⟩
theorem bg_m {x y : Nat} {n m : Nat} (h : x + 2 ≤ n) (k : y ≤ x + 1) : y + 1 ≤ n := by omega
theorem bg_z {x y : Nat} {n : Nat} (h : x + 25 ≤ n) (k : y ≤ x + 12) : y + 13 ≤ n := by omega
theorem c_hBegN {g1 : Hp} {nS : Nat} (C : HC h a w s z) (D : zNo z i) (hi : i < 256) (rN : hN h + 2 ≤ CN) (rZ : hZ h + 25 ≤ CZ) (n1 : hN h ≤ hN g1) (n2 : hN g1 ≤ hN h + 1) (n3 : hZ g1 ≤ hZ h + 12) (e1 : ∀ x, x ≠ a + 1 → x < hN h → Sx h g1 x) (e2 : ∀ k, hR g1 (a + 1) k = if k = i then nS else hR h (a + 1) k) (e3 : ln g1 (a + 1) = ln h (a + 1)) (e4 : (zSd s i → (hN h ≤ nS ∧ nS < hN g1) ∧ NwS g1 nS (zLi s z i)) ∧ (¬ zSd s i → nS = 0)) (q : ¬ zRc s i) : ∃ h' w', some g1 = some h' ∧ HC h' a w' s (zBeg s z i) ∧ (∀ x, x < hN h → w' x = w x) ∧ GF (fun x => x = a + 1 ∨ x = a + 2) h h' ∧ RmE h h' a ∧ (hN h' ≤ hN h + 2 ∧ hZ h' ≤ hZ h + 25) := by
  have W := C.W
  have l0 := C.L.1
  have aN : a + 22 < hN h := (W.2.2.2.2.2.2 _ (by rw [W.2.2.2.2.1]; decide)).2
  have e22 := e1 (a + 2) (by omega) (by omega)
  have y00 : hR h (a + 2) i = 0 := Classical.byContradiction (fun t => q ((C.y0 hi).1 t).2)
  obtain ⟨w', u1, u2⟩ := C.beg (h' := g1) (X' := nS) (Y' := 0) D hi n1 (fun x hx h1 _ => e1 x h1 (W.2.2.2.2.2.2 x hx).2) e3 e22.l e2 (fun k => by
    rw [e22.r]
    by_cases t : k = i
    · rw [if_pos t, t]; exact y00
    · rw [if_neg t]) e4 ⟨fun t => absurd t q, fun _ => rfl⟩ (fun _ t => absurd t q)
  exact ⟨g1, w', rfl, u1, u2, ⟨n1, fun x hx nx => e1 x (fun t => nx (Or.inl t)) hx⟩, RmE.of C (fun x hx => e1 x (fun t => by rw [t, W.own 1] at hx; omega) (W.2.2.2.2.2.2 x (by omega)).2), by omega, by omega⟩
theorem c_hBegY {g1 : Hp} {nS : Nat} (C : HC h a w s z) (D : zNo z i) (hi : i < 256) (rN : hN h + 2 ≤ CN) (rZ : hZ h + 25 ≤ CZ) (n1 : hN h ≤ hN g1) (n2 : hN g1 ≤ hN h + 1) (n3 : hZ g1 ≤ hZ h + 12) (e1 : ∀ x, x ≠ a + 1 → x < hN h → Sx h g1 x) (e2 : ∀ k, hR g1 (a + 1) k = if k = i then nS else hR h (a + 1) k) (e3 : ln g1 (a + 1) = ln h (a + 1)) (e4 : (zSd s i → (hN h ≤ nS ∧ nS < hN g1) ∧ NwS g1 nS (zLi s z i)) ∧ (¬ zSd s i → nS = 0)) (q : zRc s i) : ∃ h' w', f_cHall_begin_b59 a (i : Int) g1 = some h' ∧ HC h' a w' s (zBeg s z i) ∧ (∀ x, x < hN h → w' x = w x) ∧ GF (fun x => x = a + 1 ∨ x = a + 2) h h' ∧ RmE h h' a ∧ (hN h' ≤ hN h + 2 ∧ hZ h' ≤ hZ h + 25) := by
  have L := C.L
  have W := C.W
  have l0 := L.1
  obtain ⟨r1, r2, r3, r4, r5, r6, r7, r8, r22, _⟩ := L.rr
  obtain ⟨l1, l2, l3, l6, l7, _⟩ := L.ll
  have aN : a + 22 < hN h := (W.2.2.2.2.2.2 _ (by rw [W.2.2.2.2.1]; decide)).2
  have hs := C.2.1.1.1
  have g := C.2.1.2.2.2
  have ii : (0 : Int) ≤ (i : Int) ∧ (i : Int) ≤ 4611686018427387903 := ⟨by omega, by omega⟩
  have xi : ix (i : Int) 256 := ⟨by omega, by omega⟩
  have ea := e1 a (by omega) (by omega)
  have e6 := e1 (a + 6) (by omega) (by omega)
  have e22 := e1 (a + 2) (by omega) (by omega)
  have hs1 : hI g1 a 0 = (s : Int) := by rw [ea.i]; exact hs
  clear r1 r3 r5 r6 r7 r8 r22 l1 l3 l7
  obtain ⟨g2, v1, v2, v3, v4, v5⟩ := c_rInit (h := g1) 0 (zGr s z i)
  obtain ⟨u, u1, u2, u3⟩ := bg_rR (s := s) (z := z) (i := i)
  have n6 : a + 6 ≠ hN g1 := by omega
  have gv : hI (nwC g1 34 0 13) (a + 6) u = zGr s z i := by rw [hI_nw, if_neg n6, e6.i, g.1 u u2, u3]
  have ra : hR (nwC g1 34 0 13) a 4 = a + 6 := by rw [hR_nw, if_neg (by omega), ea.r]; exact r4
  have la : ln (nwC g1 34 0 13) (a + 6) = 6 := by rw [ln_nw', if_neg n6, e6.l]; exact l6
  have s2 : hR g1 a 2 = a + 2 := by rw [ea.r]; exact r2
  have l2' : ln g2 (a + 2) = 256 := by rw [(v3 _ (by omega)).l, e22.l]; exact l2
  have er : f_cHall_rule a (i : Int) 0 (nwC g1 34 0 13) = some ((u : Int), nwC g1 34 0 13) := by
    rw [c_hRule (s := s) (by rw [hI_nw, if_neg (by omega)]; exact hs1) ii, u1]
  clear u1
  have rm : hN g1 + 1 ≤ CN ∧ hZ g1 + 13 ≤ CZ := ⟨bg_m (m := 0) rN n2, bg_z rZ n3⟩
  have xu : ix (u : Int) 6 := bg_x u2
  have n60 : ¬ a + 6 = 0 := by omega
  have n20 : ¬ a + 2 = 0 := by omega
  unfold f_cHall_begin_b59
  rw [if_pos rm, lt1_eq, er, b2_some, ra, if_neg n60, la, if_pos xu, Int.toNat_natCast, gv, v1, b1_some, s2, if_neg n20, l2', if_pos xi, Int.toNat_natCast, lt1_eq]
  have eY : ∀ k, hR (sR g2 (a + 2) i (hN g1)) (a + 2) k = if k = i then hN g1 else hR h (a + 2) k := fun k => by
    rw [hR_sR]
    by_cases t : k = i
    · rw [if_pos ⟨rfl, t⟩, if_pos t]
    · rw [if_neg (fun t' => t t'.2), if_neg t, (v3 _ (by omega)).r, e22.r]
  have eo : ∀ x, x ≠ a + 2 → Sx g2 (sR g2 (a + 2) i (hN g1)) x := fun x hx => Sx.sR hx
  have eS : ∀ x, x ≠ a + 1 → x ≠ a + 2 → x < hN h → Sx h (sR g2 (a + 2) i (hN g1)) x := fun x h1 h2 h3 => ((e1 x h1 h3).tr (v3 x (by omega))).tr (eo x h2)
  obtain ⟨w', t1, t2⟩ := C.beg (h' := sR g2 (a + 2) i (hN g1)) (X' := nS) (Y' := hN g1) D hi (by show hN h ≤ hN g2; omega) (fun x hx h1 h2 => eS x h1 h2 (W.2.2.2.2.2.2 x hx).2) (by rw [(eo _ (by omega)).l, (v3 _ (by omega)).l]; exact e3) (by show ln g2 (a + 2) = _; rw [l2', l2]) (fun k => by rw [(eo _ (by omega)).r, (v3 _ (by omega)).r]; exact e2 k) eY ⟨fun sd => by
      obtain ⟨⟨b1, b2⟩, b3⟩ := e4.1 sd
      refine ⟨⟨b1, by show nS < hN g2; omega⟩, ?_⟩
      have sx := (v3 nS (by omega)).tr (eo nS (by omega))
      unfold NwS at b3 ⊢
      rw [sx.i, sx.i, sx.i, sx.i, sx.i, sx.i, sx.i, sx.i, sx.i, sx.j, sx.j, sx.j]; exact b3, e4.2⟩ ⟨fun _ => ⟨⟨by omega, by show hN g1 < hN g2; omega⟩, by
      have sx := eo (hN g1) (by omega)
      unfold NwR at v2 ⊢
      rw [sx.i, sx.i, sx.i, sx.i, sx.i, sx.i, sx.i, sx.i, sx.i, sx.i, sx.i, sx.j, sx.j]; exact v2⟩, fun t => absurd q t⟩ (fun sd _ => by have := (e4.1 sd).1; omega)
  exact ⟨_, w', rfl, t1, t2, ⟨by show hN h ≤ hN g2; omega, fun x hx nx => eS x (fun t => nx (Or.inl t)) (fun t => nx (Or.inr t)) hx⟩, RmE.of C (fun x hx => eS x (fun t => by rw [t, W.own 1] at hx; omega) (fun t => by rw [t, W.own 2] at hx; omega) (W.2.2.2.2.2.2 x (by omega)).2), by show hN g2 ≤ _; omega, by show hZ g2 ≤ _; omega⟩
theorem c_hBegR {g1 : Hp} {nS : Nat} (C : HC h a w s z) (D : zNo z i) (hi : i < 256) (rN : hN h + 2 ≤ CN) (rZ : hZ h + 25 ≤ CZ) (n1 : hN h ≤ hN g1) (n2 : hN g1 ≤ hN h + 1) (n3 : hZ g1 ≤ hZ h + 12) (e1 : ∀ x, x ≠ a + 1 → x < hN h → Sx h g1 x) (e2 : ∀ k, hR g1 (a + 1) k = if k = i then nS else hR h (a + 1) k) (e3 : ln g1 (a + 1) = ln h (a + 1)) (e4 : (zSd s i → (hN h ≤ nS ∧ nS < hN g1) ∧ NwS g1 nS (zLi s z i)) ∧ (¬ zSd s i → nS = 0)) : ∃ h' w', f_cHall_begin_b42 a (i : Int) g1 = some h' ∧ HC h' a w' s (zBeg s z i) ∧ (∀ x, x < hN h → w' x = w x) ∧ GF (fun x => x = a + 1 ∨ x = a + 2) h h' ∧ RmE h h' a ∧ (hN h' ≤ hN h + 2 ∧ hZ h' ≤ hZ h + 25) := by
  have aN : a + 22 < hN h := (C.W.2.2.2.2.2.2 _ (by rw [C.W.2.2.2.2.1]; decide)).2
  have ea := e1 a (by omega) (by omega)
  have hs1 : hI g1 a 0 = (s : Int) := by rw [ea.i]; exact C.2.1.1.1
  have ii : (0 : Int) ≤ (i : Int) ∧ (i : Int) ≤ 4611686018427387903 := ⟨by omega, by omega⟩
  unfold f_cHall_begin_b42
  rw [c_hOne ii, b2_some]
  by_cases c : i / 2 % 2 = 1
  · rw [if_pos (bg_i1.2 c), if_neg (by decide), c_hOwn hs1 ii, b2_some]
    by_cases d : i % 2 = s
    · rw [if_pos (bg_io.2 d), if_pos (show (1 : Int) ≠ 0 by decide)]
      exact c_hBegN C D hi rN rZ n1 n2 n3 e1 e2 e3 e4 (fun t => t.elim (fun t => by omega) (fun t => t d))
    · rw [if_neg (fun t => d (bg_io.1 t)), if_neg (by decide)]
      exact c_hBegY C D hi rN rZ n1 n2 n3 e1 e2 e3 e4 (Or.inr d)
  · rw [if_neg (fun t => c (bg_i1.1 t)), if_pos rfl]
    exact c_hBegY C D hi rN rZ n1 n2 n3 e1 e2 e3 e4 (Or.inl (by omega))
theorem c_hBegS (C : HC h a w s z) (D : zNo z i) (hi : i < 256) (rN : hN h + 2 ≤ CN) (rZ : hZ h + 25 ≤ CZ) (q : zSd s i) : ∃ h' w', f_cHall_begin_b17 a (i : Int) h = some h' ∧ HC h' a w' s (zBeg s z i) ∧ (∀ x, x < hN h → w' x = w x) ∧ GF (fun x => x = a + 1 ∨ x = a + 2) h h' ∧ RmE h h' a ∧ (hN h' ≤ hN h + 2 ∧ hZ h' ≤ hZ h + 25) := by
  have L := C.L
  have W := C.W
  have l0 := L.1
  obtain ⟨r1, r2, r3, r4, r5, r6, r7, r8, r22, _⟩ := L.rr
  obtain ⟨l1, l2, l3, l6, l7, _⟩ := L.ll
  have aN : a + 22 < hN h := (W.2.2.2.2.2.2 _ (by rw [W.2.2.2.2.1]; decide)).2
  have hs := C.2.1.1.1
  have g := C.2.1.2.2.2
  have ii : (0 : Int) ≤ (i : Int) ∧ (i : Int) ≤ 4611686018427387903 := ⟨by omega, by omega⟩
  have xi : ix (i : Int) 256 := ⟨by omega, by omega⟩
  clear r2 r3 r4 r6 r7 r8 r22 l2 l3 l6
  obtain ⟨g2, v1, v2, v3, v4, v5⟩ := c_sInit (h := h) 0 (zLi s z i)
  obtain ⟨u, u1, u2, u3⟩ := bg_rS (s := s) (z := z) (i := i)
  have n7 : a + 7 ≠ hN h := by omega
  have gv : hJ (nwC h 33 0 12) (a + 7) (1 + u) = zLi s z i := by rw [hJ_nw, if_neg n7, g.2 u u2, u3]
  have ra : hR (nwC h 33 0 12) a 5 = a + 7 := by rw [hR_nw, if_neg (by omega)]; exact r5
  have la : ln (nwC h 33 0 12) (a + 7) = 6 := by rw [ln_nw', if_neg n7]; exact l7
  have l1' : ln g2 (a + 1) = 256 := by rw [(v3 _ (by omega)).l]; exact l1
  have er : f_cHall_rule a (i : Int) 1 (nwC h 33 0 12) = some (((1 + u : Nat) : Int), nwC h 33 0 12) := by
    rw [c_hRule (s := s) (by rw [hI_nw, if_neg (by omega)]; exact hs) ii, u1]
  clear u1
  have rm : hN h + 1 ≤ CN ∧ hZ h + 12 ≤ CZ := ⟨by omega, by omega⟩
  have xu : ix ((1 + u : Nat) : Int) 6 := ⟨by omega, by omega⟩
  have n70 : ¬ a + 7 = 0 := by omega
  have n10 : ¬ a + 1 = 0 := by omega
  unfold f_cHall_begin_b17
  rw [if_pos rm, lt1_eq, er, b2_some, ra, if_neg n70, la, if_pos xu, Int.toNat_natCast, gv, v1, b1_some, r1, if_neg n10, l1', if_pos xi, Int.toNat_natCast, lt1_eq]
  have eo : ∀ x, x ≠ a + 1 → Sx g2 (sR g2 (a + 1) i (hN h)) x := fun x hx => Sx.sR hx
  refine c_hBegR C D hi rN rZ (g1 := sR g2 (a + 1) i (hN h)) (nS := hN h) (by show hN h ≤ hN g2; omega) (by show hN g2 ≤ _; omega) (by show hZ g2 ≤ _; omega) (fun x h1 h2 => (v3 x (by omega)).tr (eo x h1)) (fun k => ?_) (by show ln g2 (a + 1) = _; rw [l1', l1]) ⟨fun _ => ⟨⟨Nat.le_refl _, by show hN h < hN g2; omega⟩, ?_⟩, fun t => absurd q t⟩
  · rw [hR_sR]
    by_cases t : k = i
    · rw [if_pos ⟨rfl, t⟩, if_pos t]
    · rw [if_neg (fun t' => t t'.2), if_neg t, (v3 _ (by omega)).r]
  · have sx := eo (hN h) (by omega)
    unfold NwS at v2 ⊢
    rw [sx.i, sx.i, sx.i, sx.i, sx.i, sx.i, sx.i, sx.i, sx.i, sx.j, sx.j, sx.j]; exact v2
theorem c_hBeg (C : HC h a w s z) (D : zNo z i) (hi : i < 256) (rN : hN h + 2 ≤ CN) (rZ : hZ h + 25 ≤ CZ) : ∃ h' w', f_cHall_begin a (i : Int) h = some h' ∧ HC h' a w' s (zBeg s z i) ∧ (∀ x, x < hN h → w' x = w x) ∧ GF (fun x => x = a + 1 ∨ x = a + 2) h h' ∧ RmE h h' a ∧ (hN h' ≤ hN h + 2 ∧ hZ h' ≤ hZ h + 25) := by
  have ii : (0 : Int) ≤ (i : Int) ∧ (i : Int) ≤ 4611686018427387903 := ⟨by omega, by omega⟩
  have noS : ¬ zSd s i → ∃ h' w', f_cHall_begin_b42 a (i : Int) h = some h' ∧ HC h' a w' s (zBeg s z i) ∧ (∀ x, x < hN h → w' x = w x) ∧ GF (fun x => x = a + 1 ∨ x = a + 2) h h' ∧ RmE h h' a ∧ (hN h' ≤ hN h + 2 ∧ hZ h' ≤ hZ h + 25) := fun q => by
    have x00 : hR h (a + 1) i = 0 := Classical.byContradiction (fun t => q ((C.x0 hi).1 t).2)
    exact c_hBegR C D hi rN rZ (nS := 0) (Nat.le_refl _) (Nat.le_succ _) (Nat.le_add_right _ _) (fun _ _ _ => Sx.rf) (fun k => by
      by_cases t : k = i
      · rw [if_pos t, t]; exact x00
      · rw [if_neg t]) rfl ⟨fun t => absurd t q, fun _ => rfl⟩
  unfold f_cHall_begin
  rw [c_hOne ii, b2_some]
  by_cases c : i / 2 % 2 = 1
  · rw [if_pos (bg_i1.2 c), if_neg (by decide), c_hOwn C.2.1.1.1 ii, b2_some]
    by_cases d : i % 2 = s
    · rw [if_pos (bg_io.2 d), if_neg (by decide)]
      exact c_hBegS C D hi rN rZ (Or.inr d)
    · rw [if_neg (fun t => d (bg_io.1 t)), if_pos rfl]
      exact noS (fun t => t.elim (fun t => by omega) d)
  · rw [if_neg (fun t => c (bg_i1.1 t)), if_pos rfl]
    exact c_hBegS C D hi rN rZ (Or.inl (by omega))
end
