/-! streams, class: what writing to the hall's cells keeps -/
section
variable {h h' : Hp} {a s i j k x y m N : Nat} {w : Nat → Nat} {z z' : HSt} {v : Int} {F T X A Z B D M I : Nat → Int} {L : Nat → List Nat}
theorem HW.ne (W : HW h a w) {x y : Nat} (e : w x ≠ w y) : x ≠ y := fun q => e (by rw [q])
theorem HW.own (W : HW h a w) (k : Nat) (hk : k < 8 := by decide) : w (a + k) = 1 + k := W.1 k hk
theorem LHl.rr (L : LHl h a) : hR h a 1 = a + 1 ∧ hR h a 2 = a + 2 ∧ hR h a 3 = a + 3 ∧ hR h a 4 = a + 6 ∧ hR h a 5 = a + 7 ∧ hR h a 6 = a + 8 ∧ hR h a 7 = a + 12 ∧ hR h a 8 = a + 17 ∧ hR h a 22 = a + 22 ∧ hR h (a + 3) 0 = a + 4 ∧ hR h (a + 3) 1 = a + 5 ∧ hR h (a + 12) 0 = a + 13 := ⟨L.r0_1, L.r0_2, L.r0_3, L.r0_4, L.r0_5, L.r0_6, L.r0_7, L.r0_8, L.r0_22, L.r3_0, L.r3_1, L.r12_0⟩
theorem LHl.ll (L : LHl h a) : ln h (a + 1) = 256 ∧ ln h (a + 2) = 256 ∧ ln h (a + 3) = 2 ∧ ln h (a + 6) = 6 ∧ ln h (a + 7) = 6 ∧ ln h (a + 13) = 65536 ∧ ln h (a + 22) = 1200 := ⟨L.l1, L.l2, L.l3, L.l6, L.l7, L.l13, L.l22⟩
theorem HW.so (W : HW h a w) (L : LHl h a) : w (a + 12) = 10 ∧ w (a + 13) = 10 := ⟨W.2.2.1 _ (Or.inl rfl), W.2.2.1 _ (Or.inr (Or.inl L.rr.2.2.2.2.2.2.2.2.2.2.2.symm))⟩
theorem HW.sp (W : HW h a w) : w (a + 8) = 9 ∧ w (a + 17) = 11 := ⟨W.2.1 _ (Or.inl rfl), W.2.2.2.1 _ (Or.inl rfl)⟩
/-- the layout stands when these cells stand -/
theorem HC.lay (L : LHl h a) (W : HW h a w) (e : ∀ c, (c = 1 ∨ c = 2 ∨ c = 3 ∨ c = 4 ∨ c = 7 ∨ c = 8 ∨ c = 10 ∨ c = 12) → ∀ x, w x = c → Sx h h' x) : LHl h' a := by
  refine L.same (fun k hk => ?_)
  rcases hk with hk | hk | hk | hk | hk | hk
  · exact e (1 + k) (by omega) _ (W.own k (by omega))
  · exact e 7 (by omega) _ (by rw [hk]; exact W.own 6)
  · exact e 8 (by omega) _ (by rw [hk]; exact W.own 7)
  · exact e 10 (by omega) _ (by rw [hk]; exact (W.so L).1)
  · exact e 10 (by omega) _ (by rw [hk]; exact (W.so L).2)
  · exact e 12 (by omega) _ (by rw [hk]; exact W.2.2.2.2.1)
theorem HW.same (W : HW h a w) (n : hN h ≤ hN h') (e8 : Sx h h' (a + 8)) (e12 : Sx h h' (a + 12)) (e17 : Sx h h' (a + 17)) : HW h' a w := by
  obtain ⟨w1, w2, w3, w4, w5, w6, w7⟩ := W
  exact ⟨w1, fun x hx => w2 x ((SpD.same e8).1 hx), fun x hx => w3 x ((SoD.same e12).1 hx), fun x hx => w4 x ((BlD.same e17).1 hx), w5, w6, fun x hx => ⟨(w7 x hx).1, Nat.lt_of_lt_of_le (w7 x hx).2 n⟩⟩
theorem HCs.same (S : HCs h x i z) (e : Sx h h' x) (p : ∀ f, f < 9 → zP z' f i = zP z f i) : HCs h' x i z' := by
  unfold HCs at S ⊢
  rw [p 1 (by decide), p 2 (by decide), p 3 (by decide), p 4 (by decide), p 5 (by decide), p 6 (by decide), p 7 (by decide), p 8 (by decide), e.i, e.i, e.i, e.i, e.i, e.j, e.j, e.j]; exact S
theorem HCr.same (S : HCr h x s i z) (e : Sx h h' x) (p : ∀ f, 10 ≤ f → zP z' f i = zP z f i) (g : zGr s z' i = zGr s z i) : HCr h' x s i z' := by
  unfold HCr at S ⊢
  rw [p 10 (by decide), p 11 (by decide), p 12 (by decide), p 13 (by decide), p 14 (by decide), p 15 (by decide), p 16 (by decide), p 17 (by decide), p 18 (by decide), p 19 (by decide), p 20 (by decide), g, e.i, e.i, e.i, e.i, e.i, e.i, e.i, e.i, e.i, e.i, e.j, e.j]; exact S
theorem HCi.same (S : HCi h a w s z i) (e1 : hR h' (a + 1) i = hR h (a + 1) i) (e2 : hR h' (a + 2) i = hR h (a + 2) i) (ex : hR h (a + 1) i ≠ 0 → Sx h h' (hR h (a + 1) i)) (ey : hR h (a + 2) i ≠ 0 → Sx h h' (hR h (a + 2) i)) (p : ∀ f, zP z' f i = zP z f i) (g : zGr s z' i = zGr s z i) : HCi h' a w s z' i := by
  unfold HCi
  rw [e1, e2, p 0]
  exact ⟨⟨S.1.1, fun q => ⟨(S.1.2 q).1, (S.1.2 q).2.same (ex q) (fun f _ => p f)⟩⟩, ⟨S.2.1, fun q => ⟨(S.2.2 q).1, (S.2.2 q).2.same (ey q) (fun f _ => p f) g⟩⟩⟩
theorem HCc.same (c : HCc h a z F T X L i) (e1 : hR h' (a + 1) i = hR h (a + 1) i) (e6 : hR h (a + 1) i ≠ 0 → hI h' (hR h (a + 1) i) 6 = hI h (hR h (a + 1) i) 6 ∧ hI h' (hR h (a + 1) i) 7 = hI h (hR h (a + 1) i) 7) (em : zM z' i = zM z i) : HCc h' a z' F T X L i := by
  obtain ⟨d1, d2, d3, d4⟩ := c
  unfold HCc
  rw [e1, em]
  exact ⟨fun q => by rw [(e6 q).1, (e6 q).2]; exact d1 q, d2, d3, d4⟩
theorem HCm.same (C : HCm h a z) (n : hN h ≤ hN h') (e : ∀ x, SpD h (a + 8) x → Sx h h' x) (r : ∀ i, i < 256 → hR h' (a + 1) i = hR h (a + 1) i ∧ (hR h (a + 1) i ≠ 0 → hI h' (hR h (a + 1) i) 6 = hI h (hR h (a + 1) i) 6 ∧ hI h' (hR h (a + 1) i) 7 = hI h (hR h (a + 1) i) 7)) (em : zM z' = zM z) : HCm h' a z' := by
  obtain ⟨m, fr, F, T, X, L, c1, c2, c3, c4⟩ := C
  refine ⟨m, fr, F, T, X, L, c1.same n e, c2, c3, fun i hi => ?_⟩
  obtain ⟨d1, d2, d3, d4⟩ := c4 i hi
  obtain ⟨r1, r2⟩ := r i hi
  unfold HCc
  rw [r1, em]
  exact ⟨fun q => by rw [(r2 q).1, (r2 q).2]; exact d1 q, d2, d3, d4⟩
theorem HCo.same (C : HCo h a z) (e : ∀ x, SoD h (a + 12) x → Sx h h' x) (r : ∀ i, i < 256 → hR h' (a + 1) i = hR h (a + 1) i ∧ (hR h (a + 1) i ≠ 0 → hI h' (hR h (a + 1) i) 4 = hI h (hR h (a + 1) i) 4 ∧ hI h' (hR h (a + 1) i) 5 = hI h (hR h (a + 1) i) 5)) (e9 : zQ z' 9 = zQ z 9) (e50 : zQ z' 50 = zQ z 50) (e2 : ∀ i, zP z' 2 i = zP z 2 i) (eE : zE z' = zE z) (eB : zB z' = zB z) : HCo h' a z' := by
  obtain ⟨np, A, Z, X, L, c1, c2, c3, c4⟩ := C
  refine ⟨np, A, Z, X, L, ?_, by rw [e50]; exact c2, c3, fun i hi => ?_⟩
  · rw [e9, eB]; exact c1.same e
  · obtain ⟨r1, r2⟩ := r i hi
    rw [r1, e2, eE]
    exact ⟨fun q => by rw [(r2 q).1, (r2 q).2]; exact (c4 i hi).1 q, (c4 i hi).2⟩
theorem HCb.same (C : HCb h a z) (n : hN h ≤ hN h') (e : ∀ x, BlD h (a + 17) x → Sx h h' x) (r : ∀ i, i < 256 → hR h' (a + 2) i = hR h (a + 2) i ∧ (hR h (a + 2) i ≠ 0 → hI h' (hR h (a + 2) i) 7 = hI h (hR h (a + 2) i) 7)) (p : ∀ i, zP z' 11 i = zP z 11 i ∧ zP z 13 i ≤ zP z' 13 i ∧ (zP z' 10 i = 4 ↔ zP z 10 i = 4)) (eH : zH z' = zH z) (eW : zW z' = zW z) : HCb h' a z' := by
  obtain ⟨m, fr, D, M, I, X, L, c1, c2, c3, c4⟩ := C
  refine ⟨m, fr, D, M, I, X, L, c1.same n e, c2, c3, fun i hi => ?_⟩
  obtain ⟨d1, d2, d3, d4, d5, d6⟩ := c4 i hi
  obtain ⟨r1, r2⟩ := r i hi
  obtain ⟨p1, p2, p3⟩ := p i
  unfold HCd
  rw [r1, eH, eW, p1, p3]
  exact ⟨fun q => by rw [r2 q]; exact d1 q, d2, d3, fun k hk => ⟨(d4 k hk).1, Int.lt_of_lt_of_le (d4 k hk).2.1 p2, (d4 k hk).2.2⟩, d5, fun q => d6 (fun z => q (p3.2 z))⟩
/-- other cells do not matter -/
theorem HC.same (C : HC h a w s z) (n : hN h ≤ hN h') (e : ∀ x, w x ≠ 0 → Sx h h' x) : HC h' a w s z := by
  obtain ⟨⟨L, W⟩, ⟨q1, q2, q3, q4⟩, ci, cm, co, cb⟩ := C
  have L' : LHl h' a := HC.lay L W (fun c hc x hx => e x (by omega))
  have W' : HW h' a w := W.same n (e _ (by rw [W.sp.1]; decide)) (e _ (by rw [(W.so L).1]; decide)) (e _ (by rw [W.sp.2]; decide))
  have o : ∀ k, k < 8 → Sx h h' (a + k) := fun k hk => e _ (by rw [W.own k hk]; omega)
  have o0 : Sx h h' a := o 0 (by decide)
  have o1 := o 1 (by decide)
  have o2 := o 2 (by decide)
  have o4 := o 4 (by decide)
  have o5 := o 5 (by decide)
  have o6 := o 6 (by decide)
  have o7 := o 7 (by decide)
  refine ⟨⟨L', W'⟩, ⟨?_, ?_, ?_, ?_⟩, fun i hi => ?_, ?_, ?_, ?_⟩
  · unfold HCq; rw [o0.i, o0.i, o0.i, o0.i, o0.i, o0.i, o0.i, o0.j, o0.j]; exact q1
  · unfold HCw; rw [o4.i, o4.i, o4.i, o4.i, o4.j, o4.j, o4.j]; exact q2
  · unfold HCw; rw [o5.i, o5.i, o5.i, o5.i, o5.j, o5.j, o5.j]; exact q3
  · exact ⟨fun k hk => by rw [o6.i]; exact q4.1 k hk, fun k hk => by rw [o7.j]; exact q4.2 k hk⟩
  · exact (ci i hi).same o1.r o2.r (fun q => e _ (by rw [((ci i hi).1.2 q).1]; omega)) (fun q => e _ (by rw [((ci i hi).2.2 q).1]; omega)) (fun _ => rfl) rfl
  · exact cm.same n (fun x hx => e x (by rw [W.2.1 x hx]; decide)) (fun i hi => ⟨o1.r, fun q => by
      have := e _ (show w (hR h (a + 1) i) ≠ 0 by rw [((ci i hi).1.2 q).1]; omega)
      exact ⟨this.i, this.i⟩⟩) rfl
  · exact co.same (fun x hx => e x (by rw [W.2.2.1 x hx]; decide)) (fun i hi => ⟨o1.r, fun q => by
      have := e _ (show w (hR h (a + 1) i) ≠ 0 by rw [((ci i hi).1.2 q).1]; omega)
      exact ⟨this.i, this.i⟩⟩) rfl rfl (fun _ => rfl) rfl rfl
  · exact cb.same n (fun x hx => e x (by rw [W.2.2.2.1 x hx]; decide)) (fun i hi => ⟨o2.r, fun q => by
      have := e _ (show w (hR h (a + 2) i) ≠ 0 by rw [((ci i hi).2.2 q).1]; omega)
      exact this.i⟩) (fun _ => ⟨rfl, Int.le_refl _, Iff.rfl⟩) rfl rfl
/-- numbers of the hall and of its ways and records change, nothing else -/
theorem HC.st (C : HC h a w s z) (n : hN h ≤ hN h') (e : ∀ x, w x ≠ 0 → ¬ (w x = 1 ∨ w x = 5 ∨ w x = 6 ∨ 1000 ≤ w x) → Sx h h' x) (er : hR h' = hR h) (el : ln h' = ln h)
    (q : HCq h' a s z' ∧ HCw h' (a + 4) 0 z' ∧ HCw h' (a + 5) 1 z') (ci : ∀ i, i < 256 → HCi h' a w s z' i)
    (es : ∀ i, i < 256 → hR h (a + 1) i ≠ 0 → ∀ k, 4 ≤ k → k ≤ 7 → hI h' (hR h (a + 1) i) k = hI h (hR h (a + 1) i) k) (eg : ∀ i, i < 256 → hR h (a + 2) i ≠ 0 → hI h' (hR h (a + 2) i) 7 = hI h (hR h (a + 2) i) 7)
    (zq : ∀ k, (k = 9 ∨ 30 ≤ k) → zQ z' k = zQ z k) (zp2 : ∀ i, zP z' 2 i = zP z 2 i) (zp : ∀ i, zP z' 11 i = zP z 11 i ∧ zP z 13 i ≤ zP z' 13 i ∧ (zP z' 10 i = 4 ↔ zP z 10 i = 4)) (zz : z'.2.2 = z.2.2) : HC h' a w s z' := by
  obtain ⟨⟨L, W⟩, ⟨q1, q2, q3, q4⟩, ci0, cm, co, cb⟩ := C
  have zM' : zM z' = zM z := by unfold zM; rw [zz]
  have zE' : zE z' = zE z := by unfold zE; rw [zz]
  have zH' : zH z' = zH z := by unfold zH; rw [zz]
  have zW' : zW z' = zW z := by unfold zW; rw [zz]
  have zB' : zB z' = zB z := by unfold zB; rw [zz]
  have D8 := (e _ (by rw [W.sp.1]; decide) (by rw [W.sp.1]; decide) : Sx h h' (a + 8))
  have D12 := (e _ (by rw [(W.so L).1]; decide) (by rw [(W.so L).1]; decide) : Sx h h' (a + 12))
  have D17 := (e _ (by rw [W.sp.2]; decide) (by rw [W.sp.2]; decide) : Sx h h' (a + 17))
  have o6 : Sx h h' (a + 6) := e _ (by rw [W.own 6]; decide) (by rw [W.own 6]; decide)
  have o7 : Sx h h' (a + 7) := e _ (by rw [W.own 7]; decide) (by rw [W.own 7]; decide)
  have L' : LHl h' a := L.of er el
  refine ⟨⟨L', W.same n D8 D12 D17⟩, ⟨q.1, q.2.1, q.2.2, ⟨fun k hk => by rw [o6.i, zq _ (by omega)]; exact q4.1 k hk, fun k hk => by rw [o7.j, zq _ (by omega)]; exact q4.2 k hk⟩⟩, ci, ?_, ?_, ?_⟩
  · exact cm.same n (fun x hx => e x (by rw [W.2.1 x hx]; decide) (by rw [W.2.1 x hx]; decide)) (fun i hi => ⟨by rw [er], fun q => ⟨es i hi q 6 (by decide) (by decide), es i hi q 7 (by decide) (by decide)⟩⟩) zM'
  · exact co.same (fun x hx => e x (by rw [W.2.2.1 x hx]; decide) (by rw [W.2.2.1 x hx]; decide)) (fun i hi => ⟨by rw [er], fun q => ⟨es i hi q 4 (by decide) (by decide), es i hi q 5 (by decide) (by decide)⟩⟩) (zq 9 (by decide)) (zq 50 (by decide)) zp2 zE' zB'
  · exact cb.same n (fun x hx => e x (by rw [W.2.2.2.1 x hx]; decide) (by rw [W.2.2.2.1 x hx]; decide)) (fun i hi => ⟨by rw [er], fun q => eg i hi q⟩) zp zH' zW'
end
