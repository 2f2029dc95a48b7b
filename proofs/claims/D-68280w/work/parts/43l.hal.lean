/-! streams, class: what became of a stream's bytes, whole -/
section
variable {h h' h1 h0 : Hp} {p m n i j k x a y s : Nat} {fr c a' b' last arr v : Int} {F T X F7 T7 X7 : Nat → Int} {L : Nat → List Nat} {z z' : HSt} {S S6 S7 S6' S7' : Int → Prop} {w w' : Nat → Nat} {l : List Nat}
theorem GS.st (G : GS h a x i z l F7 T7 X7 S6 S7) (e6 : ∀ j, S6' j ↔ S6 j) (e7 : ∀ j, S7' j ↔ S7 j) : GS h a x i z l F7 T7 X7 S6' S7' := by
  obtain ⟨m, fr, F, T, X, L, q1, q2, q3, q4, q5, q6⟩ := G
  exact ⟨m, fr, F, T, X, L, q1, q2, fun j => (q3 j).trans (e6 j).symm, fun j => (q4 j).trans (e7 j).symm, q5, q6⟩
/-- another slot of the record -/
theorem GS.wr (C : HC h0 a w s z) (hi : i < 256) (x0 : hR h0 (a + 1) i ≠ 0) (ex : x = hR h0 (a + 1) i) (Z : GF (fun y => SpD h0 (a + 8) y ∨ y = x) h0 h ∧ ∀ y, SpD h (a + 8) y → SpD h0 (a + 8) y ∨ hN h0 ≤ y) (hk : k ≠ 6 ∧ k ≠ 7) (G : GS h a x i z l F7 T7 X7 S6 S7) : GS (sI h x k v) a x i z l F7 T7 X7 S6 S7 := by
  obtain ⟨m, fr, F, T, X, L, q1, q2, q3, q4, q5, q6⟩ := G
  have xw : w x = 1000 + i := by rw [ex]; exact C.xw hi x0
  have kx := gk_keep C Z (y := x) (by omega) (by omega)
  have ka := gk_keep C Z (y := a + 1) (by rw [C.W.own 1]; decide) (by rw [C.W.own 1]; decide)
  have er : ∀ q, hI (sI h x k v) x q = if q = k then v else hI h x q := fun q => by
    rw [hI_sI]
    by_cases t : q = k
    · rw [if_pos ⟨rfl, t⟩, if_pos t]
    · rw [if_neg (fun t' => t t'.2), if_neg t]
  refine ⟨m, fr, F, T, X, L, ⟨q1.1.same (Nat.le_refl _) (fun y hy => Sx.sI (fun t => kx.1 (by rw [← t]; exact hy))), q1.2⟩, ⟨by rw [er, if_neg (by omega)]; exact q2.1, by rw [er, if_neg (by omega)]; exact q2.2⟩, q3, q4, q5, fun i' hi' hn => ?_⟩
  have er0 : hR h (a + 1) i' = hR h0 (a + 1) i' := (ka.2.2 (fun t => by rw [← t, C.W.own 1] at xw; omega)).r
  refine (q6 i' hi' hn).same rfl (fun t => ?_) rfl
  have yw : w (hR h (a + 1) i') = 1000 + i' := by rw [er0]; rw [er0] at t; exact C.xw hi' t
  have yx : hR h (a + 1) i' ≠ x := fun t => by rw [t] at yw; omega
  exact ⟨by rw [hI_sI, if_neg (fun t => yx t.1)], by rw [hI_sI, if_neg (fun t => yx t.1)]⟩
/-- the hall behind it -/
theorem HC.gz (C : HC h a w s z) (hi : i < 256) (x0 : hR h (a + 1) i ≠ 0) (ex : x = hR h (a + 1) i) (F : GF (fun y => SpD h (a + 8) y ∨ y = x) h h') (D : ∀ y, SpD h' (a + 8) y → SpD h (a + 8) y ∨ hN h ≤ y) (Dn : ∀ y, SpD h' (a + 8) y → y < hN h') (x45 : hI h' x 4 = hI h x 4 ∧ hI h' x 5 = hI h x 5) (hx : HCs h' x i z') (G : GS h' a x i z l F7 T7 X7 S6 S7) (s6 : ∀ j : Nat, S6 j ↔ zM z' i j = 2) (s7 : ∀ j : Nat, S7 j ↔ zM z' i j = 3) (zq : zQ z' = zQ z) (zj : ∀ f j, j ≠ i → zP z' f j = zP z f j) (zf : ∀ f, (f = 0 ∨ f = 2 ∨ 9 ≤ f) → zP z' f i = zP z f i) (zm : ∀ j, j ≠ i → zM z' j = zM z j) (zz : z'.2.2.2 = z.2.2.2) : ∃ w', HC h' a w' s z' ∧ ∀ y, y < hN h → w' y = w y := by
  have W := C.W
  have xw : w x = 1000 + i := by rw [ex]; exact C.xw hi x0
  have ne : ∀ y, w y ≠ 0 → w y ≠ 9 → w y ≠ 1000 + i → Sx h h' y := fun y h1 h2 h3 => F.s (W.2.2.2.2.2.2 y h1).2 (fun t => by
    rcases t with t | t
    · exact h2 (W.2.1 y t)
    · exact h3 (by rw [t]; exact xw))
  have N64 : 64 ≤ hN h := by have := (W.2.2.2.2.2.2 a (by rw [show a = a + 0 from rfl, W.own 0]; decide)); omega
  obtain ⟨w', ew⟩ : ∃ w' : Nat → Nat, w' = @fun y => if hN h ≤ y then @ite _ (SpD h' (a + 8) y) (Classical.propDecidable _) 9 0 else w y := ⟨_, rfl⟩
  have wo : ∀ y, y < hN h → w' y = w y := fun y hy => by rw [ew]; exact if_neg (by omega)
  have wold : ∀ y, w y ≠ 0 → w' y = w y := fun y hy => wo y (W.2.2.2.2.2.2 y hy).2
  have all : ∀ f j, (f = 0 ∨ f = 2 ∨ 9 ≤ f) → zP z' f j = zP z f j := fun f j hf => by
    by_cases c : j = i
    · rw [c]; exact zf f hf
    · exact zj f j c
  have gr : ∀ j, zGr s z' j = zGr s z j := fun j => by unfold zGr; rw [zq]
  have o : ∀ k, k < 8 → Sx h h' (a + k) := fun k hk => ne _ (by rw [W.own k hk]; omega) (by rw [W.own k hk]; omega) (by rw [W.own k hk]; omega)
  have s12 : Sx h h' (a + 12) := ne _ (by rw [(W.so C.L).1]; decide) (by rw [(W.so C.L).1]; decide) (by rw [(W.so C.L).1]; omega)
  have s17 : Sx h h' (a + 17) := ne _ (by rw [W.sp.2]; decide) (by rw [W.sp.2]; decide) (by rw [W.sp.2]; omega)
  have L' : LHl h' a := HC.lay C.L W (fun c hc y hy => ne y (by omega) (by omega) (by omega))
  have W' : HW h' a w' := by
    obtain ⟨w1, w2, w3, w4, w5, w6, w7⟩ := W
    refine ⟨fun k hk => ?_, fun y hy => ?_, fun y hy => ?_, fun y hy => ?_, ?_, ?_, fun y hy => ?_⟩
    · rw [wold _ (by rw [w1 k hk]; omega)]; exact w1 k hk
    · rcases D y hy with t | t
      · have := w2 y t; rw [wold _ (by rw [this]; decide)]; exact this
      · rw [ew]; show (if hN h ≤ y then @ite _ (SpD h' (a + 8) y) (Classical.propDecidable _) 9 0 else w y) = 9
        rw [if_pos t, if_pos hy]
    · have := w3 y ((SoD.same s12).1 hy); rw [wold _ (by rw [this]; decide)]; exact this
    · have := w4 y ((BlD.same s17).1 hy); rw [wold _ (by rw [this]; decide)]; exact this
    · rw [wold _ (by rw [w5]; decide)]; exact w5
    · rw [wo _ (by omega)]; exact w6
    · by_cases q : hN h ≤ y
      · rw [ew] at hy
        have hy' : (if hN h ≤ y then @ite _ (SpD h' (a + 8) y) (Classical.propDecidable _) 9 0 else w y) ≠ 0 := hy
        rw [if_pos q] at hy'
        by_cases t : SpD h' (a + 8) y
        · exact ⟨by omega, Dn y t⟩
        · rw [if_neg t] at hy'; exact absurd rfl hy'
      · rw [wo y (by omega)] at hy
        have := w7 y hy; have := F.1; exact ⟨by omega, by omega⟩
  obtain ⟨m, fr, F', T', X', LL, g1, g2, g3, g4, g5, g6⟩ := G
  refine ⟨w', ⟨⟨L', W'⟩, ⟨?_, ?_, ?_, ?_⟩, fun j hj => ?_, ?_, ?_, ?_⟩, wo⟩
  · exact C.2.1.1.same (o 0 (by decide)) (fun k _ => by rw [zq])
  · exact C.2.1.2.1.same (o 4 (by decide)) (fun k _ => by rw [zq])
  · exact C.2.1.2.2.1.same (o 5 (by decide)) (fun k _ => by rw [zq])
  · exact ⟨fun k hk => by rw [(o 6 (by decide)).i, zq]; exact C.2.1.2.2.2.1 k hk, fun k hk => by rw [(o 7 (by decide)).j, zq]; exact C.2.1.2.2.2.2 k hk⟩
  · unfold HCi
    rw [(o 1 (by decide)).r, (o 2 (by decide)).r, all 0 j (by decide)]
    refine ⟨⟨C.x0 hj, fun t => ⟨by rw [wold _ (by rw [C.xw hj t]; omega)]; exact C.xw hj t, ?_⟩⟩, ⟨C.y0 hj, fun t => ⟨by rw [wold _ (by rw [C.yw hj t]; omega)]; exact C.yw hj t, (C.ys hj t).same (ne _ (by rw [C.yw hj t]; omega) (by rw [C.yw hj t]; omega) (by rw [C.yw hj t]; omega)) (fun f hf => all f j (by omega)) (gr j)⟩⟩⟩
    by_cases c : j = i
    · subst c; rw [← ex]; exact hx
    · exact (C.xs hj t).same (ne _ (by rw [C.xw hj t]; omega) (by rw [C.xw hj t]; omega) (by rw [C.xw hj t]; omega)) (fun f _ => zj f j c)
  · refine ⟨m, fr, F', T', X', LL, g1.1, g1.2.1, g1.2.2.1, fun j hj => ?_⟩
    by_cases c : j = i
    · subst c
      unfold HCc
      rw [(o 1 (by decide)).r, ← ex]
      exact ⟨fun _ => g2, fun t => absurd (ex.symm.trans t) x0, ⟨(g1.2.2.2 (1 + 2 * j) (by omega) (by omega)).1, (g1.2.2.2 (2 + 2 * j) (by omega) (by omega)).1⟩, fun k => ⟨(g3 k).trans (s6 k), (g4 k).trans (s7 k)⟩⟩
    · have := g6 j hj c
      unfold HCc at this ⊢
      rw [zm j c]; exact this
  · obtain ⟨np, A, Z, X, L2, c1, c2, c3, c4⟩ := C.2.2.2.2.1
    have zE' : zE z' = zE z := by unfold zE; rw [zz]
    have zB' : zB z' = zB z := by unfold zB; rw [zz]
    refine ⟨np, A, Z, X, L2, ?_, by rw [zq]; exact c2, c3, fun j hj => ?_⟩
    · rw [zq, zB']
      exact c1.same (fun y hy => ne y (by rw [W.2.2.1 y hy]; decide) (by rw [W.2.2.1 y hy]; decide) (by rw [W.2.2.1 y hy]; omega))
    · rw [(o 1 (by decide)).r, all 2 j (by decide), zE']
      refine ⟨fun t => ?_, (c4 j hj).2⟩
      by_cases c : j = i
      · subst c; rw [← ex, x45.1, x45.2, ex]; exact (c4 j hj).1 t
      · have sx := ne _ (show w (hR h (a + 1) j) ≠ 0 by rw [C.xw hj t]; omega) (by rw [C.xw hj t]; omega) (by rw [C.xw hj t]; omega)
        rw [sx.i, sx.i]; exact (c4 j hj).1 t
  · refine C.2.2.2.2.2.same F.1 (fun y hy => ne y (by rw [W.2.2.2.1 y hy]; decide) (by rw [W.2.2.2.1 y hy]; decide) (by rw [W.2.2.2.1 y hy]; omega)) (fun j hj => ⟨(o 2 (by decide)).r, fun t => (ne _ (by rw [C.yw hj t]; omega) (by rw [C.yw hj t]; omega) (by rw [C.yw hj t]; omega)).i⟩) (fun j => ⟨all 11 j (by decide), by rw [all 13 j (by decide)]; exact Int.le_refl _, by rw [all 10 j (by decide)]⟩) ?_ ?_
    · unfold zH; rw [zz]
    · unfold zW; rw [zz]
end
