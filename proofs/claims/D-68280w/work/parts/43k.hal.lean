/-! streams, class: what became of a stream's bytes -/
/-- what steps on the ranges of record x leave -/
def GZ (h h' : Hp) (p x : Nat) : Prop := (GF (fun y => SpD h p y ∨ y = x) h h' ∧ ∀ y, SpD h' p y → SpD h p y ∨ hN h ≤ y) ∧ (∀ k, k ≠ 6 → k ≠ 7 → hI h' x k = hI h x k) ∧ (∀ k, hJ h' x k = hJ h x k) ∧ hN h' + spN h' p ≤ hN h + spN h p ∧ hZ h' + spZ h' p ≤ hZ h + spZ h p
/-- the pool, and what the two chains of stream i hold -/
def GS (h : Hp) (a x i : Nat) (z : HSt) (l : List Nat) (F7 T7 X7 : Nat → Int) (S6 S7 : Int → Prop) : Prop := ∃ (m : Nat) (fr : Int) (F T X : Nat → Int) (L : Nat → List Nat), PSW h (a + 8) m fr F T X L z ∧ (ChX X (hI h x 6) (L (1 + 2 * i)) ∧ ChX X (hI h x 7) (L (2 + 2 * i))) ∧ (∀ j, inS F T (L (1 + 2 * i)) j ↔ S6 j) ∧ (∀ j, inS F T (L (2 + 2 * i)) j ↔ S7 j) ∧ (L (2 + 2 * i) = l ∧ ∀ k, k ∈ l → F k = F7 k ∧ T k = T7 k ∧ X k = X7 k) ∧ ∀ i', i' < 256 → i' ≠ i → HCc h a z F T X L i'
section
variable {h h' h1 h0 : Hp} {p m n i j k x a y s : Nat} {fr c a' b' : Int} {F T X F7 T7 X7 : Nat → Int} {L : Nat → List Nat} {z z' : HSt} {S S6 S7 : Int → Prop} {w w' : Nat → Nat} {l : List Nat}
theorem GZ.rf : GZ h h p x := ⟨⟨GF.refl, fun _ q => Or.inl q⟩, fun _ _ _ => rfl, fun _ => rfl, Nat.le_refl _, Nat.le_refl _⟩
theorem GZ.tr (A : GZ h0 h p x) (B : GZ h h' p x) : GZ h0 h' p x := by
  obtain ⟨⟨a1, a2⟩, a3, a4, a5, a6⟩ := A
  obtain ⟨⟨b1, b2⟩, b3, b4, b5, b6⟩ := B
  refine ⟨⟨a1.trans' b1 (fun y hy q => ?_), fun y q => ?_⟩, fun k k1 k2 => by rw [b3 k k1 k2, a3 k k1 k2], fun k => by rw [b4, a4], Nat.le_trans b5 a5, Nat.le_trans b6 a6⟩
  · rcases q with q | q
    · rcases a2 y q with t | t
      · exact Or.inl t
      · omega
    · exact Or.inr q
  · rcases b2 y q with t | t
    · exact a2 y t
    · exact Or.inr (Nat.le_trans a1.1 t)
theorem GZ.sp (G : SpG p h h') (r1 : hN h' + spN h' p ≤ hN h + spN h p) (r2 : hZ h' + spZ h' p ≤ hZ h + spZ h p) (xN : x < hN h) (xd : ¬ SpD h p x) : GZ h h' p x :=
  ⟨⟨G.1.mono (fun _ q => Or.inl q), G.2⟩, fun _ _ _ => G.1.i xN xd, fun _ => G.1.j xN xd, r1, r2⟩
theorem GZ.wr {v : Int} (hk : k = 6 ∨ k = 7) (xd : ¬ SpD h p x) : GZ h (sI h x k v) p x := by
  have e : Sx h (sI h x k v) p := Sx.sI (fun t => xd (Or.inl t.symm))
  have e1 : Sx h (sI h x k v) (hR h p 0) := Sx.sI (fun t => xd (Or.inr (Or.inl t.symm)))
  have r := sp_room e e1
  exact ⟨⟨OnI.gf (C := fun y => SpD h p y ∨ y = x) OnI.refl.s (fun y q hy => by rw [hI_sI, if_neg (fun t => hy (Or.inr t.1))]), fun _ q => Or.inl q⟩, fun q q1 q2 => by rw [hI_sI, if_neg (by omega)], fun _ => rfl, by rw [r.1]; exact Nat.le_refl _, by rw [r.2]; exact Nat.le_refl _⟩
/-- cells of the hall but the pool's, and x itself, stand -/
theorem gk_keep (C : HC h0 a w s z) (Z : GF (fun y => SpD h0 (a + 8) y ∨ y = x) h0 h ∧ ∀ y, SpD h (a + 8) y → SpD h0 (a + 8) y ∨ hN h0 ≤ y) {y : Nat} (hy : w y ≠ 0) (h9 : w y ≠ 9) : ¬ SpD h (a + 8) y ∧ y < hN h ∧ (y ≠ x → Sx h0 h y) := by
  have yN := (C.W.2.2.2.2.2.2 y hy).2
  have nd : ¬ SpD h0 (a + 8) y := fun t => h9 (C.W.2.1 y t)
  refine ⟨fun t => ?_, by have := Z.1.1; omega, fun t => Z.1.s yN (fun q => q.elim nd t)⟩
  rcases Z.2 y t with q | q
  · exact nd q
  · omega
theorem GZ.keep (C : HC h0 a w s z) (Z : GZ h0 h (a + 8) x) {y : Nat} (hy : w y ≠ 0) (h9 : w y ≠ 9) : ¬ SpD h (a + 8) y ∧ y < hN h ∧ (y ≠ x → Sx h0 h y) := gk_keep C Z.1 hy h9
/-- a list of stream i is another -/
theorem gs_put (C : HC h0 a w s z) (hi : i < 256) (x0 : hR h0 (a + 1) i ≠ 0) (ex : x = hR h0 (a + 1) i) (Z : GZ h0 h (a + 8) x) (P : PSW h (a + 8) m fr F T X L z) (c6 : ChX X (hI h x 6) (L (1 + 2 * i))) (c7 : ChX X (hI h x 7) (L (2 + 2 * i))) (e6 : ∀ j, inS F T (L (1 + 2 * i)) j ↔ S6 j) (e7 : ∀ j, inS F T (L (2 + 2 * i)) j ↔ S7 j) (oth : ∀ i', i' < 256 → i' ≠ i → HCc h a z F T X L i') :
    (∀ c S h1, SpO h h1 (a + 8) m F T X (L (1 + 2 * i)) (L 0) S c → (∀ j, S j → j < zP z 2 i) → GS (sI h1 x 6 c) a x i z (L (2 + 2 * i)) F T X S S7 ∧ GZ h0 (sI h1 x 6 c) (a + 8) x) ∧
    (∀ c S h1, SpO h h1 (a + 8) m F T X (L (2 + 2 * i)) (L 0) S c → (∀ j, S j → j < zP z 2 i) → (∃ l' F' T' X', GS (sI h1 x 7 c) a x i z l' F' T' X' S6 S) ∧ GZ h0 (sI h1 x 7 c) (a + 8) x) := by
  have xw : w x = 1000 + i := by rw [ex]; exact C.xw hi x0
  have kx := Z.keep C (y := x) (by omega) (by omega)
  have ka := Z.keep C (y := a + 1) (by rw [C.W.own 1]; decide) (by rw [C.W.own 1]; decide)
  -- what holds of both
  have both : ∀ (k n0 : Nat) c S h1, (k = 6 ∧ n0 = 1 + 2 * i ∨ k = 7 ∧ n0 = 2 + 2 * i) → SpO h h1 (a + 8) m F T X (L n0) (L 0) S c → (∀ j, S j → j < zP z 2 i) → ∃ m' fr' F' T' X' L', PSW (sI h1 x k c) (a + 8) m' fr' F' T' X' L' z ∧ ChX X' c (L' n0) ∧ (∀ j, inS F' T' (L' n0) j ↔ S j) ∧ (∀ n, n ≠ 0 → n ≠ n0 → L' n = L n ∧ ∀ k, k ∈ L n → F' k = F k ∧ T' k = T k ∧ X' k = X k) ∧ (∀ i', i' < 256 → i' ≠ i → HCc (sI h1 x k c) a z F' T' X' L' i') ∧ GZ h0 (sI h1 x k c) (a + 8) x ∧ (∀ q, q ≠ k → hI (sI h1 x k c) x q = hI h x q) := fun k n0 c S h1 hk O hS => by
    obtain ⟨m', fr', F', T', X', L', q1, q2, q3, q4, q5, q6, q7⟩ := ps_step P (by omega) (by omega) O (fun j hj => by rw [show (n0 - 1) / 2 = i by omega]; exact hS j hj)
    have Z1 := GZ.sp q5 q6 q7 kx.2.1 kx.1
    have kx1 : ¬ SpD h1 (a + 8) x := ((Z.tr Z1).keep C (y := x) (by omega) (by omega)).1
    have Z2 : GZ h1 (sI h1 x k c) (a + 8) x := GZ.wr (by omega) kx1
    have sx : ∀ y, SpD h1 (a + 8) y → Sx h1 (sI h1 x k c) y := fun y hy => Sx.sI (fun t => kx1 (by rw [← t]; exact hy))
    refine ⟨m', fr', F', T', X', L', ⟨q1.1.same (Nat.le_refl _) sx, q1.2⟩, q2, q3, q4, fun i' hi' hn => ?_, (Z.tr Z1).tr Z2, fun q hq => by rw [hI_sI, if_neg (fun t => hq t.2)]; exact q5.1.i kx.2.1 kx.1⟩
    obtain ⟨d1, d2, d3, d4⟩ := oth i' hi' hn
    have a1 := q4 (1 + 2 * i') (by omega) (by omega)
    have a2 := q4 (2 + 2 * i') (by omega) (by omega)
    have er : hR (sI h1 x k c) (a + 1) i' = hR h (a + 1) i' := q5.1.r ka.2.1 ka.1
    have er0 : hR h (a + 1) i' = hR h0 (a + 1) i' := (ka.2.2 (fun t => by rw [← t, C.W.own 1] at xw; omega)).r
    unfold HCc
    rw [er, a1.1, a2.1]
    refine ⟨fun t => ?_, d2, ⟨d3.1.cg (fun k hk => ⟨(a1.2 k hk).1, (a1.2 k hk).2.1⟩), d3.2.cg (fun k hk => ⟨(a2.2 k hk).1, (a2.2 k hk).2.1⟩)⟩, fun j => ⟨(inS_cg (fun k hk => ⟨(a1.2 k hk).1, (a1.2 k hk).2.1⟩)).trans (d4 j).1, (inS_cg (fun k hk => ⟨(a2.2 k hk).1, (a2.2 k hk).2.1⟩)).trans (d4 j).2⟩⟩
    have yw : w (hR h (a + 1) i') = 1000 + i' := by rw [er0]; rw [er0] at t; exact C.xw hi' t
    have ky := Z.keep C (y := hR h (a + 1) i') (by omega) (by omega)
    have yx : hR h (a + 1) i' ≠ x := fun t => by rw [t] at yw; omega
    have v : ∀ q, hI (sI h1 x k c) (hR h (a + 1) i') q = hI h (hR h (a + 1) i') q := fun q => by rw [hI_sI, if_neg (fun t => yx t.1)]; exact q5.1.i ky.2.1 ky.1
    rw [v, v]
    exact ⟨(d1 t).1.cg (fun k hk => (a1.2 k hk).2.2), (d1 t).2.cg (fun k hk => (a2.2 k hk).2.2)⟩
  refine ⟨fun c S h1 O hS => ?_, fun c S h1 O hS => ?_⟩
  · obtain ⟨m', fr', F', T', X', L', q1, q2, q3, q4, q5, q6, q7⟩ := both 6 (1 + 2 * i) c S h1 (Or.inl ⟨rfl, rfl⟩) O hS
    have a2 := q4 (2 + 2 * i) (by omega) (by omega)
    refine ⟨⟨m', fr', F', T', X', L', q1, ⟨?_, ?_⟩, q3, fun j => ?_, ⟨a2.1, a2.2⟩, q5⟩, q6⟩
    · rw [hI_sI, if_pos ⟨rfl, rfl⟩]; exact q2
    · rw [q7 7 (by decide), a2.1]; exact c7.cg (fun k hk => (a2.2 k hk).2.2)
    · rw [a2.1]; exact (inS_cg (fun k hk => ⟨(a2.2 k hk).1, (a2.2 k hk).2.1⟩)).trans (e7 j)
  · obtain ⟨m', fr', F', T', X', L', q1, q2, q3, q4, q5, q6, q7⟩ := both 7 (2 + 2 * i) c S h1 (Or.inr ⟨rfl, rfl⟩) O hS
    have a1 := q4 (1 + 2 * i) (by omega) (by omega)
    refine ⟨⟨L' (2 + 2 * i), F', T', X', m', fr', F', T', X', L', q1, ⟨?_, ?_⟩, fun j => ?_, q3, ⟨rfl, fun _ _ => ⟨rfl, rfl, rfl⟩⟩, q5⟩, q6⟩
    · rw [q7 6 (by decide), a1.1]; exact c6.cg (fun k hk => (a1.2 k hk).2.2)
    · rw [hI_sI, if_pos ⟨rfl, rfl⟩]; exact q2
    · rw [a1.1]; exact (inS_cg (fun k hk => ⟨(a1.2 k hk).1, (a1.2 k hk).2.1⟩)).trans (e6 j)
/-- the pool at the start -/
theorem GS.of (C : HC h a w s z) (V : HV s z) (hi : i < 256) (x0 : hR h (a + 1) i ≠ 0) : ∃ l F T X, GS h a (hR h (a + 1) i) i z l F T X (fun j => 0 ≤ j ∧ zM z i j.toNat = 2) (fun j => 0 ≤ j ∧ zM z i j.toNat = 3) := by
  obtain ⟨m, fr, F, T, X, L, c1, c2, c3, c4⟩ := C.2.2.2.1
  obtain ⟨d1, d2, d3, d4⟩ := c4 i hi
  have pos : ∀ n j, 1 ≤ n → n < 513 → inS F T (L n) j → 0 ≤ j := fun n j n1 n5 ⟨k, hk, q⟩ => by
    have hh := c4 ((n - 1) / 2) (by omega)
    have R : RnL F T (-1) (L n) := by
      rcases (show n = 1 + 2 * ((n - 1) / 2) ∨ n = 2 + 2 * ((n - 1) / 2) by omega) with e | e
      · rw [e]; exact hh.2.2.1.1
      · rw [e]; exact hh.2.2.1.2
    have := R.le k hk; omega
  have lim : ∀ n, 1 ≤ n → n < 513 → RnL F T (-1) (L n) ∧ ∀ k, k ∈ L n → T k ≤ zP z 2 ((n - 1) / 2) := fun n n1 n5 => by
    have hi' : (n - 1) / 2 < 256 := by omega
    have hh := c4 ((n - 1) / 2) hi'
    have v := V.S hi'
    obtain ⟨i', ei⟩ : ∃ i', i' = (n - 1) / 2 := ⟨_, rfl⟩
    rw [← ei] at hh v hi' ⊢
    have mk : ∀ j : Nat, zM z i' j ≠ 0 → (j : Int) < zP z 2 i' := fun j hj => by
      have := (v.2.2.2.2.2.1 j).2.2
      have := v.2.2.2.1.1
      by_cases q : zP z 3 i' ≤ j
      · exact absurd ((v.2.2.2.2.2.1 j).2.2.2 q) hj
      · omega
    have fin : ∀ (R : RnL F T (-1) (L n)), (∀ j : Nat, inS F T (L n) j → zM z i' j ≠ 0) → RnL F T (-1) (L n) ∧ ∀ k, k ∈ L n → T k ≤ zP z 2 i' := fun R q => ⟨R, fun k hk => inS_T R hk (fun j hj => by
      have p := pos n j n1 n5 hj
      have := mk j.toNat (q j.toNat (by rw [show ((j.toNat : Nat) : Int) = j by omega]; exact hj))
      omega)⟩
    rcases (show n = 1 + 2 * i' ∨ n = 2 + 2 * i' by omega) with e | e
    · rw [e] at fin ⊢
      exact fin hh.2.2.1.1 (fun j hj => by have := (hh.2.2.2 j).1.1 hj; omega)
    · rw [e] at fin ⊢
      exact fin hh.2.2.1.2 (fun j hj => by have := (hh.2.2.2 j).2.1 hj; omega)
  refine ⟨L (2 + 2 * i), F, T, X, m, fr, F, T, X, L, ⟨c1, c2, c3, lim⟩, d1 x0, fun j => ⟨fun q => ?_, fun q => ?_⟩, fun j => ⟨fun q => ?_, fun q => ?_⟩, ⟨rfl, fun _ _ => ⟨rfl, rfl, rfl⟩⟩, fun i' hi' _ => c4 i' hi'⟩
  · have p := pos (1 + 2 * i) j (by omega) (by omega) q
    exact ⟨p, (d4 j.toNat).1.1 (by rw [show ((j.toNat : Nat) : Int) = j by omega]; exact q)⟩
  · have := (d4 j.toNat).1.2 q.2
    rw [show ((j.toNat : Nat) : Int) = j by omega] at this; exact this
  · have p := pos (2 + 2 * i) j (by omega) (by omega) q
    exact ⟨p, (d4 j.toNat).2.1 (by rw [show ((j.toNat : Nat) : Int) = j by omega]; exact q)⟩
  · have := (d4 j.toNat).2.2 q.2
    rw [show ((j.toNat : Nat) : Int) = j by omega] at this; exact this
end
