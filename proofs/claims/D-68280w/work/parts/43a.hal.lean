/-! streams, class: cells that are as they were -/
/-- a cell is as it was -/
def Sx (h h' : Hp) (x : Nat) : Prop := (∀ y, hI h' x y = hI h x y ∧ hJ h' x y = hJ h x y ∧ hR h' x y = hR h x y) ∧ ln h' x = ln h x
section
variable {h h' h'' : Hp} {x p m o u np a k y : Nat} {fr v : Int} {F T X A Z B D M I : Nat → Int} {C : Nat → Prop}
theorem Sx.i (S : Sx h h' x) : hI h' x k = hI h x k := (S.1 k).1
theorem Sx.j (S : Sx h h' x) : hJ h' x k = hJ h x k := (S.1 k).2.1
theorem Sx.r (S : Sx h h' x) : hR h' x k = hR h x k := (S.1 k).2.2
theorem Sx.l (S : Sx h h' x) : ln h' x = ln h x := S.2
theorem Sx.rf : Sx h h x := ⟨fun _ => ⟨rfl, rfl, rfl⟩, rfl⟩
theorem Sx.tr (S : Sx h h' x) (S' : Sx h' h'' x) : Sx h h'' x := ⟨fun y => ⟨(S'.1 y).1.trans (S.1 y).1, (S'.1 y).2.1.trans (S.1 y).2.1, (S'.1 y).2.2.trans (S.1 y).2.2⟩, S'.2.trans S.2⟩
theorem GF.s (G : GF C h h') (hx : x < hN h) (n : ¬ C x) : Sx h h' x := G.2 x hx n
theorem FX.s (G : FX C h h') (n : ¬ C x) : Sx h h' x := ⟨fun y => ⟨G.i n, G.j n, by rw [G.r]⟩, by rw [G.l]⟩
theorem Sx.sI (n : x ≠ a) : Sx h (sI h a k v) x := ⟨fun y => ⟨by rw [hI_sI, if_neg (fun z => n z.1)], rfl, rfl⟩, rfl⟩
theorem Sx.sJ (n : x ≠ a) : Sx h (sJ h a k v) x := ⟨fun y => ⟨rfl, by rw [hJ_sJ, if_neg (fun z => n z.1)], rfl⟩, rfl⟩
theorem Sx.sR (n : x ≠ a) : Sx h (sR h a k y) x := ⟨fun y => ⟨rfl, rfl, by rw [hR_sR, if_neg (fun z => n z.1)]⟩, rfl⟩
theorem Sx.nw {kk l z : Nat} (n : x ≠ hN h) : Sx h (nwC h kk l z) x := ⟨fun y => ⟨by rw [hI_nw, if_neg n], by rw [hJ_nw, if_neg n], by rw [hR_nw, if_neg n]⟩, by rw [ln_nw', if_neg n]⟩
theorem SpP.same (P : SpP h p m fr F T X) (n : hN h ≤ hN h') (e : ∀ x, SpD h p x → Sx h h' x) : SpP h' p m fr F T X := by
  obtain ⟨p1, p2, ⟨p3, p4, p5⟩, p6, p7, p8⟩ := P
  have e0 := e p (Or.inl rfl)
  have e1 := e _ (Or.inr (Or.inl rfl))
  have e2 := e _ (Or.inr (Or.inr (Or.inl rfl)))
  have e3 := e _ (Or.inr (Or.inr (Or.inr rfl)))
  unfold SpP
  rw [e0.i, e0.i, e0.r, e0.r, e0.r, e1.l, e2.l, e3.l]
  exact ⟨⟨p1.1, by omega⟩, p2, ⟨⟨p3.1, p3.2.1, by omega⟩, ⟨p4.1, p4.2.1, by omega, p4.2.2.2⟩, ⟨p5.1, p5.2.1, by omega, p5.2.2.2⟩⟩, p6, p7, fun k hk => by rw [e1.i, e2.i, e3.i]; exact p8 k hk⟩
theorem SpD.same (e : Sx h h' p) : SpD h' p x ↔ SpD h p x := by unfold SpD; rw [e.r, e.r, e.r]
theorem sp_room (e : Sx h h' p) (e1 : Sx h h' (hR h p 0)) : spN h' p = spN h p ∧ spZ h' p = spZ h p := by unfold spN spZ; rw [e.r, e1.l]; exact ⟨rfl, rfl⟩
theorem SoP.same (P : SoP h o u np A Z X B) (e : ∀ x, SoD h o x → Sx h h' x) : SoP h' o u np A Z X B := by
  obtain ⟨⟨p1, p2, p3⟩, ⟨q1, q2, q3, q4⟩, d, b, f, g⟩ := P
  have e0 := e o (Or.inl rfl)
  have e1 := e _ (Or.inr (Or.inl rfl))
  have e2 := e _ (Or.inr (Or.inr (Or.inl rfl)))
  have e3 := e _ (Or.inr (Or.inr (Or.inr (Or.inl rfl))))
  have e4 := e _ (Or.inr (Or.inr (Or.inr (Or.inr rfl))))
  unfold SoP
  rw [e0.i, e0.i, e0.r, e0.r, e0.r, e0.r, e1.l, e2.l, e3.l, e4.l]
  exact ⟨⟨p1, p2, p3⟩, ⟨q1, q2, q3, q4⟩, d, b, fun k hk => by rw [e2.i, e3.i, e4.i]; exact f k hk, fun j hj => by rw [e1.i]; exact g j hj⟩
theorem SoD.same (e : Sx h h' o) : SoD h' o x ↔ SoD h o x := by unfold SoD; rw [e.r, e.r, e.r, e.r]
theorem BlP.same (P : BlP h o m fr D M I X) (n : hN h ≤ hN h') (e : ∀ x, BlD h o x → Sx h h' x) : BlP h' o m fr D M I X := by
  obtain ⟨p1, p2, ⟨p3, p4, p5, p6⟩, p7, p8, p9, p10⟩ := P
  have e0 := e o (Or.inl rfl)
  have e1 := e _ (Or.inr (Or.inl rfl))
  have e2 := e _ (Or.inr (Or.inr (Or.inl rfl)))
  have e3 := e _ (Or.inr (Or.inr (Or.inr (Or.inl rfl))))
  have e4 := e _ (Or.inr (Or.inr (Or.inr (Or.inr rfl))))
  unfold BlP
  rw [e0.i, e0.i, e0.r, e0.r, e0.r, e0.r, e1.l, e2.l, e3.l, e4.l]
  exact ⟨⟨p1.1, by omega⟩, p2, ⟨⟨p3.1, p3.2.1, by omega, p3.2.2.2⟩, ⟨p4.1, p4.2.1, by omega⟩, ⟨p5.1, p5.2.1, by omega, p5.2.2.2⟩, ⟨p6.1, p6.2.1, by omega, p6.2.2.2⟩⟩, p7, p8, fun k hk => by rw [e2.j, e3.i, e4.i]; exact p9 k hk, fun j hj => by rw [e1.i]; exact p10 j hj⟩
theorem BlD.same (e : Sx h h' o) : BlD h' o x ↔ BlD h o x := by unfold BlD; rw [e.r, e.r, e.r, e.r]
theorem bl_room (e : Sx h h' o) (e1 : Sx h h' (hR h o 1)) : blN h' o = blN h o ∧ blZ h' o = blZ h o := by unfold blN blZ; rw [e.r, e1.l]; exact ⟨rfl, rfl⟩
theorem LHl.same (L : LHl h a) (e : ∀ k, k < 4 ∨ k = 6 ∨ k = 7 ∨ k = 12 ∨ k = 13 ∨ k = 22 → Sx h h' (a + k)) : LHl h' a := by
  obtain ⟨l1, l2, l3⟩ := L
  have c1 : ∀ q ∈ LHlR, q.1 < 4 ∨ q.1 = 6 ∨ q.1 = 7 ∨ q.1 = 12 ∨ q.1 = 13 ∨ q.1 = 22 := by decide
  have c2 : ∀ q ∈ LHlU, q.1 < 4 ∨ q.1 = 6 ∨ q.1 = 7 ∨ q.1 = 12 ∨ q.1 = 13 ∨ q.1 = 22 := by decide
  exact ⟨l1, fun q hq => by rw [(e q.1 (c1 q hq)).r]; exact l2 q hq, fun q hq => by rw [(e q.1 (c2 q hq)).l]; exact l3 q hq⟩
end
/-! streams, class: the hall -/
/-- the hall's cells by codes: 1 .. 8 its own, 9 ranges, 10 store, 11 blocks, 12 row, 1000 .. sending, 2000 .. getting -/
def HW (h : Hp) (a : Nat) (w : Nat → Nat) : Prop := (∀ k, k < 8 → w (a + k) = 1 + k) ∧ (∀ x, SpD h (a + 8) x → w x = 9) ∧ (∀ x, SoD h (a + 12) x → w x = 10) ∧ (∀ x, BlD h (a + 17) x → w x = 11) ∧ w (a + 22) = 12 ∧ w 0 = 0 ∧ ∀ x, w x ≠ 0 → 64 ≤ x ∧ x < hN h
def HCs (h : Hp) (x i : Nat) (z : HSt) : Prop := hI h x 0 = zP z 1 i ∧ hI h x 1 = zP z 2 i ∧ hI h x 2 = zP z 3 i ∧ hI h x 3 = zP z 4 i ∧ hJ h x 8 = zP z 5 i ∧ hJ h x 9 = zP z 6 i ∧ hJ h x 10 = zP z 7 i ∧ (zP z 1 i = 3 → hI h x 11 = zP z 8 i)
def HCr (h : Hp) (y s i : Nat) (z : HSt) : Prop := hI h y 0 = zGr s z i ∧ hI h y 1 = zP z 10 i ∧ hI h y 2 = zP z 11 i ∧ hI h y 3 = zP z 12 i ∧ hI h y 4 = zP z 13 i ∧ hI h y 5 = zP z 14 i ∧ hI h y 6 = zP z 15 i ∧ hJ h y 8 = zP z 16 i ∧ hJ h y 9 = zP z 17 i ∧ hI h y 10 = zP z 18 i ∧ hI h y 11 = zP z 19 i ∧ hI h y 12 = zP z 20 i
def HCi (h : Hp) (a : Nat) (w : Nat → Nat) (s : Nat) (z : HSt) (i : Nat) : Prop :=
  ((hR h (a + 1) i ≠ 0 ↔ zP z 0 i = 1 ∧ zSd s i) ∧ (hR h (a + 1) i ≠ 0 → w (hR h (a + 1) i) = 1000 + i ∧ HCs h (hR h (a + 1) i) i z)) ∧
  ((hR h (a + 2) i ≠ 0 ↔ zP z 0 i = 1 ∧ zRc s i) ∧ (hR h (a + 2) i ≠ 0 → w (hR h (a + 2) i) = 2000 + i ∧ HCr h (hR h (a + 2) i) s i z))
/-- numbers of the hall; of a way; grants and limits -/
def HCq (h : Hp) (a s : Nat) (z : HSt) : Prop := hI h a 0 = s ∧ hJ h a 9 = zQ z 1 ∧ hJ h a 10 = zQ z 2 ∧ hI h a 11 = zQ z 3 ∧ hI h a 12 = zQ z 4 ∧ hI h a 13 = zQ z 5 ∧ hI h a 14 = zQ z 6 ∧ hI h a 15 = zQ z 7 ∧ hI h a 16 = zQ z 8
def HCw (h : Hp) (b w : Nat) (z : HSt) : Prop := hI h b 0 = zQ z (10 + 10 * w) ∧ hI h b 1 = zQ z (11 + 10 * w) ∧ hI h b 2 = zQ z (12 + 10 * w) ∧ hJ h b 3 = zQ z (13 + 10 * w) ∧ (hJ h b 4 = hJ h b 3 ↔ zQ z (14 + 10 * w) = 1) ∧ hJ h b 4 ≤ hJ h b 3 ∧ hJ h b 5 = zQ z (15 + 10 * w) ∧ hI h b 6 = zQ z (16 + 10 * w)
def HCg (h : Hp) (a : Nat) (z : HSt) : Prop := (∀ k, k < 6 → hI h (a + 6) k = zQ z (30 + k)) ∧ ∀ k, k < 3 → hJ h (a + 7) (1 + k) = zQ z (41 + k)
/-- lists of nodes of a pool: list 0 is free -/
def PoL (L : Nat → List Nat) (m N : Nat) : Prop := (∀ n, (L n).Nodup) ∧ (∀ n n' k, n ≠ n' → k ∈ L n → k ∉ L n') ∧ (∀ n k, k ∈ L n → k < m) ∧ (m : Int) = sm (fun n => ((L n).length : Int)) N
/-- lost and here ranges of a stream -/
def HCc (h : Hp) (a : Nat) (z : HSt) (F T X : Nat → Int) (L : Nat → List Nat) (i : Nat) : Prop := (hR h (a + 1) i ≠ 0 → ChX X (hI h (hR h (a + 1) i) 6) (L (1 + 2 * i)) ∧ ChX X (hI h (hR h (a + 1) i) 7) (L (2 + 2 * i))) ∧ (hR h (a + 1) i = 0 → L (1 + 2 * i) = [] ∧ L (2 + 2 * i) = []) ∧ (RnL F T (-1) (L (1 + 2 * i)) ∧ RnL F T (-1) (L (2 + 2 * i))) ∧ ∀ j : Nat, (inS F T (L (1 + 2 * i)) j ↔ zM z i j = 2) ∧ (inS F T (L (2 + 2 * i)) j ↔ zM z i j = 3)
def HCm (h : Hp) (a : Nat) (z : HSt) : Prop := ∃ (m : Nat) (fr : Int) (F T X : Nat → Int) (L : Nat → List Nat), SpP h (a + 8) m fr F T X ∧ ChX X fr (L 0) ∧ PoL L m 513 ∧ ∀ i, i < 256 → HCc h a z F T X L i
def HCo (h : Hp) (a : Nat) (z : HSt) : Prop := ∃ (np : Nat) (A Z X : Nat → Int) (L : Nat → List Nat), SoP h (a + 12) (zQ z 9).toNat np A Z X (zB z) ∧ (np : Int) ≤ zQ z 50 ∧ ((∀ i i' k, i ≠ i' → k ∈ L i → k ∉ L i') ∧ ∀ i k, k ∈ L i → k < np) ∧ ∀ i, i < 256 → (hR h (a + 1) i ≠ 0 → StS A Z X np (hI h (hR h (a + 1) i) 4) (hI h (hR h (a + 1) i) 5) (zP z 2 i).toNat (zE z i) (L i)) ∧ (hR h (a + 1) i = 0 → L i = [])
/-- the blocks of a stream -/
def HCd (h : Hp) (a : Nat) (z : HSt) (D M I X : Nat → Int) (L : Nat → List Nat) (i : Nat) : Prop := (hR h (a + 2) i ≠ 0 → ChX X (hI h (hR h (a + 2) i) 7) (L (1 + i))) ∧ (hR h (a + 2) i = 0 → L (1 + i) = []) ∧ InL I (-1) (L (1 + i)) ∧ (∀ k, k ∈ L (1 + i) → c64 (M k) ∧ 64 * I k < zP z 13 i ∧ (((zP z 11 i).toNat / 64 : Nat) : Int) ≤ I k) ∧ (zP z 10 i = 4 → L (1 + i) = []) ∧ (zP z 10 i ≠ 4 → ∃ S, BlS D M I (L (1 + i)) S (zW z i) ∧ (∀ q : Nat, S q → zH z i q ∧ (zP z 11 i).toNat / 64 ≤ q / 64) ∧ ∀ q : Nat, zP z 11 i ≤ q → zH z i q → S q)
def HCb (h : Hp) (a : Nat) (z : HSt) : Prop := ∃ (m : Nat) (fr : Int) (D M I X : Nat → Int) (L : Nat → List Nat), BlP h (a + 17) m fr D M I X ∧ ChX X fr (L 0) ∧ PoL L m 257 ∧ ∀ i, i < 256 → HCd h a z D M I X L i
/-- the hall of side s holds the rows z -/
def HC (h : Hp) (a : Nat) (w : Nat → Nat) (s : Nat) (z : HSt) : Prop := (LHl h a ∧ HW h a w) ∧ (HCq h a s z ∧ HCw h (a + 4) 0 z ∧ HCw h (a + 5) 1 z ∧ HCg h a z) ∧ (∀ i, i < 256 → HCi h a w s z i) ∧ HCm h a z ∧ HCo h a z ∧ HCb h a z
theorem HC.L {h : Hp} {b u : Nat} {w : Nat → Nat} {z : HSt} (C : HC h b w u z) : LHl h b := C.1.1
theorem HC.W {h : Hp} {b u : Nat} {w : Nat → Nat} {z : HSt} (C : HC h b w u z) : HW h b w := C.1.2
theorem HC.i {h : Hp} {b u n : Nat} {w : Nat → Nat} {z : HSt} (C : HC h b w u z) (hi : n < 256) : HCi h b w u z n := C.2.2.1 n hi
