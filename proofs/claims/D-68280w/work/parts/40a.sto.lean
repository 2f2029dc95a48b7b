/-! what is written: the class's store -/
/-- u bytes B lie there; np pieces: where, how many, the next -/
def SoP (h : Hp) (o u np : Nat) (A Z X B : Nat → Int) : Prop := (o ≠ 0 ∧ hI h o 1 = (u : Int) ∧ hI h o 5 = (np : Int)) ∧ ((hR h o 0 ≠ 0 ∧ hR h o 0 ≠ o ∧ ln h (hR h o 0) = 65536) ∧ (hR h o 2 ≠ 0 ∧ hR h o 2 ≠ o ∧ ln h (hR h o 2) = 64) ∧ (hR h o 3 ≠ 0 ∧ hR h o 3 ≠ o ∧ ln h (hR h o 3) = 64) ∧ (hR h o 4 ≠ 0 ∧ hR h o 4 ≠ o ∧ ln h (hR h o 4) = 64)) ∧ (hR h o 0 ≠ hR h o 2 ∧ hR h o 0 ≠ hR h o 3 ∧ hR h o 0 ≠ hR h o 4 ∧ hR h o 2 ≠ hR h o 3 ∧ hR h o 2 ≠ hR h o 4 ∧ hR h o 3 ≠ hR h o 4) ∧ (u ≤ 65536 ∧ np ≤ 64) ∧ (∀ k, k < np → hI h (hR h o 2) k = A k ∧ hI h (hR h o 3) k = Z k ∧ hI h (hR h o 4) k = X k) ∧ ∀ j, j < 65536 → hI h (hR h o 0) j = B j
/-- the cells of a store -/
def SoD (h : Hp) (o x : Nat) : Prop := x = o ∨ x = hR h o 0 ∨ x = hR h o 2 ∨ x = hR h o 3 ∨ x = hR h o 4
/-- where the bytes of a stream lie: from byte b on, by its pieces -/
def PcB (A Z : Nat → Int) (e : Nat → Nat) : Nat → List Nat → Prop
  | _, [] => True
  | b, k :: l => 0 ≤ Z k ∧ 0 ≤ A k ∧ (∀ j, j < (Z k).toNat → e (b + j) = (A k).toNat + j) ∧ PcB A Z e (b + (Z k).toNat) l
def totZ (Z : Nat → Int) : List Nat → Nat
  | [] => 0
  | k :: l => (Z k).toNat + totZ Z l
section
variable {h : Hp} {o u np k : Nat} {A Z X B : Nat → Int} {v : Int} {A' Z' : Nat → Int} {e e' : Nat → Nat} {b : Nat} {l l1 l2 : List Nat}
theorem SoP.sa (P : SoP h o u np A Z X B) (hk : k < np) : SoP (sI h (hR h o 2) k v) o u np (up1 A k v) Z X B := by
  obtain ⟨⟨p1, p2, p3⟩, ⟨q1, q2, q3, q4⟩, d, b, e, f⟩ := P
  refine ⟨⟨p1, by rw [hI_sI, if_neg (by lia)]; exact p2, by rw [hI_sI, if_neg (by lia)]; exact p3⟩, ⟨q1, q2, q3, q4⟩, d, b, fun j hj => ⟨?_, ?_, ?_⟩, fun j hj => ?_⟩
  · show hI (sI h (hR h o 2) k v) (hR h o 2) j = _
    rw [hI_sI]
    by_cases c : j = k
    · rw [if_pos ⟨rfl, c⟩, c, up1_eq]
    · rw [if_neg (fun z => c z.2), up1_ne c]; exact (e j hj).1
  · show hI (sI h (hR h o 2) k v) (hR h o 3) j = _
    rw [hI_sI, if_neg (by lia)]; exact (e j hj).2.1
  · show hI (sI h (hR h o 2) k v) (hR h o 4) j = _
    rw [hI_sI, if_neg (by lia)]; exact (e j hj).2.2
  · show hI (sI h (hR h o 2) k v) (hR h o 0) j = _
    rw [hI_sI, if_neg (by lia)]; exact f j hj
theorem SoP.sz (P : SoP h o u np A Z X B) (hk : k < np) : SoP (sI h (hR h o 3) k v) o u np A (up1 Z k v) X B := by
  obtain ⟨⟨p1, p2, p3⟩, ⟨q1, q2, q3, q4⟩, d, b, e, f⟩ := P
  refine ⟨⟨p1, by rw [hI_sI, if_neg (by lia)]; exact p2, by rw [hI_sI, if_neg (by lia)]; exact p3⟩, ⟨q1, q2, q3, q4⟩, d, b, fun j hj => ⟨?_, ?_, ?_⟩, fun j hj => ?_⟩
  · show hI (sI h (hR h o 3) k v) (hR h o 2) j = _
    rw [hI_sI, if_neg (by lia)]; exact (e j hj).1
  · show hI (sI h (hR h o 3) k v) (hR h o 3) j = _
    rw [hI_sI]
    by_cases c : j = k
    · rw [if_pos ⟨rfl, c⟩, c, up1_eq]
    · rw [if_neg (fun z => c z.2), up1_ne c]; exact (e j hj).2.1
  · show hI (sI h (hR h o 3) k v) (hR h o 4) j = _
    rw [hI_sI, if_neg (by lia)]; exact (e j hj).2.2
  · show hI (sI h (hR h o 3) k v) (hR h o 0) j = _
    rw [hI_sI, if_neg (by lia)]; exact f j hj
theorem SoP.sx (P : SoP h o u np A Z X B) (hk : k < np) : SoP (sI h (hR h o 4) k v) o u np A Z (up1 X k v) B := by
  obtain ⟨⟨p1, p2, p3⟩, ⟨q1, q2, q3, q4⟩, d, b, e, f⟩ := P
  refine ⟨⟨p1, by rw [hI_sI, if_neg (by lia)]; exact p2, by rw [hI_sI, if_neg (by lia)]; exact p3⟩, ⟨q1, q2, q3, q4⟩, d, b, fun j hj => ⟨?_, ?_, ?_⟩, fun j hj => ?_⟩
  · show hI (sI h (hR h o 4) k v) (hR h o 2) j = _
    rw [hI_sI, if_neg (by lia)]; exact (e j hj).1
  · show hI (sI h (hR h o 4) k v) (hR h o 3) j = _
    rw [hI_sI, if_neg (by lia)]; exact (e j hj).2.1
  · show hI (sI h (hR h o 4) k v) (hR h o 4) j = _
    rw [hI_sI]
    by_cases c : j = k
    · rw [if_pos ⟨rfl, c⟩, c, up1_eq]
    · rw [if_neg (fun z => c z.2), up1_ne c]; exact (e j hj).2.2
  · show hI (sI h (hR h o 4) k v) (hR h o 0) j = _
    rw [hI_sI, if_neg (by lia)]; exact f j hj
/-- other cells do not matter -/
theorem SoP.ot {a y : Nat} (P : SoP h o u np A Z X B) (ha : ¬ SoD h o a) : SoP (sI h a y v) o u np A Z X B := by
  obtain ⟨⟨p1, p2, p3⟩, ⟨q1, q2, q3, q4⟩, d, b, e, f⟩ := P
  have n0 : o ≠ a := fun z => ha (Or.inl z.symm)
  have n1 : hR h o 0 ≠ a := fun z => ha (Or.inr (Or.inl z.symm))
  have n2 : hR h o 2 ≠ a := fun z => ha (Or.inr (Or.inr (Or.inl z.symm)))
  have n3 : hR h o 3 ≠ a := fun z => ha (Or.inr (Or.inr (Or.inr (Or.inl z.symm))))
  have n4 : hR h o 4 ≠ a := fun z => ha (Or.inr (Or.inr (Or.inr (Or.inr z.symm))))
  refine ⟨⟨p1, by rw [hI_sI, if_neg (fun z => n0 z.1)]; exact p2, by rw [hI_sI, if_neg (fun z => n0 z.1)]; exact p3⟩, ⟨q1, q2, q3, q4⟩, d, b, fun j hj => ⟨?_, ?_, ?_⟩, fun j hj => ?_⟩
  · show hI (sI h a y v) (hR h o 2) j = _
    rw [hI_sI, if_neg (fun z => n2 z.1)]; exact (e j hj).1
  · show hI (sI h a y v) (hR h o 3) j = _
    rw [hI_sI, if_neg (fun z => n3 z.1)]; exact (e j hj).2.1
  · show hI (sI h a y v) (hR h o 4) j = _
    rw [hI_sI, if_neg (fun z => n4 z.1)]; exact (e j hj).2.2
  · show hI (sI h a y v) (hR h o 0) j = _
    rw [hI_sI, if_neg (fun z => n1 z.1)]; exact f j hj
theorem PcB.cg (P : PcB A Z e b l) (c : ∀ k, k ∈ l → A' k = A k ∧ Z' k = Z k) (d : ∀ j, b ≤ j → j < b + totZ Z l → e' j = e j) : PcB A' Z' e' b l := by
  induction l generalizing b with
  | nil => trivial
  | cons k l ih =>
    obtain ⟨p1, p2, p3, p4⟩ := P
    have ck := c k List.mem_cons_self
    have et : totZ Z (k :: l) = (Z k).toNat + totZ Z l := rfl
    refine ⟨by rw [ck.2]; exact p1, by rw [ck.1]; exact p2, fun j hj => ?_, ?_⟩
    · rw [ck.2] at hj
      rw [ck.1, d _ (by omega) (by omega)]; exact p3 j hj
    · rw [ck.2]
      exact ih p4 (fun j hj => c j (List.mem_cons_of_mem _ hj)) (fun j h1 h2 => d j (by omega) (by omega))
theorem totZ_cg (c : ∀ k, k ∈ l → Z' k = Z k) : totZ Z' l = totZ Z l := by
  induction l with
  | nil => rfl
  | cons k l ih =>
    show (Z' k).toNat + totZ Z' l = (Z k).toNat + totZ Z l
    rw [c k List.mem_cons_self, ih (fun j hj => c j (List.mem_cons_of_mem _ hj))]
theorem totZ_app : totZ Z (l1 ++ l2) = totZ Z l1 + totZ Z l2 := by
  induction l1 with
  | nil => exact (Nat.zero_add _).symm
  | cons k l ih => show (Z k).toNat + totZ Z (l ++ l2) = (Z k).toNat + totZ Z l + totZ Z l2; rw [ih]; omega
theorem PcB_app : PcB A Z e b (l1 ++ l2) ↔ PcB A Z e b l1 ∧ PcB A Z e (b + totZ Z l1) l2 := by
  induction l1 generalizing b with
  | nil => exact ⟨fun z => ⟨trivial, z⟩, fun z => z.2⟩
  | cons k l ih =>
    have et : b + totZ Z (k :: l) = b + (Z k).toNat + totZ Z l := by show b + ((Z k).toNat + totZ Z l) = _; omega
    rw [et]
    show (_ ∧ _ ∧ _ ∧ PcB A Z e (b + (Z k).toNat) (l ++ l2)) ↔ (_ ∧ _ ∧ _ ∧ PcB A Z e (b + (Z k).toNat) l) ∧ _
    rw [ih]
    exact ⟨fun ⟨a, b, c, d, f⟩ => ⟨⟨a, b, c, d⟩, f⟩, fun ⟨⟨a, b, c, d⟩, f⟩ => ⟨a, b, c, d, f⟩⟩
end
/-- only ints in cells of D differ -/
def FI (D : Nat → Prop) (h h' : Hp) : Prop := FX D h h' ∧ hJ h' = hJ h
section
variable {D E : Nat → Prop} {h h' h'' : Hp} {xx yy : Nat}
theorem FI.x (F : FI D h h') : FX D h h' := F.1
theorem FI.r (F : FI D h h') : hR h' = hR h := F.1.r
theorem FI.l (F : FI D h h') : ln h' = ln h := F.1.l
theorem FI.n (F : FI D h h') : hN h' = hN h := F.1.n
theorem FI.z (F : FI D h h') : hZ h' = hZ h := F.1.z
theorem FI.i (F : FI D h h') (q : ¬ D xx) : hI h' xx yy = hI h xx yy := F.1.i q
theorem FI.rf : FI D h h := ⟨FX.rf, rfl⟩
theorem FI.tr (F : FI D h h') (G : FI D h' h'') : FI D h h'' := ⟨F.1.tr G.1, G.2.trans F.2⟩
theorem FI.mono (F : FI D h h') (m : ∀ x, D x → E x) : FI E h h' := ⟨F.1.mono m, F.2⟩
theorem FI.sI {a k : Nat} {v : Int} (m : D a) : FI D h (sI h a k v) := ⟨FX.sI m, rfl⟩
theorem FI.cI {s sp d dp n : Nat} (m : D d) : FI D h (cpI h s sp d dp n) := ⟨FX.cI m, rfl⟩
end
