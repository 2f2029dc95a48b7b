/-! spans: the pool of ranges, as the class holds it -/
/-- a length that doubles up to 131072 -/
def Pw (L : Nat) : Prop := ∃ j, L * 2 ^ j = 131072
theorem Pw.le {L : Nat} (P : Pw L) : L ≤ 131072 := by
  obtain ⟨j, e⟩ := P
  have : 1 ≤ 2 ^ j := Nat.one_le_two_pow
  calc L = L * 1 := (Nat.mul_one L).symm
    _ ≤ L * 2 ^ j := Nat.mul_le_mul_left L this
    _ = 131072 := e
theorem Pw.dbl {L : Nat} (P : Pw L) (h : L < 131072) : Pw (2 * L) := by
  obtain ⟨j, e⟩ := P
  cases j with
  | zero => rw [Nat.pow_zero, Nat.mul_one] at e; omega
  | succ j => exact ⟨j, by rw [← e, Nat.pow_succ, Nat.mul_comm (2 ^ j) 2, ← Nat.mul_assoc, Nat.mul_comm L 2]⟩
/-- m ranges were made; fr is free; from, to, next -/
def SpP (h : Hp) (p m : Nat) (fr : Int) (F T X : Nat → Int) : Prop := (p ≠ 0 ∧ p < hN h) ∧ (hI h p 3 = (m : Int) ∧ hI h p 4 = fr) ∧ ((hR h p 0 ≠ 0 ∧ hR h p 0 ≠ p ∧ hR h p 0 < hN h) ∧ (hR h p 1 ≠ 0 ∧ hR h p 1 ≠ p ∧ hR h p 1 < hN h ∧ ln h (hR h p 1) = ln h (hR h p 0)) ∧ (hR h p 2 ≠ 0 ∧ hR h p 2 ≠ p ∧ hR h p 2 < hN h ∧ ln h (hR h p 2) = ln h (hR h p 0))) ∧ (hR h p 0 ≠ hR h p 1 ∧ hR h p 0 ≠ hR h p 2 ∧ hR h p 1 ≠ hR h p 2) ∧ (64 ≤ ln h (hR h p 0) ∧ Pw (ln h (hR h p 0)) ∧ m ≤ ln h (hR h p 0)) ∧ ∀ k, k < m → hI h (hR h p 0) k = F k ∧ hI h (hR h p 1) k = T k ∧ hI h (hR h p 2) k = X k
/-- the cells of a pool -/
def SpD (h : Hp) (p x : Nat) : Prop := x = p ∨ x = hR h p 0 ∨ x = hR h p 1 ∨ x = hR h p 2
/-- what a pool's step leaves: other cells; its own are old or new -/
def SpG (p : Nat) (h h' : Hp) : Prop := GF (SpD h p) h h' ∧ (∀ x, SpD h' p x → SpD h p x ∨ hN h ≤ x)
/-- cells and slots that the pool may still take -/
def spN (h : Hp) (p : Nat) : Nat := (131072 - ln h (hR h p 0)) / 16
def spZ (h : Hp) (p : Nat) : Nat := 6 * (131072 - ln h (hR h p 0))
section
variable {h h' h'' : Hp} {p m k : Nat} {fr v : Int} {F T X : Nat → Int}
theorem SpG.rf : SpG p h h := ⟨GF.refl, fun _ q => Or.inl q⟩
theorem SpG.tr (A : SpG p h h') (B : SpG p h' h'') : SpG p h h'' := by
  refine ⟨A.1.trans' B.1 (fun x hx q => ?_), fun x q => ?_⟩
  · rcases A.2 x q with z | z
    · exact z
    · lia
  · rcases B.2 x q with z | z
    · exact A.2 x z
    · exact Or.inr (Nat.le_trans A.1.1 z)
theorem SpG.sI {a y : Nat} (c : SpD h p a) : SpG p h (sI h a y v) := ⟨OnI.gf (OnI.refl.s) (fun x z q => by rw [hI_sI, if_neg (fun e => q (by rw [e.1]; exact c))]), fun _ q => Or.inl q⟩
theorem SpP.xk (P : SpP h p m fr F T X) (hk : k < m) : ix (k : Int) (ln h (hR h p 0)) ∧ ix (k : Int) (ln h (hR h p 1)) ∧ ix (k : Int) (ln h (hR h p 2)) := by
  obtain ⟨p1, p2, ⟨p3, p4, p5⟩, p6, p7, p8⟩ := P
  exact ⟨⟨by lia, by lia⟩, ⟨by lia, by lia⟩, ⟨by lia, by lia⟩⟩
theorem SpP.cg {F' T' X' : Nat → Int} (P : SpP h p m fr F T X) (c : ∀ k, k < m → F' k = F k ∧ T' k = T k ∧ X' k = X k) : SpP h p m fr F' T' X' := by
  obtain ⟨p1, p2, p3, p6, p7, p8⟩ := P
  refine ⟨p1, p2, p3, p6, p7, fun k hk => ?_⟩
  rw [(c k hk).1, (c k hk).2.1, (c k hk).2.2]; exact p8 k hk
theorem SpP.sX (P : SpP h p m fr F T X) (hk : k < m) : SpP (sI h (hR h p 2) k v) p m fr F T (up1 X k v) := by
  obtain ⟨p1, p2, ⟨p3, p4, p5⟩, p6, p7, p8⟩ := P
  refine ⟨p1, ⟨?_, ?_⟩, ⟨p3, p4, p5⟩, p6, p7, fun j hj => ⟨?_, ?_, ?_⟩⟩
  · rw [hI_sI, if_neg (by lia)]; exact p2.1
  · rw [hI_sI, if_neg (by lia)]; exact p2.2
  · show hI (sI h (hR h p 2) k v) (hR h p 0) j = _
    rw [hI_sI, if_neg (by lia)]; exact (p8 j hj).1
  · show hI (sI h (hR h p 2) k v) (hR h p 1) j = _
    rw [hI_sI, if_neg (by lia)]; exact (p8 j hj).2.1
  · show hI (sI h (hR h p 2) k v) (hR h p 2) j = _
    rw [hI_sI]
    by_cases c : j = k
    · rw [if_pos ⟨rfl, c⟩, c, up1_eq]
    · rw [if_neg (fun z => c z.2), up1_ne c]; exact (p8 j hj).2.2
theorem SpP.sT (P : SpP h p m fr F T X) (hk : k < m) : SpP (sI h (hR h p 1) k v) p m fr F (up1 T k v) X := by
  obtain ⟨p1, p2, ⟨p3, p4, p5⟩, p6, p7, p8⟩ := P
  refine ⟨p1, ⟨?_, ?_⟩, ⟨p3, p4, p5⟩, p6, p7, fun j hj => ⟨?_, ?_, ?_⟩⟩
  · rw [hI_sI, if_neg (by lia)]; exact p2.1
  · rw [hI_sI, if_neg (by lia)]; exact p2.2
  · show hI (sI h (hR h p 1) k v) (hR h p 0) j = _
    rw [hI_sI, if_neg (by lia)]; exact (p8 j hj).1
  · show hI (sI h (hR h p 1) k v) (hR h p 1) j = _
    rw [hI_sI]
    by_cases c : j = k
    · rw [if_pos ⟨rfl, c⟩, c, up1_eq]
    · rw [if_neg (fun z => c z.2), up1_ne c]; exact (p8 j hj).2.1
  · show hI (sI h (hR h p 1) k v) (hR h p 2) j = _
    rw [hI_sI, if_neg (by lia)]; exact (p8 j hj).2.2
theorem SpP.sF (P : SpP h p m fr F T X) (hk : k < m) : SpP (sI h (hR h p 0) k v) p m fr (up1 F k v) T X := by
  obtain ⟨p1, p2, ⟨p3, p4, p5⟩, p6, p7, p8⟩ := P
  refine ⟨p1, ⟨?_, ?_⟩, ⟨p3, p4, p5⟩, p6, p7, fun j hj => ⟨?_, ?_, ?_⟩⟩
  · rw [hI_sI, if_neg (by lia)]; exact p2.1
  · rw [hI_sI, if_neg (by lia)]; exact p2.2
  · show hI (sI h (hR h p 0) k v) (hR h p 0) j = _
    rw [hI_sI]
    by_cases c : j = k
    · rw [if_pos ⟨rfl, c⟩, c, up1_eq]
    · rw [if_neg (fun z => c z.2), up1_ne c]; exact (p8 j hj).1
  · show hI (sI h (hR h p 0) k v) (hR h p 1) j = _
    rw [hI_sI, if_neg (by lia)]; exact (p8 j hj).2.1
  · show hI (sI h (hR h p 0) k v) (hR h p 2) j = _
    rw [hI_sI, if_neg (by lia)]; exact (p8 j hj).2.2
theorem SpP.s4 (P : SpP h p m fr F T X) : SpP (sI h p 4 v) p m v F T X := by
  obtain ⟨p1, p2, ⟨p3, p4, p5⟩, p6, p7, p8⟩ := P
  refine ⟨p1, ⟨?_, ?_⟩, ⟨p3, p4, p5⟩, p6, p7, fun j hj => ⟨?_, ?_, ?_⟩⟩
  · rw [hI_sI, if_neg (by lia)]; exact p2.1
  · rw [hI_sI, if_pos ⟨rfl, rfl⟩]
  · show hI (sI h p 4 v) (hR h p 0) j = _
    rw [hI_sI, if_neg (by lia)]; exact (p8 j hj).1
  · show hI (sI h p 4 v) (hR h p 1) j = _
    rw [hI_sI, if_neg (by lia)]; exact (p8 j hj).2.1
  · show hI (sI h p 4 v) (hR h p 2) j = _
    rw [hI_sI, if_neg (by lia)]; exact (p8 j hj).2.2
/-- release -/
theorem c_srel (P : SpP h p m fr F T X) (hk : k < m) : ∃ h', f_cSpans_release p (k : Int) h = some h' ∧ SpP h' p m (k : Int) F T (up1 X k fr) ∧ SpG p h h' ∧ (hN h' = hN h ∧ hZ h' = hZ h ∧ hR h' = hR h ∧ ln h' = ln h) := by
  have P0 := P
  obtain ⟨p1, p2, ⟨p3, p4, p5⟩, p6, p7, p8⟩ := P
  refine ⟨sI (sI h (hR h p 2) k fr) p 4 (k : Int), ?_, (P0.sX hk).s4, ?_, rfl, rfl, rfl, rfl⟩
  · unfold f_cSpans_release
    rw [if_neg p5.1, if_pos (P0.xk hk).2.2, Int.toNat_natCast, p2.2, lt1_eq, lt1_eq]
  · exact (SpG.sI (Or.inr (Or.inr (Or.inr rfl)))).tr (SpG.sI (Or.inl rfl))
/-- the row behind a copy that is longer -/
theorem c_copyI {a n L : Nat} (a0 : a ≠ 0) (al : ln h a = L) (aN : a < hN h) (hn : n = 2 * L) (L0 : 0 < L) (r1 : hN h + 1 ≤ CN) (r2 : hZ h + n ≤ CZ) : ∃ h', f_jArrays_copyOf_AII a (n : Int) h = some (hN h, h') ∧ (hN h' = hN h + 1 ∧ hZ h' = hZ h + n) ∧ ln h' (hN h) = n ∧ (∀ j, j < L → hI h' (hN h) j = hI h a j) ∧ (∀ x, x ≠ hN h → (∀ y, hI h' x y = hI h x y ∧ hJ h' x y = hJ h x y ∧ hR h' x y = hR h x y) ∧ ln h' x = ln h x) := by
  have e1 : ln (nwC h 101 n n) a = L := by rw [ln_nw', if_neg (by lia), al]
  have e2 : ln (nwC h 101 n n) (hN h) = n := by rw [ln_nw', if_pos rfl]
  have em : min (L : Int) (n : Int) = ((L : Nat) : Int) := by lia
  refine ⟨cpI (nwC h 101 n n) a 0 (hN h) 0 L, ?_, ⟨rfl, rfl⟩, ?_, fun j hj => ?_, fun x hx => ⟨fun y => ⟨?_, ?_, ?_⟩, ?_⟩⟩
  · unfold f_jArrays_copyOf_AII
    rw [if_neg a0, al, if_pos (show (n : Int) ≠ (L : Int) by lia), if_pos ⟨by lia, r1, by rw [Int.toNat_natCast]; exact r2⟩, Int.toNat_natCast, lt1_eq, lt1_eq, e1, e2, em, if_pos ⟨by decide, by decide, by lia, by lia, by lia⟩, Int.toNat_natCast, lt1_eq]
    rfl
  · rw [ln_cI, e2]
  · rw [hI_cI, if_pos ⟨rfl, by lia, by lia⟩, hI_nw, if_neg (by lia)]; exact fcg (f := hI h a) (by lia)
  · rw [hI_cI, if_neg (fun z => hx z.1), hI_nw, if_neg hx]
  · rw [hJ_cI, hJ_nw, if_neg hx]
  · rw [hR_cI, hR_nw, if_neg hx]
  · rw [ln_cI, ln_nw', if_neg hx]
end
