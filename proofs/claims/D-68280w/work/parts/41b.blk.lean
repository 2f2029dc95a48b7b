/-! what came: the class's pool of blocks -/
/-- a length that doubles up to 2048 -/
def Pv (L : Nat) : Prop := ∃ j, L * 2 ^ j = 2048
theorem Pv.le {L : Nat} (P : Pv L) : L ≤ 2048 := by
  obtain ⟨j, e⟩ := P
  have : 1 ≤ 2 ^ j := Nat.one_le_two_pow
  calc L = L * 1 := (Nat.mul_one L).symm
    _ ≤ L * 2 ^ j := Nat.mul_le_mul_left L this
    _ = 2048 := e
theorem Pv.dbl {L : Nat} (P : Pv L) (h : L < 2048) : Pv (2 * L) := by
  obtain ⟨j, e⟩ := P
  cases j with
  | zero => rw [Nat.pow_zero, Nat.mul_one] at e; omega
  | succ j => exact ⟨j, by rw [← e, Nat.pow_succ, Nat.mul_comm (2 ^ j) 2, ← Nat.mul_assoc, Nat.mul_comm L 2]⟩
/-- m blocks were made; fr is free; bytes, marks, numbers, next -/
def BlP (h : Hp) (o m : Nat) (fr : Int) (D M I X : Nat → Int) : Prop := (o ≠ 0 ∧ o < hN h) ∧ (hI h o 4 = (m : Int) ∧ hI h o 5 = fr) ∧ ((hR h o 0 ≠ 0 ∧ hR h o 0 ≠ o ∧ hR h o 0 < hN h ∧ ln h (hR h o 0) = 64 * ln h (hR h o 1)) ∧ (hR h o 1 ≠ 0 ∧ hR h o 1 ≠ o ∧ hR h o 1 < hN h) ∧ (hR h o 2 ≠ 0 ∧ hR h o 2 ≠ o ∧ hR h o 2 < hN h ∧ ln h (hR h o 2) = ln h (hR h o 1)) ∧ (hR h o 3 ≠ 0 ∧ hR h o 3 ≠ o ∧ hR h o 3 < hN h ∧ ln h (hR h o 3) = ln h (hR h o 1))) ∧ (hR h o 0 ≠ hR h o 1 ∧ hR h o 0 ≠ hR h o 2 ∧ hR h o 0 ≠ hR h o 3 ∧ hR h o 1 ≠ hR h o 2 ∧ hR h o 1 ≠ hR h o 3 ∧ hR h o 2 ≠ hR h o 3) ∧ (64 ≤ ln h (hR h o 1) ∧ Pv (ln h (hR h o 1)) ∧ m ≤ ln h (hR h o 1)) ∧ (∀ k, k < m → hJ h (hR h o 1) k = M k ∧ hI h (hR h o 2) k = I k ∧ hI h (hR h o 3) k = X k) ∧ ∀ j, j < 64 * m → hI h (hR h o 0) j = D j
def BlD (h : Hp) (o x : Nat) : Prop := x = o ∨ x = hR h o 0 ∨ x = hR h o 1 ∨ x = hR h o 2 ∨ x = hR h o 3
def BlG (o : Nat) (h h' : Hp) : Prop := GF (BlD h o) h h' ∧ (∀ x, BlD h' o x → BlD h o x ∨ hN h ≤ x)
def blN (h : Hp) (o : Nat) : Nat := (2048 - ln h (hR h o 1)) / 8
def blZ (h : Hp) (o : Nat) : Nat := 134 * (2048 - ln h (hR h o 1))
section
variable {h h' h'' : Hp} {o m k : Nat} {fr v : Int} {D M I X : Nat → Int}
theorem BlG.rf : BlG o h h := ⟨GF.refl, fun _ q => Or.inl q⟩
theorem BlG.tr (A : BlG o h h') (B : BlG o h' h'') : BlG o h h'' := by
  refine ⟨A.1.trans' B.1 (fun x hx q => ?_), fun x q => ?_⟩
  · rcases A.2 x q with z | z
    · exact z
    · omega
  · rcases B.2 x q with z | z
    · exact A.2 x z
    · exact Or.inr (Nat.le_trans A.1.1 z)
theorem BlG.sI {a y : Nat} (c : BlD h o a) : BlG o h (sI h a y v) := ⟨OnI.gf (OnI.refl.s) (fun x z q => by rw [hI_sI, if_neg (fun e => q (by rw [e.1]; exact c))]), fun _ q => Or.inl q⟩
theorem BlG.sJ {a y : Nat} (c : BlD h o a) : BlG o h (sJ h a y v) := ⟨⟨Nat.le_refl _, fun x _ q => ⟨fun z => ⟨rfl, by rw [hJ_sJ, if_neg (fun e => q (by rw [e.1]; exact c))], rfl⟩, rfl⟩⟩, fun _ q => Or.inl q⟩
theorem BlP.xk (P : BlP h o m fr D M I X) (hk : k < m) : ix (k : Int) (ln h (hR h o 1)) ∧ ix (k : Int) (ln h (hR h o 2)) ∧ ix (k : Int) (ln h (hR h o 3)) := by
  obtain ⟨p1, p2, ⟨p3, p4, p5, p6⟩, p7, p8, p9⟩ := P
  exact ⟨⟨by lia, by lia⟩, ⟨by lia, by lia⟩, ⟨by lia, by lia⟩⟩
theorem BlP.i (P : BlP h o m fr D M I X) : (hR h o 0 ≠ 0 ∧ hR h o 1 ≠ 0 ∧ hR h o 2 ≠ 0 ∧ hR h o 3 ≠ 0) ∧ (hI h o 4 = (m : Int) ∧ hI h o 5 = fr) ∧ (∀ k, k < m → hJ h (hR h o 1) k = M k ∧ hI h (hR h o 2) k = I k ∧ hI h (hR h o 3) k = X k) ∧ ∀ j, j < 64 * m → hI h (hR h o 0) j = D j := ⟨⟨P.2.2.1.1.1, P.2.2.1.2.1.1, P.2.2.1.2.2.1.1, P.2.2.1.2.2.2.1⟩, P.2.1, P.2.2.2.2.2.1, P.2.2.2.2.2.2⟩
/-- one cell of the pool is written: the pool behind it, if its reads are told -/
theorem BlP.wr {h' : Hp} {m' : Nat} {fr' : Int} {D' M' I' X' : Nat → Int} (P : BlP h o m fr D M I X) (e : hN h' = hN h ∧ hR h' = hR h ∧ ln h' = ln h) (i4 : hI h' o 4 = (m' : Int)) (i5 : hI h' o 5 = fr') (hm : m' ≤ ln h (hR h o 1)) (v : ∀ k, k < m' → hJ h' (hR h o 1) k = M' k ∧ hI h' (hR h o 2) k = I' k ∧ hI h' (hR h o 3) k = X' k) (d : ∀ j, j < 64 * m' → hI h' (hR h o 0) j = D' j) : BlP h' o m' fr' D' M' I' X' := by
  obtain ⟨p1, p2, p3, p7, p8, p9⟩ := P
  unfold BlP
  rw [e.1, e.2.1, e.2.2]
  exact ⟨p1, ⟨i4, i5⟩, p3, p7, ⟨p8.1, p8.2.1, hm⟩, v, d⟩
theorem BlP.ne (P : BlP h o m fr D M I X) : (hR h o 0 ≠ o ∧ hR h o 1 ≠ o ∧ hR h o 2 ≠ o ∧ hR h o 3 ≠ o) ∧ (hR h o 0 ≠ hR h o 1 ∧ hR h o 0 ≠ hR h o 2 ∧ hR h o 0 ≠ hR h o 3 ∧ hR h o 1 ≠ hR h o 2 ∧ hR h o 1 ≠ hR h o 3 ∧ hR h o 2 ≠ hR h o 3) := ⟨⟨P.2.2.1.1.2.1, P.2.2.1.2.1.2.1, P.2.2.1.2.2.1.2.1, P.2.2.1.2.2.2.2.1⟩, P.2.2.2.1⟩
theorem c_bmk118 {a c : Int} (P : BlP h o m fr D M I X) (hk : k < m) : ∃ h', f_cBlocks_make_b118 o a c (k : Int) h = some ((k : Int), h') ∧ BlP h' o m fr D (up1 M k 0) (up1 I k a) (up1 X k c) ∧ BlG o h h' ∧ (hN h' = hN h ∧ hZ h' = hZ h ∧ hR h' = hR h ∧ ln h' = ln h) := by
  have x := P.xk hk
  obtain ⟨z, pi, pv, pd⟩ := P.i
  obtain ⟨no, nd⟩ := P.ne
  have hm := P.2.2.2.2.1.2.2
  refine ⟨sI (sI (sJ h (hR h o 1) k 0) (hR h o 2) k a) (hR h o 3) k c, ?_, P.wr ⟨rfl, rfl, rfl⟩ ?_ ?_ hm (fun j hj => ⟨?_, ?_, ?_⟩) (fun j hj => ?_), (BlG.sJ (Or.inr (Or.inr (Or.inl rfl)))).tr ((BlG.sI (Or.inr (Or.inr (Or.inr (Or.inl rfl))))).tr (BlG.sI (Or.inr (Or.inr (Or.inr (Or.inr rfl)))))), rfl, rfl, rfl, rfl⟩
  · unfold f_cBlocks_make_b118
    rw [if_neg z.2.1, if_pos x.1, Int.toNat_natCast, lt1_eq, hR_sJ, if_neg z.2.2.1, ln_sJ, if_pos x.2.1, lt1_eq, hR_sI, hR_sJ, if_neg z.2.2.2, ln_sI, ln_sJ, if_pos x.2.2, lt1_eq]
  · rw [hI_sI, if_neg (by lia), hI_sI, if_neg (by lia)]; exact pi.1
  · rw [hI_sI, if_neg (by lia), hI_sI, if_neg (by lia)]; exact pi.2
  · rw [hJ_sI, hJ_sI, hJ_sJ]
    by_cases q : j = k
    · rw [if_pos ⟨rfl, q⟩, q, up1_eq]
    · rw [if_neg (fun z => q z.2), up1_ne q]; exact (pv j hj).1
  · rw [hI_sI, if_neg (by lia), hI_sI]
    by_cases q : j = k
    · rw [if_pos ⟨rfl, q⟩, q, up1_eq]
    · rw [if_neg (fun z => q z.2), up1_ne q]; exact (pv j hj).2.1
  · rw [hI_sI]
    by_cases q : j = k
    · rw [if_pos ⟨rfl, q⟩, q, up1_eq]
    · rw [if_neg (fun z => q z.2), up1_ne q, hI_sI, if_neg (by lia)]; exact (pv j hj).2.2
  · rw [hI_sI, if_neg (by lia), hI_sI, if_neg (by lia)]; exact pd j hj
end
