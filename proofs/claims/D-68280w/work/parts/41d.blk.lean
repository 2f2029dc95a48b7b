/-! what came: a block is made -/
section
variable {h h' : Hp} {o m : Nat} {fr a c : Int} {D M I X : Nat → Int}
theorem BlP.sI5 {v : Int} (P : BlP h o m fr D M I X) : BlP (sI h o 5 v) o m v D M I X := by
  obtain ⟨z, pi, pv, pd⟩ := P.i
  obtain ⟨no, nd⟩ := P.ne
  refine P.wr ⟨rfl, rfl, rfl⟩ ?_ ?_ P.2.2.2.2.1.2.2 (fun j hj => ⟨(pv j hj).1, ?_, ?_⟩) (fun j hj => ?_)
  · rw [hI_sI, if_neg (by lia)]; exact pi.1
  · rw [hI_sI, if_pos ⟨rfl, rfl⟩]
  · rw [hI_sI, if_neg (by lia)]; exact (pv j hj).2.1
  · rw [hI_sI, if_neg (by lia)]; exact (pv j hj).2.2
  · rw [hI_sI, if_neg (by lia)]; exact pd j hj
/-- D behind making: a block that is new has what lay there -/
theorem c_bmake (P : BlP h o m fr D M I X) (hfr : fr = -1 ∨ (0 ≤ fr ∧ fr < m)) (hm2 : fr = -1 → m < 2048) (rN : hN h + blN h o ≤ CN) (rZ : hZ h + blZ h o ≤ CZ) :
    ∃ k m' fr' D' h', f_cBlocks_make o a c h = some (((k : Nat) : Int), h') ∧ (fr = -1 → k = m ∧ m' = m + 1 ∧ fr' = -1) ∧ (fr ≠ -1 → (k : Int) = fr ∧ m' = m ∧ fr' = X k) ∧ BlP h' o m' fr' D' (up1 M k 0) (up1 I k a) (up1 X k c) ∧ (∀ j, j < 64 * m → D' j = D j) ∧ BlG o h h' ∧ hN h' + blN h' o ≤ hN h + blN h o ∧ hZ h' + blZ h' o ≤ hZ h + blZ h o := by
  obtain ⟨z, pi, pv, pd⟩ := P.i
  unfold f_cBlocks_make
  rw [pi.2, lt1_eq]
  by_cases c1 : fr = -1
  · rw [if_pos c1, if_neg z.2.1, pi.1]
    have step : ∀ g, BlP g o m fr D M I X → m < ln g (hR g o 1) → ∃ D' h', f_cBlocks_make_b106 o a c g = some ((m : Int), h') ∧ BlP h' o (m + 1) (-1) D' (up1 M m 0) (up1 I m a) (up1 X m c) ∧ (∀ j, j < 64 * m → D' j = D j) ∧ BlG o g h' ∧ (hN h' = hN g ∧ hZ h' = hZ g ∧ hR h' = hR g ∧ ln h' = ln g) := fun g Pg hl => by
      have ew : w32 ((m : Int) + 1) = ((m + 1 : Nat) : Int) := by have := Pg.2.2.2.2.1.2.1.le; unfold w32; omega
      obtain ⟨yz, yi, yv, yd⟩ := Pg.i
      obtain ⟨no, nd⟩ := Pg.ne
      have P1 : BlP (sI g o 4 ((m + 1 : Nat) : Int)) o (m + 1) (-1) (fun j => hI g (hR g o 0) j) (up1 M m (hJ g (hR g o 1) m)) (up1 I m (hI g (hR g o 2) m)) (up1 X m (hI g (hR g o 3) m)) := by
        refine Pg.wr ⟨rfl, rfl, rfl⟩ ?_ ?_ hl (fun j hj => ⟨?_, ?_, ?_⟩) (fun j hj => ?_)
        · rw [hI_sI, if_pos ⟨rfl, rfl⟩]
        · rw [hI_sI, if_neg (by lia), ← c1]; exact yi.2
        · rw [hJ_sI]
          by_cases q : j = m
          · rw [q, up1_eq]
          · rw [up1_ne q]; exact (yv j (by lia)).1
        · rw [hI_sI, if_neg (by lia)]
          by_cases q : j = m
          · rw [q, up1_eq]
          · rw [up1_ne q]; exact (yv j (by lia)).2.1
        · rw [hI_sI, if_neg (by lia)]
          by_cases q : j = m
          · rw [q, up1_eq]
          · rw [up1_ne q]; exact (yv j (by lia)).2.2
        · rw [hI_sI, if_neg (by lia)]
      obtain ⟨h2, e2, P2, G2, s2⟩ := c_bmk118 (a := a) (c := c) P1 (Nat.lt_succ_self m)
      have uu : ∀ (f : Nat → Int) (u v : Int), up1 (up1 f m u) m v = up1 f m v := fun f u v => funext fun j => by
        by_cases q : j = m
        · rw [q, up1_eq, up1_eq]
        · rw [up1_ne q, up1_ne q, up1_ne q]
      rw [uu, uu, uu] at P2
      refine ⟨_, h2, ?_, P2, fun j hj => yd j hj, (BlG.sI (Or.inl rfl)).tr G2, s2⟩
      unfold f_cBlocks_make_b106
      rw [yi.1, ew, lt1_eq, lt1_eq]; exact e2
    by_cases c2 : m = ln h (hR h o 1)
    · rw [if_neg (by rw [← c2]; exact fun z => z rfl)]
      obtain ⟨h1, e1, P1, l1, G1, r1, z1⟩ := c_bgrow P c2 (hm2 c1) rN rZ
      obtain ⟨D', h2, e2, P2, dd, G2, s2⟩ := step h1 P1 l1
      have := e1 (f_cBlocks_make_b106 o a c)
      rw [pi.1] at this
      refine ⟨m, m + 1, -1, D', h2, by rw [this]; exact e2, fun _ => ⟨rfl, rfl, rfl⟩, fun z => absurd c1 z, P2, dd, G1.tr G2, ?_, ?_⟩
      · unfold blN at *; rw [s2.1, s2.2.2.1, s2.2.2.2]; exact r1
      · unfold blZ at *; rw [s2.2.1, s2.2.2.1, s2.2.2.2]; exact z1
    · rw [if_pos (by lia)]
      obtain ⟨D', h2, e2, P2, dd, G2, s2⟩ := step h P (by have := P.2.2.2.2.1.2.2; lia)
      refine ⟨m, m + 1, -1, D', h2, e2, fun _ => ⟨rfl, rfl, rfl⟩, fun z => absurd c1 z, P2, dd, G2, ?_, ?_⟩
      · unfold blN; rw [s2.1, s2.2.2.1, s2.2.2.2]; exact Nat.le_refl _
      · unfold blZ; rw [s2.2.1, s2.2.2.1, s2.2.2.2]; exact Nat.le_refl _
  · rw [if_neg c1]
    obtain ⟨k, ek⟩ : ∃ k : Nat, (k : Int) = fr := ⟨fr.toNat, by omega⟩
    have hk : k < m := by omega
    have x := P.xk hk
    obtain ⟨h2, e2, P2, G2, s2⟩ := c_bmk118 (a := a) (c := c) (P.sI5 (v := X k)) hk
    refine ⟨k, m, X k, D, h2, ?_, fun z => absurd z c1, fun _ => ⟨ek, rfl, rfl⟩, P2, fun _ _ => rfl, (BlG.sI (Or.inl rfl)).tr G2, ?_, ?_⟩
    · rw [if_neg z.2.2.2, ← ek, if_pos x.2.2, Int.toNat_natCast, (pv k hk).2.2, lt1_eq]; exact e2
    · unfold blN; rw [s2.1, s2.2.2.1, s2.2.2.2]; exact Nat.le_refl _
    · unfold blZ; rw [s2.2.1, s2.2.2.1, s2.2.2.2]; exact Nat.le_refl _
theorem BlP.sX {k : Nat} {v : Int} (P : BlP h o m fr D M I X) (hk : k < m) : BlP (sI h (hR h o 3) k v) o m fr D M I (up1 X k v) := by
  obtain ⟨z, pi, pv, pd⟩ := P.i
  obtain ⟨no, nd⟩ := P.ne
  refine P.wr ⟨rfl, rfl, rfl⟩ ?_ ?_ P.2.2.2.2.1.2.2 (fun j hj => ⟨(pv j hj).1, ?_, ?_⟩) (fun j hj => ?_)
  · rw [hI_sI, if_neg (by lia)]; exact pi.1
  · rw [hI_sI, if_neg (by lia)]; exact pi.2
  · rw [hI_sI, if_neg (by lia)]; exact (pv j hj).2.1
  · rw [hI_sI]
    by_cases q : j = k
    · rw [if_pos ⟨rfl, q⟩, q, up1_eq]
    · rw [if_neg (fun z => q z.2), up1_ne q]; exact (pv j hj).2.2
  · rw [hI_sI, if_neg (by lia)]; exact pd j hj
theorem BlP.sD {j0 : Nat} {v : Int} (P : BlP h o m fr D M I X) : BlP (sI h (hR h o 0) j0 v) o m fr (up1 D j0 v) M I X := by
  obtain ⟨z, pi, pv, pd⟩ := P.i
  obtain ⟨no, nd⟩ := P.ne
  refine P.wr ⟨rfl, rfl, rfl⟩ ?_ ?_ P.2.2.2.2.1.2.2 (fun j hj => ⟨(pv j hj).1, ?_, ?_⟩) (fun j hj => ?_)
  · rw [hI_sI, if_neg (by lia)]; exact pi.1
  · rw [hI_sI, if_neg (by lia)]; exact pi.2
  · rw [hI_sI, if_neg (by lia)]; exact (pv j hj).2.1
  · rw [hI_sI, if_neg (by lia)]; exact (pv j hj).2.2
  · rw [hI_sI]
    by_cases q : j = j0
    · rw [if_pos ⟨rfl, q⟩, q, up1_eq]
    · rw [if_neg (fun z => q z.2), up1_ne q]; exact pd j hj
theorem BlP.sM {k : Nat} {v : Int} (P : BlP h o m fr D M I X) (hk : k < m) : BlP (sJ h (hR h o 1) k v) o m fr D (up1 M k v) I X := by
  obtain ⟨z, pi, pv, pd⟩ := P.i
  refine P.wr ⟨rfl, rfl, rfl⟩ pi.1 pi.2 P.2.2.2.2.1.2.2 (fun j hj => ⟨?_, (pv j hj).2.1, (pv j hj).2.2⟩) (fun j hj => pd j hj)
  rw [hJ_sJ]
  by_cases q : j = k
  · rw [if_pos ⟨rfl, q⟩, q, up1_eq]
  · rw [if_neg (fun z => q z.2), up1_ne q]; exact (pv j hj).1
theorem BlP.ot {a y : Nat} {v : Int} (P : BlP h o m fr D M I X) (ha : ¬ BlD h o a) : BlP (sI h a y v) o m fr D M I X := by
  obtain ⟨z, pi, pv, pd⟩ := P.i
  have n0 : o ≠ a := fun z => ha (Or.inl z.symm)
  have n1 : hR h o 0 ≠ a := fun z => ha (Or.inr (Or.inl z.symm))
  have n3 : hR h o 2 ≠ a := fun z => ha (Or.inr (Or.inr (Or.inr (Or.inl z.symm))))
  have n4 : hR h o 3 ≠ a := fun z => ha (Or.inr (Or.inr (Or.inr (Or.inr z.symm))))
  refine P.wr ⟨rfl, rfl, rfl⟩ ?_ ?_ P.2.2.2.2.1.2.2 (fun j hj => ⟨(pv j hj).1, ?_, ?_⟩) (fun j hj => ?_)
  · rw [hI_sI, if_neg (fun z => n0 z.1)]; exact pi.1
  · rw [hI_sI, if_neg (fun z => n0 z.1)]; exact pi.2
  · rw [hI_sI, if_neg (fun z => n3 z.1)]; exact (pv j hj).2.1
  · rw [hI_sI, if_neg (fun z => n4 z.1)]; exact (pv j hj).2.2
  · rw [hI_sI, if_neg (fun z => n1 z.1)]; exact pd j hj
end
