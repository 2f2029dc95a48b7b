/-! what came: the loop that lays bytes down -/
section
variable {o r oth : Nat} {h h' h'' : Hp} {s s' : BSt} {S S' : Nat → Prop} {W W' : Nat → Int} {G H : Int}
theorem BK.nd {x : Nat} (A : BK o r h h' s s') (hx : x < hN h) (nx : ¬ BlD h o x) : ¬ BlD h' o x ∧ x < hN h' := ⟨fun z => by
  rcases A.2.2.2.2.1 x z with y | y
  · exact nx y
  · omega, by have := A.2.2.2.1.1; omega⟩
theorem pl_w {a b : Nat} (h : a + b ≤ 100000) : w32 ((a : Int) + (b : Int)) = ((a + b : Nat) : Int) := by rw [w32_id ⟨by omega, by omega⟩]; omega
theorem pl_1 {a : Nat} (h : a < 100000) : w32 ((a : Int) + 1) = ((a + 1 : Nat) : Int) := pl_w (a := a) (b := 1) (by omega)
theorem pl_x {a n : Nat} (h : a < n) : ix (a : Int) n := ⟨by omega, by omega⟩
theorem pl_h {a n : Nat} {H : Int} (h : a < n) (p : ((n : Nat) : Int) ≤ 64 * (H + 1)) : ((a / 64 : Nat) : Int) ≤ H := by omega
theorem pl_g {a : Nat} {G : Int} (h : 64 * G ≤ (a : Int)) : G ≤ ((a / 64 : Nat) : Int) := by omega
theorem pl_g1 {a i : Nat} {G : Int} (h : 64 * G ≤ ((a + i : Nat) : Int)) : 64 * G ≤ ((a + (i + 1) : Nat) : Int) := by omega
theorem pl_n (k : Nat) : (k : Int) ≠ -1 := by omega
theorem pl_e {a i q n : Nat} (h : i < n) : (a + i ≤ q ∧ q < a + n) ↔ (q = a + i ∨ (a + (i + 1) ≤ q ∧ q < a + n)) := by omega
theorem c_bploop {F row place i n fm : Nat} {v6 : Int} (r0 : r ≠ 0) (rd : ¬ BlD h o r) (rN' : r < hN h) (B : BI h o oth r s) (Q : BS s S W) (kH : ∀ k, k ∈ s.l → G ≤ s.I k ∧ s.I k ≤ H) (hm : oth + H < 2048) (rN : hN h + blN h o ≤ CN) (rZ : hZ h + blZ h o ≤ CZ) (w0 : row ≠ 0) (wN : row < hN h) (wd : ¬ BlD h o row) (wr : row ≠ r) (wl : fm + n ≤ ln h row) (bd : place + n ≤ 100000) (fd : fm + n ≤ 100000) (pH : ((place + n : Nat) : Int) ≤ 64 * (H + 1)) (hv : v6 = -1 ∨ ∃ k : Nat, k ∈ s.l ∧ v6 = (k : Int)) (hW : ∀ q, place + i ≤ q → q < place + n → ¬ S q → W q = i8 (hI h row (fm + (q - place)))) (hG : 64 * G ≤ ((place + i : Nat) : Int)) (hF : n - i < F) :
    ∃ (h' : Hp) (s' : BSt), f_cBlocks_put_b15_lp F o r (place : Int) row (fm : Int) (n : Int) v6 (i : Int) h = f_cBlocks_put_b136_lp FU o r (hI h' r 7) h' ∧ BI h' o oth r s' ∧ BS s' (fun q => S q ∨ (place + i ≤ q ∧ q < place + n)) W ∧ (∀ y, y ≠ 7 → hI h' r y = hI h r y) ∧ BK o r h h' s s' ∧ (∀ k, k ∈ s'.l → G ≤ s'.I k ∧ s'.I k ≤ H) := by
  obtain ⟨F0, hF0⟩ : ∃ F0, F0 = FU := ⟨FU, rfl⟩
  rw [← hF0]
  induction F generalizing h s S i v6 with
  | zero =>
    exact absurd hF (Nat.not_lt_zero _)
  | succ F ih =>
    unfold f_cBlocks_put_b15_lp f_cBlocks_put_b15
    by_cases c : n ≤ i
    · rw [if_pos (Int.ofNat_le.2 c), if_neg r0, lt1_eq, ← hF0]
      refine ⟨h, s, rfl, B, Q.st (fun q => ⟨fun z => ?_, Or.inl⟩), fun _ _ => rfl, BK.rf, kH⟩
      rcases z with z | z
      · exact z
      · lia
    · have ci : i < n := Nat.lt_of_not_le c
      have pA : place + i < place + n := Nat.add_lt_add_left ci _
      have fA : fm + i < fm + n := Nat.add_lt_add_left ci _
      have iA : i < 100000 := by lia
      have pB : place + i < 1000000000 := by lia
      have pC : place + i < 1000000 := by lia
      have ep : w32 ((place : Int) + (i : Int)) = ((place + i : Nat) : Int) := pl_w (Nat.le_trans (Nat.add_le_add_left (Nat.le_of_lt ci) _) bd)
      have ed : iDiv ((place + i : Nat) : Int) 64 = (((place + i) / 64 : Nat) : Int) := iDiv_nat (n := 64) pB (by decide) (by decide)
      have eH : G ≤ (((place + i) / 64 : Nat) : Int) ∧ (((place + i) / 64 : Nat) : Int) ≤ H := ⟨pl_g hG, pl_h pA pH⟩
      obtain ⟨K, hK⟩ : ∃ K, K = f_cBlocks_put_b15_lp F := ⟨_, rfl⟩
      rw [if_neg (fun z => c (Int.ofNat_le.1 z)), lt1_eq, ep, ← hK]
      have ask : ∃ (k : Nat) (h1 : Hp) (s1 : BSt), (if v6 = -1 then f_cBlocks_put_b49 K o r (place : Int) row (fm : Int) (n : Int) (i : Int) ((place + i : Nat) : Int) h else if hR h o 2 = 0 then none else if ix v6 (ln h (hR h o 2)) then if hI h (hR h o 2) v6.toNat = iDiv ((place + i : Nat) : Int) 64 then f_cBlocks_put_b61 K o r (place : Int) row (fm : Int) (n : Int) v6 (i : Int) ((place + i : Nat) : Int) h else f_cBlocks_put_b49 K o r (place : Int) row (fm : Int) (n : Int) (i : Int) ((place + i : Nat) : Int) h else none) = f_cBlocks_put_b61 K o r (place : Int) row (fm : Int) (n : Int) (k : Int) (i : Int) ((place + i : Nat) : Int) h1 ∧ BI h1 o oth r s1 ∧ BS s1 S W ∧ k ∈ s1.l ∧ s1.I k = (((place + i) / 64 : Nat) : Int) ∧ (∀ y, y ≠ 7 → hI h1 r y = hI h r y) ∧ BK o r h h1 s s1 ∧ (∀ k, k ∈ s1.l → G ≤ s1.I k ∧ s1.I k ≤ H) := by
        have b49 : ∃ (k : Nat) (h1 : Hp) (s1 : BSt), f_cBlocks_put_b49 K o r (place : Int) row (fm : Int) (n : Int) (i : Int) ((place + i : Nat) : Int) h = f_cBlocks_put_b61 K o r (place : Int) row (fm : Int) (n : Int) (k : Int) (i : Int) ((place + i : Nat) : Int) h1 ∧ BI h1 o oth r s1 ∧ BS s1 S W ∧ k ∈ s1.l ∧ s1.I k = (((place + i) / 64 : Nat) : Int) ∧ (∀ y, y ≠ 7 → hI h1 r y = hI h r y) ∧ BK o r h h1 s s1 ∧ (∀ k, k ∈ s1.l → G ≤ s1.I k ∧ s1.I k ≤ H) := by
          obtain ⟨k, h1, s1, u1, u2⟩ := c_bblock r0 rd rN' B Q (Int.natCast_nonneg ((place + i) / 64)) eH kH hm rN rZ
          unfold f_cBlocks_put_b49
          rw [ed, u1, b2_some]
          exact ⟨k, h1, s1, rfl, u2⟩
        rcases hv with z | ⟨k, kl, z⟩
        · rw [if_pos z]; exact b49
        · obtain ⟨yz, yi, yv, yd⟩ := B.1.1.i
          have km : k < s.m := B.1.2.2.2.1 k (List.mem_append.2 (Or.inl kl))
          have xk := B.1.1.xk km
          rw [z, if_neg (pl_n k), if_neg yz.2.2.1, if_pos xk.2.1, Int.toNat_natCast, (yv k km).2.1, ed]
          by_cases w : s.I k = (((place + i) / 64 : Nat) : Int)
          · rw [if_pos w]
            exact ⟨k, h, s, rfl, B, Q, kl, w, fun _ _ => rfl, BK.rf, kH⟩
          · rw [if_neg w]; exact b49
      obtain ⟨k, h1, s1, u1, u2, u3, u4, u5, u6, u7, u8⟩ := ask
      rw [u1]
      have f1 := u7.nd rN' rd
      have f2 := u7.nd wN wd
      have nw : ¬ (BlD h o row ∨ row = r) := fun z => by
        rcases z with z | z
        · exact wd z
        · exact wr z
      have el : ln h1 row = ln h row := u7.2.2.2.1.l wN nw
      have ei : ∀ y, hI h1 row y = hI h row y := fun y => u7.2.2.2.1.i wN nw
      have ef : w32 ((fm : Int) + (i : Int)) = ((fm + i : Nat) : Int) := pl_w (Nat.le_trans (Nat.add_le_add_left (Nat.le_of_lt ci) _) fd)
      obtain ⟨h2, s2, v1, v2, v3, v4, v5, v6', v7⟩ := c_bp61 (K := K) (row := row) (p := place + i) (v2 := (place : Int)) (v4 := (fm : Int)) (v5 := (n : Int)) (v7 := (i : Int)) f1.1 f1.2 u2 u3 u4 u5 pC w0 (by rw [ef, el]; exact pl_x (Nat.lt_of_lt_of_le fA wl)) (fun z => by
        rw [ef, Int.toNat_natCast, ei, hW (place + i) (Nat.le_refl _) pA z, Nat.add_sub_cancel_left])
      rw [v1]
      unfold f_cBlocks_put_b124
      have e1 : w32 ((i : Int) + 1) = ((i + 1 : Nat) : Int) := pl_1 iA
      rw [e1, hK]
      have g1 := v7.nd f1.2 f1.1
      have g2 := v7.nd f2.2 f2.1
      have nw1 : ¬ (BlD h1 o row ∨ row = r) := fun z => by
        rcases z with z | z
        · exact f2.1 z
        · exact wr z
      have el2 : ln h2 row = ln h1 row := v7.2.2.2.1.l f2.2 nw1
      have ei2 : ∀ y, hI h2 row y = hI h1 row y := fun y => v7.2.2.2.1.i f2.2 nw1
      obtain ⟨h3, s3, t1, t2, t3, t4, t5, t6⟩ := ih (i := i + 1) (v6 := (k : Int)) g1.1 g1.2 v2 v3 (fun j hj => by rw [v5]; exact u8 j (by rw [← v4]; exact hj)) (Nat.le_trans v7.2.2.2.2.2.1 (Nat.le_trans u7.2.2.2.2.2.1 rN)) (Nat.le_trans v7.2.2.2.2.2.2 (Nat.le_trans u7.2.2.2.2.2.2 rZ)) g2.2 g2.1 (by rw [el2, el]; exact wl) (Or.inr ⟨k, by rw [v4]; exact u4, rfl⟩) (fun q q1 q2 q3 => by rw [ei2, ei]; exact hW q (Nat.le_of_succ_le q1) q2 (fun z => q3 (Or.inl z))) (pl_g1 hG) (by lia)
      refine ⟨h3, s3, t1, t2, t3.st (fun q => ?_), fun y hy => by rw [t4 y hy, v6', u6 y hy], (u7.tr v7).tr t5, t6⟩
      show (S q ∨ (place + i ≤ q ∧ q < place + n)) ↔ ((S q ∨ q = place + i) ∨ (place + (i + 1) ≤ q ∧ q < place + n))
      rw [pl_e ci, or_assoc]
end
