/-! what came: put as a whole -/
section
variable {o r oth : Nat} {h : Hp} {s : BSt} {S : Nat → Prop} {W : Nat → Int}
theorem pu_m {R p : Nat} (h1 : R ≤ 131072) (h2 : p ≤ 131072) : max (w32 ((R : Int) - (p : Int))) 0 = ((R - p : Nat) : Int) := by rw [w32_id ⟨by omega, by omega⟩]; omega
theorem pu_f {n i : Nat} (h : n ≤ 100000) (hF : 131072 < FU) : n - i < FU := by omega
theorem c_bput {row place n fm R Z : Nat} {G : Int} (r0 : r ≠ 0) (rd : ¬ BlD h o r) (rN' : r < hN h) (B : BI h o oth r s) (Q : BS s S W) (kZ : ∀ k, k ∈ s.l → G ≤ s.I k ∧ s.I k < (Z : Int)) (hG : 64 * G ≤ (R : Int)) (hm : oth + Z ≤ 2048) (rN : hN h + blN h o ≤ CN) (rZ : hZ h + blZ h o ≤ CZ) (w0 : row ≠ 0) (wN : row < hN h) (wd : ¬ BlD h o row) (wr : row ≠ r) (wl : fm + n ≤ ln h row) (bd : place + n ≤ 100000) (fd : fm + n ≤ 100000) (pZ : place + n ≤ 64 * Z) (h3 : hI h r 3 = (R : Int)) (Rb : R ≤ 100000) (hW : ∀ q, R ≤ q → place ≤ q → q < place + n → ¬ S q → W q = i8 (hI h row (fm + (q - place)))) :
    ∃ (h' : Hp) (s' : BSt) (R' : Nat), f_cBlocks_put o r (place : Int) row (fm : Int) (n : Int) h = some h' ∧ BI h' o oth r s' ∧ BS s' (fun q => S q ∨ (R ≤ q ∧ place ≤ q ∧ q < place + n)) W ∧ hI h' r 3 = (R' : Int) ∧ (∀ y, y ≠ 3 → y ≠ 7 → hI h' r y = hI h r y) ∧ BK o r h h' s s' ∧ (∀ k, k ∈ s'.l → G ≤ s'.I k ∧ s'.I k < (Z : Int)) ∧ (R ≤ R' ∧ R' ≤ 131072) ∧ (∀ q, R ≤ q → q < R' → S q ∨ (R ≤ q ∧ place ≤ q ∧ q < place + n)) ∧ ¬ (S R' ∨ (R ≤ R' ∧ place ≤ R' ∧ R' < place + n)) := by
  have hF : 131072 < FU := by decide
  have Rc : R ≤ 131072 := Nat.le_trans Rb (by decide)
  have pc : place ≤ 131072 := by lia
  have hmH : (oth : Int) + ((Z : Int) - 1) < 2048 := by lia
  have pH : ((place + n : Nat) : Int) ≤ 64 * (((Z : Int) - 1) + 1) := by lia
  have qq : ∀ q, place + (R - place) ≤ q ↔ (R ≤ q ∧ place ≤ q) := fun q => by lia
  unfold f_cBlocks_put
  rw [if_neg r0, lt1_eq, h3, pu_m Rc pc]
  obtain ⟨h1, s1, u1, u2, u3, u4, u5, u6⟩ := c_bploop (F := FU) (row := row) (place := place) (i := R - place) (n := n) (fm := fm) (v6 := -1) (H := (Z : Int) - 1) r0 rd rN' B Q (fun k hk => ⟨(kZ k hk).1, Int.le_sub_one_of_lt (kZ k hk).2⟩) hmH rN rZ w0 wN wd wr wl bd fd pH (Or.inl rfl) (fun q q1 q2 q3 => hW q ((qq q).1 q1).1 ((qq q).1 q1).2 q2 q3) (by lia) (pu_f (Nat.le_trans (Nat.le_add_left _ _) bd) hF)
  rw [u1]
  have f1 := u5.nd rN' rd
  have kZ1 : ∀ k, k ∈ s1.l → G ≤ s1.I k ∧ s1.I k < (Z : Int) := fun k hk => ⟨(u6 k hk).1, by have := (u6 k hk).2; lia⟩
  have L : s1.l.length + 1 < FU := by
    have a := u2.1.2.2.2.2.2.2
    have b := u2.1.1.2.2.2.2.1
    have c := b.2.1.le
    have d := b.2.2
    clear qq hW
    lia
  have u3' : BS s1 (fun q => S q ∨ (R ≤ q ∧ place ≤ q ∧ q < place + n)) W := u3.st (fun q => by
    show (S q ∨ (R ≤ q ∧ place ≤ q ∧ q < place + n)) ↔ (S q ∨ (place + (R - place) ≤ q ∧ q < place + n))
    rw [qq q, and_assoc])
  obtain ⟨h2, R', t1, t2, t3, t4, t5, t6, t7, t8⟩ := c_rdout (n := FU) (R := R) (Z := Z) (l1 := []) (l2 := s1.l) r0 f1.1 f1.2 u2 u3' rfl u2.2 (fun k hk => (kZ1 k hk).2) (Nat.le_trans (Nat.le_add_left _ _) hm) (by rw [u4 3 (by decide)]; exact h3) Rc (fun k hk => by cases hk) L hF
  exact ⟨h2, s1, R', t1, t2, u3', t3, fun y y1 y2 => by rw [t4 y y1, u4 y y2], u5.tr t5, kZ1, t6, t7, t8⟩
end
