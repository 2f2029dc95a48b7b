/-! what came: how far all is there -/
section
variable {o r oth : Nat} {h h' h'' : Hp} {s s' : BSt} {S S' : Nat → Prop} {W W' : Nat → Int}
theorem BI_w {y : Nat} {v : Int} (rd : ¬ BlD h o r) (B : BI h o oth r s) (hy : y ≠ 7) : BI (sI h r y v) o oth r s ∧ BK o r h (sI h r y v) s s := by
  refine ⟨⟨⟨B.1.1.ot rd, B.1.2⟩, ?_⟩, fun _ _ _ _ => ⟨rfl, rfl, rfl, fun _ _ => rfl⟩, Nat.le_refl _, fun _ hk => Or.inl hk, ?_, fun _ z => Or.inl z, Nat.le_refl _, Nat.le_refl _⟩
  · rw [hI_sI, if_neg (fun z => hy z.2.symm)]; exact B.2
  · exact (OnI.gf (C := fun x => x = r) (OnI.refl.s) (fun x y hx => by rw [hI_sI, if_neg (fun z => hx z.1)])).mono (fun x z => Or.inr z)
theorem rd_w {R : Nat} (h : R ≤ 131072) : w32 ((R : Int) + 1) = ((R + 1 : Nat) : Int) := by rw [w32_id ⟨by omega, by omega⟩]; omega
theorem rd_z {R Z : Nat} {a : Int} (e : a = ((R / 64 : Nat) : Int)) (h : a < Z) : R < 64 * Z := by omega
theorem c_rdin {n k R Z : Nat} {K : Nat → Nat → Int → Hp → Option Hp} (r0 : r ≠ 0) (rd : ¬ BlD h o r) (rN' : r < hN h) (B : BI h o oth r s) (Q : BS s S W) (kl : k ∈ s.l) (kZ : s.I k < (Z : Int)) (zz : Z ≤ 2048) (h3 : hI h r 3 = (R : Int)) (Rb : R ≤ 131072) (hn : 64 * Z - R < n) :
    ∃ (h' : Hp) (R' : Nat), f_cBlocks_put_b142_lp K n o r (k : Int) h = f_cBlocks_put_b194 K o r (k : Int) h' ∧ BI h' o oth r s ∧ hI h' r 3 = (R' : Int) ∧ (∀ y, y ≠ 3 → hI h' r y = hI h r y) ∧ BK o r h h' s s ∧ (R ≤ R' ∧ R' ≤ 131072) ∧ (∀ q, R ≤ q → q < R' → S q) ∧ ¬ (s.I k = ((R' / 64 : Nat) : Int) ∧ bitL (s.M k) (R' % 64) = true) := by
  induction n generalizing h R with
  | zero => exact absurd hn (Nat.not_lt_zero _)
  | succ n ih =>
    have km : k < s.m := B.1.2.2.2.1 k (List.mem_append.2 (Or.inl kl))
    have xk := B.1.1.xk km
    obtain ⟨yz, yi, yv, yd⟩ := B.1.1.i
    have c6 := B.1.2.2.2.2.2.1 k kl
    have b6 : R % 64 < 64 := Nat.mod_lt _ (by decide)
    have RR : R < 1000000000 := Nat.lt_of_le_of_lt Rb (by decide)
    have ed : iDiv (R : Int) 64 = ((R / 64 : Nat) : Int) := iDiv_nat (n := 64) RR (by decide) (by decide)
    have er : iRem (R : Int) 64 = ((R % 64 : Nat) : Int) := iRem_nat (n := 64) RR (by decide) (by decide)
    unfold f_cBlocks_put_b142_lp f_cBlocks_put_b142
    rw [if_neg yz.2.2.1, if_pos xk.2.1, if_neg r0, Int.toNat_natCast, (yv k km).2.1, h3, ed]
    by_cases w : s.I k = ((R / 64 : Nat) : Int)
    · rw [if_neg (fun z => z w), if_neg yz.2.1, if_pos xk.1, (yv k km).1, er, bitL_get c6 b6]
      by_cases bt : bitL (s.M k) (R % 64) = true
      · have Sp : S R := (Q.1 R).2 ⟨k, kl, w, bt⟩
        have RZ := rd_z w kZ
        rw [if_pos bt, if_neg (fun z => z rfl), lt1_eq, rd_w Rb]
        obtain ⟨B1, K1⟩ := BI_w (o := o) (r := r) (oth := oth) (s := s) (y := 3) (v := ((R + 1 : Nat) : Int)) rd B (by decide)
        have f1 := K1.nd rN' rd
        obtain ⟨h2, R2, u1, u2, u3, u4, u5, u6, u7, u8⟩ := ih (R := R + 1) f1.1 f1.2 B1 (by rw [hI_sI, if_pos ⟨rfl, rfl⟩]) (by lia) (by lia)
        refine ⟨h2, R2, u1, u2, u3, fun y hy => by rw [u4 y hy, hI_sI, if_neg (fun z => hy z.2)], K1.tr u5, ⟨Nat.le_of_succ_le u6.1, u6.2⟩, fun q q1 q2 => ?_, u8⟩
        rcases Nat.eq_or_lt_of_le q1 with z | z
        · rw [← z]; exact Sp
        · exact u7 q z q2
      · rw [if_neg bt, if_pos (by decide)]
        exact ⟨h, R, rfl, B, h3, fun _ _ => rfl, BK.rf, ⟨Nat.le_refl _, Rb⟩, fun q q1 q2 => absurd q2 (Nat.not_lt.2 q1), fun z => bt z.2⟩
    · rw [if_pos w]
      exact ⟨h, R, rfl, B, h3, fun _ _ => rfl, BK.rf, ⟨Nat.le_refl _, Rb⟩, fun q q1 q2 => absurd q2 (Nat.not_lt.2 q1), fun z => w z.1⟩
end
