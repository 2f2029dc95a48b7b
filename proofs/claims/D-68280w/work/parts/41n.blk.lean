/-! what came: bytes are read -/
/-- what taking leaves as it was (t: the row that gets the bytes) -/
def BKt (o r t : Nat) (h h' : Hp) (s s' : BSt) : Prop := (∀ k, k ∉ s.l → k ∉ s.lf → k < s.m → s'.M k = s.M k ∧ s'.I k = s.I k ∧ s'.X k = s.X k ∧ ∀ b, b < 64 → s'.D (64 * k + b) = s.D (64 * k + b)) ∧ s.m ≤ s'.m ∧ (∀ k, k ∈ s'.l ++ s'.lf → k ∈ s.l ++ s.lf ∨ s.m ≤ k) ∧ GF (fun x => BlD h o x ∨ x = r ∨ x = t) h h' ∧ (∀ x, BlD h' o x → BlD h o x ∨ hN h ≤ x) ∧ hN h' + blN h' o ≤ hN h + blN h o ∧ hZ h' + blZ h' o ≤ hZ h + blZ h o
section
variable {o r t oth : Nat} {h h' h'' : Hp} {s s' s'' : BSt} {S : Nat → Prop} {W : Nat → Int}
theorem BKt.rf : BKt o r t h h s s := ⟨fun _ _ _ _ => ⟨rfl, rfl, rfl, fun _ _ => rfl⟩, Nat.le_refl _, fun _ hk => Or.inl hk, GF.refl, fun _ z => Or.inl z, Nat.le_refl _, Nat.le_refl _⟩
theorem BK.tt (A : BK o r h h' s s') : BKt o r t h h' s s' := ⟨A.1, A.2.1, A.2.2.1, A.2.2.2.1.mono (fun x z => z.elim Or.inl (fun z => Or.inr (Or.inl z))), A.2.2.2.2⟩
theorem BKt.tr (A : BKt o r t h h' s s') (B : BKt o r t h' h'' s' s'') : BKt o r t h h'' s s'' := by
  obtain ⟨a1, a2, a3, a4, a5, a6, a7⟩ := A
  obtain ⟨b1, b2, b3, b4, b5, b6, b7⟩ := B
  refine ⟨fun k q1 q2 q3 => ?_, Nat.le_trans a2 b2, fun k hk => ?_, a4.trans' b4 (fun x z1 z2 => ?_), fun x z => ?_, Nat.le_trans b6 a6, Nat.le_trans b7 a7⟩
  · have nk : k ∉ s'.l ++ s'.lf := fun z => by
      rcases a3 k z with y | y
      · rcases List.mem_append.1 y with w | w
        · exact q1 w
        · exact q2 w
      · omega
    obtain ⟨c1, c2, c3, c4⟩ := a1 k q1 q2 q3
    obtain ⟨d1, d2, d3, d4⟩ := b1 k (fun z => nk (List.mem_append.2 (Or.inl z))) (fun z => nk (List.mem_append.2 (Or.inr z))) (by omega)
    exact ⟨by rw [d1, c1], by rw [d2, c2], by rw [d3, c3], fun b hb => by rw [d4 b hb, c4 b hb]⟩
  · rcases b3 k hk with y | y
    · exact a3 k y
    · exact Or.inr (by omega)
  · rcases z2 with y | y
    · rcases a5 x y with w | w
      · exact Or.inl w
      · omega
    · exact Or.inr y
  · rcases b5 x z with y | y
    · exact a5 x y
    · have := a4.1; exact Or.inr (by omega)
theorem tk_j {k p : Nat} (hk : k < 3000) : w32 ((w32 ((k : Int) * 64)) + ((p % 64 : Nat) : Int)) = ((64 * k + p % 64 : Nat) : Int) := by
  have := Nat.mod_lt p (show 64 > 0 by decide)
  rw [w32_id (x := (k : Int) * 64) ⟨by omega, by omega⟩, w32_id ⟨by omega, by omega⟩]; omega
theorem tk_x {k p m l1 l0 : Nat} (h0 : l0 = 64 * l1) (h1 : m ≤ l1) (hk : k < m) : ix ((64 * k + p % 64 : Nat) : Int) l0 := by
  have := Nat.mod_lt p (show 64 > 0 by decide)
  exact ⟨by omega, by omega⟩
theorem tk_d {p : Nat} (h : (p + 1) % 64 = 0) : (p + 1) / 64 = p / 64 + 1 := by omega
theorem tk_e {p : Nat} (h : ¬ (p + 1) % 64 = 0) : (p + 1) / 64 = p / 64 := by omega
theorem c_btake {F fm n i p : Nat} (r0 : r ≠ 0) (rd : ¬ BlD h o r) (rN' : r < hN h) (B : BI h o oth r s) (Q : BS s S W) (lo : ∀ j, j ∈ s.l → ((p / 64 : Nat) : Int) ≤ s.I j) (h2 : hI h r 2 = (p : Int)) (hi : i ≤ n) (all : ∀ q, p ≤ q → q < p + (n - i) → S q) (t0 : t ≠ 0) (tN : t < hN h) (td : ¬ BlD h o t) (tr : t ≠ r) (tl : fm + n ≤ ln h t) (bd : p + (n - i) ≤ 100000) (fd : fm + n ≤ 100000) (hF : n - i < F) :
    ∃ (h' : Hp) (s' : BSt), f_cBlocks_take_b3_lp F o r t (fm : Int) (n : Int) (i : Int) h = some h' ∧ BI h' o oth r s' ∧ BS s' (fun q => S q ∧ (p + (n - i)) / 64 ≤ q / 64) W ∧ (∀ j, j ∈ s'.l → (((p + (n - i)) / 64 : Nat) : Int) ≤ s'.I j ∧ j ∈ s.l ∧ s'.I j = s.I j ∧ s'.M j = s.M j) ∧ hI h' r 2 = ((p + (n - i) : Nat) : Int) ∧ (∀ y, y ≠ 2 → y ≠ 7 → hI h' r y = hI h r y) ∧ (∀ j, j < n - i → hI h' t (fm + i + j) = i8 (W (p + j))) ∧ (∀ y, (y < fm + i ∨ fm + n ≤ y) → hI h' t y = hI h t y) ∧ BKt o r t h h' s s' := by
  induction F generalizing h s S i p with
  | zero => exact absurd hF (Nat.not_lt_zero _)
  | succ F ih =>
    unfold f_cBlocks_take_b3_lp f_cBlocks_take_b3
    by_cases c : n ≤ i
    · have e : n - i = 0 := by omega
      rw [if_pos (Int.ofNat_le.2 c)]
      refine ⟨h, s, rfl, B, Q.st (fun q => ⟨fun z => z.1, fun z => ⟨z, ?_⟩⟩), fun j hj => ⟨by rw [e]; exact lo j hj, hj, rfl, rfl⟩, by rw [e]; exact h2, fun _ _ _ => rfl, fun j hj => by omega, fun _ _ => rfl, BKt.rf⟩
      obtain ⟨k, k1, k2, _⟩ := (Q.1 q).1 z
      have := lo k k1
      rw [k2] at this
      rw [e]; omega
    · have ci : i < n := Nat.lt_of_not_le c
      have Sp : S p := all p (Nat.le_refl _) (by omega)
      obtain ⟨k, l', hl, e7, eI, eD⟩ := BS_head B Q lo Sp
      have kl : k ∈ s.l := by rw [hl]; exact List.mem_cons_self
      have km : k < s.m := B.1.2.2.2.1 k (List.mem_append.2 (Or.inl kl))
      have mB : s.m ≤ ln h (hR h o 1) := B.1.1.2.2.2.2.1.2.2
      have lB : ln h (hR h o 1) ≤ 2048 := B.1.1.2.2.2.2.1.2.1.le
      have l0B : ln h (hR h o 0) = 64 * ln h (hR h o 1) := B.1.1.2.2.1.1.2.2.2
      obtain ⟨yz, yi, yv, yd⟩ := B.1.1.i
      have b6 : p % 64 < 64 := Nat.mod_lt _ (by decide)
      have k3 : k < 3000 := by clear hF all lo h2; omega
      have p9 : p < 1000000000 := by clear hF all lo h2; omega
      have p91 : p + 1 < 1000000000 := by clear hF all lo h2; omega
      have p13 : p ≤ 131072 := by clear hF all lo h2; omega
      have i9 : i < 100000 := by clear hF all lo h2; omega
      have fi : fm + i ≤ 100000 := by clear hF all lo h2; omega
      have fl : fm + i < ln h t := by clear hF all lo h2; omega
      have d64 : 64 * k + p % 64 < 64 * s.m := by clear hF all lo h2; omega
      have er : iRem (p : Int) 64 = ((p % 64 : Nat) : Int) := iRem_nat (n := 64) p9 (by decide) (by decide)
      have ej := tk_j (k := k) (p := p) k3
      have xj := tk_x (p := p) l0B mB km
      have ef : w32 ((fm : Int) + (i : Int)) = ((fm + i : Nat) : Int) := pl_w fi
      have xf : ix ((fm + i : Nat) : Int) (ln h t) := pl_x fl
      have vD : hI h (hR h o 0) (64 * k + p % 64) = W p := by rw [yd _ d64]; exact eD
      rw [if_neg (fun z => c (Int.ofNat_le.1 z)), if_neg r0, if_neg yz.1, e7, h2, er, ej, if_pos xj, if_neg t0, ef, if_pos xf, lt1_eq, Int.toNat_natCast, Int.toNat_natCast, vD]
      clear er ej xj ef xf
      obtain ⟨g, eg⟩ : ∃ g, g = sI h t (fm + i) (i8 (W p)) := ⟨_, rfl⟩
      rw [← eg]
      have gt : ∀ y, hI g r y = hI h r y := fun y => by rw [eg, hI_sI, if_neg (fun z => tr z.1.symm)]
      rw [gt 2, h2, lt1_eq, rd_w p13]
      obtain ⟨g2, eg2⟩ : ∃ g2, g2 = sI g r 2 ((p + 1 : Nat) : Int) := ⟨_, rfl⟩
      rw [← eg2]
      have i2 : hI g2 r 2 = ((p + 1 : Nat) : Int) := by rw [eg2, hI_sI, if_pos ⟨rfl, rfl⟩]
      have er2 : iRem ((p + 1 : Nat) : Int) 64 = (((p + 1) % 64 : Nat) : Int) := iRem_nat (n := 64) p91 (by decide) (by decide)
      rw [i2, er2]
      clear er2
      have dd : ∀ x, BlD g2 o x ↔ BlD h o x := fun x => by rw [eg2, eg]; exact Iff.rfl
      have lg : ∀ x, ln g2 x = ln h x := fun x => by rw [eg2, eg]; rfl
      have ng : hN g2 = hN h := by rw [eg2, eg]; rfl
      have B1 : BI g o oth r s := by
        rw [eg]
        refine ⟨⟨B.1.1.ot td, B.1.2⟩, ?_⟩
        rw [hI_sI, if_neg (fun z => tr z.1.symm)]; exact B.2
      have rd1 : ¬ BlD g o r := by rw [eg]; exact rd
      obtain ⟨B2, K2⟩ := BI_w (y := 2) (v := ((p + 1 : Nat) : Int)) rd1 B1 (by decide)
      rw [← eg2] at B2 K2
      have K1 : BKt o r t h g s s := ⟨fun _ _ _ _ => ⟨rfl, rfl, rfl, fun _ _ => rfl⟩, Nat.le_refl _, fun _ hk => Or.inl hk, by
        rw [eg]
        exact (OnI.gf (C := fun x => BlD h o x ∨ x = r ∨ x = t) (OnI.refl.s) (fun x y hx => by rw [hI_sI, if_neg (fun z => hx (Or.inr (Or.inr z.1)))])), fun _ z => by rw [eg] at z; exact Or.inl z, by rw [eg]; exact Nat.le_refl _, by rw [eg]; exact Nat.le_refl _⟩
      have KK : BKt o r t h g2 s s := K1.tr K2.tt
      have it : ∀ y, hI g2 t y = if y = fm + i then i8 (W p) else hI h t y := fun y => by
        rw [eg2, hI_sI, if_neg (fun z => tr z.1), eg, hI_sI]
        by_cases q : y = fm + i
        · rw [if_pos ⟨rfl, q⟩, if_pos q]
        · rw [if_neg (fun z => q z.2), if_neg q]
      have ir : ∀ y, y ≠ 2 → hI g2 r y = hI h r y := fun y hy => by rw [eg2, hI_sI, if_neg (fun z => hy z.2)]; exact gt y
      have en : p + 1 + (n - (i + 1)) = p + (n - i) := by omega
      -- the rest, once the block is or is not given back
      have rest : ∀ (g3 : Hp) (s3 : BSt) (S3 : Nat → Prop), BI g3 o oth r s3 → BS s3 S3 W → (∀ j, j ∈ s3.l → (((p + 1) / 64 : Nat) : Int) ≤ s3.I j ∧ j ∈ s.l ∧ s3.I j = s.I j ∧ s3.M j = s.M j) → (∀ q, S3 q ↔ S q ∧ (p + 1) / 64 ≤ q / 64) → (∀ y, y ≠ 7 → hI g3 r y = hI g2 r y) → BKt o r t g2 g3 s s3 → (∀ y, hI g3 t y = hI g2 t y) → ¬ BlD g3 o r → r < hN g3 → ¬ BlD g3 o t → t < hN g3 → ln g3 t = ln h t →
          ∃ (h' : Hp) (s' : BSt), f_cBlocks_take_b61 (f_cBlocks_take_b3_lp F) o r t (fm : Int) (n : Int) (i : Int) g3 = some h' ∧ BI h' o oth r s' ∧ BS s' (fun q => S q ∧ (p + (n - i)) / 64 ≤ q / 64) W ∧ (∀ j, j ∈ s'.l → (((p + (n - i)) / 64 : Nat) : Int) ≤ s'.I j ∧ j ∈ s.l ∧ s'.I j = s.I j ∧ s'.M j = s.M j) ∧ hI h' r 2 = ((p + (n - i) : Nat) : Int) ∧ (∀ y, y ≠ 2 → y ≠ 7 → hI h' r y = hI h r y) ∧ (∀ j, j < n - i → hI h' t (fm + i + j) = i8 (W (p + j))) ∧ (∀ y, (y < fm + i ∨ fm + n ≤ y) → hI h' t y = hI h t y) ∧ BKt o r t h h' s s' := fun g3 s3 S3 B3 Q3 lo3 e3 ir3 K3 it3 rd3 rN3 td3 tN3 ln3 => by
        unfold f_cBlocks_take_b61
        rw [pl_1 i9]
        obtain ⟨h', s', u1, u2, u3, u4, u5, u6, u7, u8, u9⟩ := ih (p := p + 1) (i := i + 1) rd3 rN3 B3 Q3 (fun j hj => (lo3 j hj).1) (by rw [ir3 2 (by decide)]; exact i2) (by omega) (fun q q1 q2 => (e3 q).2 ⟨all q (by omega) (by omega), Nat.div_le_div_right q1⟩) tN3 td3 (by rw [ln3]; exact tl) (by omega) (by omega)
        rw [en] at u3 u4 u5
        refine ⟨h', s', u1, u2, u3.st (fun q => ?_), fun j hj => ?_, u5, fun y y1 y2 => by rw [u6 y y1 y2, ir3 y y2, ir y y1], fun j hj => ?_, fun y hy => ?_, (KK.tr K3).tr u9⟩
        · rw [e3 q]
          constructor
          · rintro ⟨a1, a2⟩
            exact ⟨⟨a1, Nat.le_trans (Nat.div_le_div_right (by omega)) a2⟩, a2⟩
          · rintro ⟨⟨a1, _⟩, a2⟩
            exact ⟨a1, a2⟩
        · have a := u4 j hj
          have b := lo3 j a.2.1
          exact ⟨a.1, b.2.1, a.2.2.1.trans b.2.2.1, a.2.2.2.trans b.2.2.2⟩
        · by_cases z : j = 0
          · rw [z, Nat.add_zero, Nat.add_zero, u8 (fm + i) (by omega), it3, it, if_pos rfl]
          · have := u7 (j - 1) (by omega)
            rw [show fm + (i + 1) + (j - 1) = fm + i + j by omega, show p + 1 + (j - 1) = p + j by omega] at this
            exact this
        · rw [u8 y (by omega), it3, it, if_neg (by omega)]
      by_cases w : (p + 1) % 64 = 0
      · rw [w, if_neg (by decide)]
        have rd2 : ¬ BlD g2 o r := fun z => rd ((dd r).1 z)
        obtain ⟨g3, v1, v2, v3, v4⟩ := c_bdrop r0 rd2 (by rw [ng]; exact rN') B2 hl
        rw [v1, b1_some]
        have Q3 := BS_drop (m' := s.m) (fr' := (k : Int)) (X' := up1 s.X k s.fr) (lf' := k :: s.lf) B2 Q hl
        have f1 := v4.nd (by rw [ng]; exact rN') rd2
        have f2 := v4.nd (x := t) (by rw [ng]; exact tN) (fun z => td ((dd t).1 z))
        have nt : ¬ (BlD g2 o t ∨ t = r) := fun z => z.elim (fun z => td ((dd t).1 z)) tr
        have R := B.1.2.2.2.2.1
        rw [hl] at R
        refine rest g3 _ _ v2 Q3 (fun j hj => ?_) (fun q => ?_) v3 v4.tt (fun y => v4.2.2.2.1.i (by rw [ng]; exact tN) nt) f1.1 f1.2 f2.1 f2.2 (by rw [v4.2.2.2.1.l (by rw [ng]; exact tN) nt]; exact lg t)
        · have hj' : j ∈ l' := hj
          have a := R.2.gt j hj'
          refine ⟨?_, by rw [hl]; exact List.mem_cons_of_mem _ hj', rfl, rfl⟩
          show (((p + 1) / 64 : Nat) : Int) ≤ s.I j
          rw [tk_d w]; omega
        · rw [tk_d w]
          constructor
          · rintro ⟨a1, a2⟩
            obtain ⟨k', k1, k2, _⟩ := (Q.1 q).1 a1
            have := lo k' k1
            refine ⟨a1, ?_⟩
            rw [eI] at a2
            omega
          · rintro ⟨a1, a2⟩
            exact ⟨a1, fun z => by rw [eI] at z; omega⟩
      · rw [if_pos (show (((p + 1) % 64 : Nat) : Int) ≠ 0 by omega)]
        refine rest g2 s S B2 Q (fun j hj => ⟨by rw [tk_e w]; exact lo j hj, hj, rfl, rfl⟩) (fun q => ?_) (fun _ _ => rfl) BKt.rf (fun _ => rfl) (fun z => rd ((dd r).1 z)) (by rw [ng]; exact rN') (fun z => td ((dd t).1 z)) (by rw [ng]; exact tN) (lg t)
        rw [tk_e w]
        refine ⟨fun z => ⟨z, ?_⟩, fun z => z.1⟩
        obtain ⟨k', k1, k2, _⟩ := (Q.1 q).1 z
        have := lo k' k1
        omega
end
