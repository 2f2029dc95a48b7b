/-! guards are armed -/
def Z0 (_ : Nat) : Int := 0
theorem MCs.fe {s : Nat} {h h' : Hp} (M : MCs h s) (e : ∀ x k, x = s + 1 ∨ x = s + 2 → hJ h' x k = hJ h x k) : MCs h' s := M.of (fun k => e _ k (Or.inl rfl)) (fun k => e _ k (Or.inr rfl))
theorem m_labF {s key to ctx : Nat} {at_ l m w p : Int} {g g' : Hp} (L : LSeals g s) (e : f_mSeals_label s key at_ l ctx m w to p g = some g') : (hR g' = hR g ∧ ln g' = ln g) ∧ (∀ x k, x < s ∨ s + 23 < x → x ≠ to → hI g' x k = hI g x k) ∧ (∀ x k, x ≠ s + 6 → x ≠ s + 7 → x ≠ s + 8 → hJ g' x k = hJ g x k) := by
  have F : Fe (wI_mSeals_label s key at_ l ctx m w to p g) (wJ_mSeals_label s key at_ l ctx m w to p g) g g' := fe_mSeals_label s key at_ l ctx m w to p g _ e
  refine ⟨⟨F.r, F.l⟩, fun x k hx ht => F.I ?_, fun x k h1 h2 h3 => F.J ?_⟩
  · simp only [wI_mSeals_label, L.r9, L.r10, L.r12, L.r14, L.r4, L.r8]; intro z; rcases z with z | z | z | z | z | z | z | z | z <;> omega
  · simp only [wJ_mSeals_label, L.r5, L.r6, L.r7]; intro z; rcases z with z | z | z <;> omega
theorem m_arm {s sec at_ gd g : Nat} {K : Nat → Int} {h : Hp} (L : LSeals h s) (M : MCs h s) (hk : sec ≠ 0) (hkd : sec < s ∨ s + 23 < sec) (hkl : at_ + 32 ≤ ln h sec) (hkz : at_ + 64 < 2147483648) (hK : ∀ j, j < 32 → 0 ≤ hI h sec (at_ + j) ∧ hI h sec (at_ + j) < 256 ∧ hI h sec (at_ + j) = K j % 256) (hg : gd ≠ 0) (hgd : gd < s ∨ s + 23 < gd) (hne : sec ≠ gd) (hgl : g + 76 ≤ ln h gd) (hgz : g + 96 < 2147483648) :
    wp (f_mSeals_arm s sec (at_ : Int) gd (g : Int) h) (fun h' => (∀ k, k < 32 → hI h' gd (g + k) = LAB 0 32 0 K Z0 k) ∧ (∀ k, k < 32 → hI h' gd (g + 32 + k) = LAB 2 32 0 K Z0 k) ∧ (∀ k, k < 12 → hI h' gd (g + 64 + k) = LAB 1 12 0 K Z0 k) ∧ ∀ j, j < g ∨ g + 76 ≤ j → hI h' gd j = hI h gd j) := by
  unfold f_mSeals_arm
  have w1 : w32 ((g : Int) + 32) = ((g + 32 : Nat) : Int) := by unfold w32; omega
  have w2 : w32 ((g : Int) + 64) = ((g + 64 : Nat) : Int) := by clear w1; unfold w32; omega
  simp only [w1, w2]
  clear w1 w2
  refine wp_b1o (m_label (l := 0) (m := 0) (at_ := at_) (place := g) (wanted := 32) (K := K) (C := Z0) (O := hI h gd) (by omega) (by omega) (fun j hj => by omega) (Or.inl rfl) ⟨L, M, ⟨by omega, hg, hgd, by omega, by omega, fun _ _ => rfl⟩, ⟨hk, hkd, hkl, hkz⟩, hK⟩ (Or.inl rfl) (fun j hj => by omega)) (fun h1 e1 q1 => ?_)
  have F1 := m_labF L e1
  have L1 := L.of F1.1.1 F1.1.2
  have M1 : MCs h1 s := M.fe (fun x k hx => F1.2.2 x k (by omega) (by omega) (by omega))
  have K1 : ∀ j, j < 32 → 0 ≤ hI h1 sec (at_ + j) ∧ hI h1 sec (at_ + j) < 256 ∧ hI h1 sec (at_ + j) = K j % 256 := fun j hj => by rw [F1.2.1 _ _ hkd hne]; exact hK j hj
  refine wp_b1o (m_label (l := 2) (m := 0) (at_ := at_) (place := g + 32) (wanted := 32) (K := K) (C := Z0) (O := hI h1 gd) (by omega) (by omega) (fun j hj => by omega) (Or.inl rfl) ⟨L1, M1, ⟨by omega, hg, hgd, by omega, by rw [F1.1.2]; omega, fun _ _ => rfl⟩, ⟨hk, hkd, by rw [F1.1.2]; exact hkl, hkz⟩, K1⟩ (Or.inl rfl) (fun j hj => by omega)) (fun h2 e2 q2 => ?_)
  have F2 := m_labF L1 e2
  have L2 := L1.of F2.1.1 F2.1.2
  have M2 : MCs h2 s := M1.fe (fun x k hx => F2.2.2 x k (by omega) (by omega) (by omega))
  have K2 : ∀ j, j < 32 → 0 ≤ hI h2 sec (at_ + j) ∧ hI h2 sec (at_ + j) < 256 ∧ hI h2 sec (at_ + j) = K j % 256 := fun j hj => by rw [F2.2.1 _ _ hkd hne]; exact K1 j hj
  refine wp_b1o (m_label (l := 1) (m := 0) (at_ := at_) (place := g + 64) (wanted := 12) (K := K) (C := Z0) (O := hI h2 gd) (by omega) (by omega) (fun j hj => by omega) (Or.inl rfl) ⟨L2, M2, ⟨by omega, hg, hgd, by omega, by rw [F2.1.2, F1.1.2]; omega, fun _ _ => rfl⟩, ⟨hk, hkd, by rw [F2.1.2, F1.1.2]; exact hkl, hkz⟩, K2⟩ (Or.inl rfl) (fun j hj => by omega)) (fun h3 e3 q3 => ?_)
  rw [wp_some]
  refine ⟨fun k hk => ?_, fun k hk => ?_, q3.1, fun j hj => ?_⟩
  · rw [q3.2 _ (by omega), q2.2 _ (by omega)]; exact q1.1 k hk
  · rw [q3.2 _ (by omega)]; exact q2.1 k hk
  · rw [q3.2 _ (by omega), q2.2 _ (by omega), q1.2 _ (by omega)]
theorem LBn.str {h : Hp} {b : Nat} (L : LBn h b) : LStr h (b + 1) := by
  have l0 := L.1
  exact ⟨by omega, ⟨L.r1_0, L.r1_1, L.r1_2, L.r1_3, L.l13, L.l14, L.l15⟩, by omega, ⟨L.r2_0, L.r2_1, L.r2_2, L.r2_3, L.l11, L.l12⟩, ⟨by omega, L.r3_0, L.r3_1, L.r3_2, L.l4, L.l5, L.l6⟩, ⟨by omega, L.r7_0, L.r7_1, L.r7_2, L.l8, L.l9, L.l10⟩⟩
/-- what labels of a Stretch leave alone -/
def LbF (a to : Nat) (h h' : Hp) : Prop := (hR h' = hR h ∧ ln h' = ln h) ∧ (∀ x k, (x < a ∨ a + 14 < x) → x ≠ to → hI h' x k = hI h x k) ∧ (∀ x k, x < a ∨ a + 14 < x → hJ h' x k = hJ h x k)
theorem LbF.of {a key ctx to lb : Nat} {n m w : Int} {h h' : Hp} (L : LStr h a) (e : f_cStretch_label a key n lb ctx m to w h = some h') : LbF a to h h' := by
  have F : Fe (wI_cStretch_label a key n lb ctx m to w h) (wJ_cStretch_label a key n lb ctx m to w h) h h' := fe_cStretch_label a key n lb ctx m to w h _ e
  have M := L.2.2
  have l0 := L.1
  refine ⟨⟨F.r, F.l⟩, fun x k hx ht => F.I ?_, fun x k hx => F.J ?_⟩
  · simp only [wI_cStretch_label, L.r0, L.r1, L.r2, L.r3, M.r0, M.r1, M.r2, M.r3, M.i0, M.i1, M.i2, M.o0, M.o1, M.o2]; intro z; rcases z with z | z | z | z | z | z | z | z | z | z | z | z | z | z | z <;> omega
  · simp only [wJ_cStretch_label, L.r0, M.r0, M.r1]; intro z; rcases z with z | z <;> omega
theorem SC.lb {a to : Nat} {h h' : Hp} (ha : 64 ≤ a) (ht : 64 ≤ to) (F : LbF a to h h') (S : SC h) : SC h' := S.of F.1.1 F.1.2 (fun k => F.2.1 31 k (by omega) (by omega)) (fun k => F.2.1 32 k (by omega) (by omega))
theorem LC.lb {a to : Nat} {h h' : Hp} (ha : 64 ≤ a) (ht : 64 ≤ to) (F : LbF a to h h') (S : LC h) : LC h' := S.of F.1.1 F.1.2 (fun x k hx => F.2.1 x k (by omega) (by omega))
/-- a guard's rows hold the keys of a secret -/
def GuS (h : Hp) (g : Nat) (K : Nat → Int) : Prop := (∀ k, k < 32 → hI h (g + 2) k = i8 (LAB 0 32 0 K Z0 k)) ∧ (∀ k, k < 12 → hI h (g + 3) k = i8 (LAB 1 12 0 K Z0 k)) ∧ ∀ k, k < 32 → hI h (g + 4) k = i8 (LAB 2 32 0 K Z0 k)
theorem c_arm {g b sec : Nat} {K : Nat → Int} {h : Hp} (L : LGu h g) (LB : LBn h b) (S : SC h) (B : LC h) (hd : g + 4 < b ∨ b + 28 < g) (hs : sec ≠ 0) (hsd : sec < b ∨ b + 28 < sec) (hsg : sec < g ∨ g + 4 < sec) (hsl : 32 ≤ ln h sec) (hK : ∀ j, j < 32 → hI h sec j % 256 = K j % 256) :
    wp (f_cGuard_arm g sec b h) (fun h' => GuS h' g K) := by
  have l0 := L.1
  have b0 := LB.1
  unfold f_cGuard_arm
  rw [wp_cn]
  refine ⟨hs, ?_⟩
  rw [L.r0_0, wp_cn]
  refine ⟨by omega, ?_⟩
  rw [wp_ck, L.l1]
  refine ⟨by unfold cpk; omega, ?_⟩
  rw [wp_lt1]
  generalize hg0 : cpI h sec (Int.toNat 0) (g + 1) (Int.toNat 0) (Int.toNat 32) = h0
  have z1 : hR h0 = hR h := by rw [← hg0]; rfl
  have z2 : ln h0 = ln h := by rw [← hg0]; rfl
  have z3 : ∀ x k, x ≠ g + 1 → hI h0 x k = hI h x k := fun x k hx => by rw [← hg0, hI_cI, if_neg (fun z => hx z.1)]
  have z4 : ∀ j, j < 32 → hI h0 (g + 1) j % 256 = K j % 256 := fun j hj => by
    rw [← hg0, hI_cI, if_pos ⟨rfl, by exact Nat.zero_le _, by exact hj⟩]
    have := hK j hj
    simpa using this
  clear hg0
  have L0 := L.of z1 z2
  have LB0 := LB.of z1 z2
  have S0 : SC h0 := S.of z1 z2 (fun k => z3 31 k (by omega)) (fun k => z3 32 k (by omega))
  have B0 : LC h0 := B.of z1 z2 (fun x k hx => z3 x k (by omega))
  clear z1 z2 z3
  unfold f_cGuard_makeKeys
  rw [wp_b1, wp_cn]
  refine ⟨by omega, ?_⟩
  rw [LB0.r0_0, wp_cn]
  refine ⟨by omega, ?_⟩
  rw [L0.r0_0, L0.r0_1, LB0.r0_3, (B0.2 0 (by omega)).1]
  refine wp_b1o (c_label (i := 0) (l := 0) (size := 0) (many := 32) (K := K) (C := Z0) (by omega) (by rfl) LB0.str S0 B0 (by omega) (by omega) (by rw [L0.l1]; omega) z4 (by omega) (by omega) (by omega) (by omega) (fun j hj => by omega) (by omega) (by omega) (by omega) (by omega) (by rw [L0.l2]; omega)) (fun h1 e1 q1 => ?_)
  have F1 := LbF.of LB0.str e1
  have L1 := L0.of F1.1.1 F1.1.2
  have LB1 := LB0.of F1.1.1 F1.1.2
  have S1 := S0.lb (by omega) (by omega) F1
  have B1 := B0.lb (by omega) (by omega) F1
  have k1 : ∀ j, j < 32 → hI h1 (g + 1) j % 256 = K j % 256 := fun j hj => by rw [F1.2.1 _ _ (by omega) (by omega)]; exact z4 j hj
  rw [LB1.r0_0, wp_cn]
  refine ⟨by omega, ?_⟩
  rw [L1.r0_0, L1.r0_2, LB1.r0_3, (B1.2 1 (by omega)).1]
  refine wp_b1o (c_label (i := 1) (l := 1) (size := 0) (many := 12) (K := K) (C := Z0) (by omega) (by rfl) LB1.str S1 B1 (by omega) (by omega) (by rw [L1.l1]; omega) k1 (by omega) (by omega) (by omega) (by omega) (fun j hj => by omega) (by omega) (by omega) (by omega) (by omega) (by rw [L1.l3]; omega)) (fun h2 e2 q2 => ?_)
  have F2 := LbF.of LB1.str e2
  have L2 := L1.of F2.1.1 F2.1.2
  have LB2 := LB1.of F2.1.1 F2.1.2
  have S2 := S1.lb (by omega) (by omega) F2
  have B2 := B1.lb (by omega) (by omega) F2
  have k2 : ∀ j, j < 32 → hI h2 (g + 1) j % 256 = K j % 256 := fun j hj => by rw [F2.2.1 _ _ (by omega) (by omega)]; exact k1 j hj
  rw [wp_some, wp_cn]
  refine ⟨by omega, ?_⟩
  rw [LB2.r0_0, wp_cn]
  refine ⟨by omega, ?_⟩
  rw [L2.r0_0, L2.r0_3, LB2.r0_3, (B2.2 2 (by omega)).1]
  refine wp_b1o (c_label (i := 2) (l := 2) (size := 0) (many := 32) (K := K) (C := Z0) (by omega) (by rfl) LB2.str S2 B2 (by omega) (by omega) (by rw [L2.l1]; omega) k2 (by omega) (by omega) (by omega) (by omega) (fun j hj => by omega) (by omega) (by omega) (by omega) (by omega) (by rw [L2.l4]; omega)) (fun h3 e3 q3 => ?_)
  have F3 := LbF.of LB2.str e3
  rw [wp_lt1, wp_lt1, wp_some]
  refine ⟨fun k hk => ?_, fun k hk => ?_, fun k hk => ?_⟩
  · rw [hI_sI, if_neg (by omega), hI_sI, if_neg (by omega), F3.2.1 _ _ (by omega) (by omega), F2.2.1 _ _ (by omega) (by omega)]; exact q1.1 k hk
  · rw [hI_sI, if_neg (by omega), hI_sI, if_neg (by omega), F3.2.1 _ _ (by omega) (by omega)]; exact q2.1 k hk
  · rw [hI_sI, if_neg (by omega), hI_sI, if_neg (by omega)]; exact q3.1 k hk
