/-! what came: all bytes of a row are laid down, and ready goes on -/
section
variable {o r oth : Nat} {h h' h'' : Hp} {s s' : BSt} {S S' : Nat → Prop} {W W' : Nat → Int}
theorem rd_a {R : Nat} {a b : Int} (h1 : a < ((R / 64 : Nat) : Int)) (h2 : b ≤ a) : b ≠ ((R / 64 : Nat) : Int) := by omega
theorem rd_b {R R' : Nat} {a : Int} (h1 : a < ((R / 64 : Nat) : Int)) (h2 : R ≤ R') : a < ((R' / 64 : Nat) : Int) := by omega
theorem c_rdout {n R Z : Nat} {v6 : Int} {l1 l2 : List Nat} (r0 : r ≠ 0) (rd : ¬ BlD h o r) (rN' : r < hN h) (B : BI h o oth r s) (Q : BS s S W) (hl : s.l = l1 ++ l2) (C2 : ChX s.X v6 l2) (kZ : ∀ k, k ∈ s.l → s.I k < (Z : Int)) (zz : Z ≤ 2048) (h3 : hI h r 3 = (R : Int)) (Rb : R ≤ 131072) (p1 : ∀ k, k ∈ l1 → s.I k < ((R / 64 : Nat) : Int)) (hn : l2.length + 1 < n) (hF : 131072 < FU) :
    ∃ (h' : Hp) (R' : Nat), f_cBlocks_put_b136_lp n o r v6 h = some h' ∧ BI h' o oth r s ∧ hI h' r 3 = (R' : Int) ∧ (∀ y, y ≠ 3 → hI h' r y = hI h r y) ∧ BK o r h h' s s ∧ (R ≤ R' ∧ R' ≤ 131072) ∧ (∀ q, R ≤ q → q < R' → S q) ∧ ¬ S R' := by
  obtain ⟨FF, eF⟩ : ∃ FF, FF = FU := ⟨FU, rfl⟩
  induction n generalizing h R l1 l2 v6 with
  | zero => exact absurd hn (Nat.not_lt_zero _)
  | succ n ih =>
    unfold f_cBlocks_put_b136_lp f_cBlocks_put_b136
    cases l2 with
    | nil =>
      have e : v6 = -1 := C2
      rw [if_pos e]
      refine ⟨h, R, rfl, B, h3, fun _ _ => rfl, BK.rf, ⟨Nat.le_refl _, Rb⟩, fun q q1 q2 => absurd q2 (Nat.not_lt.2 q1), fun z => ?_⟩
      obtain ⟨k, z1, z2, z3⟩ := (Q.1 R).1 z
      rw [hl, List.append_nil] at z1
      exact rd_a (p1 k z1) (Int.le_refl _) z2
    | cons k l' =>
      have ek : v6 = (k : Int) := C2.1
      have kl : k ∈ s.l := by rw [hl]; exact List.mem_append.2 (Or.inr List.mem_cons_self)
      rw [ek, if_neg (pl_n k)]
      rw [← eF] at hF ⊢
      obtain ⟨h1, R1, u1, u2, u3, u4, u5, u6, u7, u8⟩ := c_rdin (n := FF) (K := f_cBlocks_put_b136_lp n) r0 rd rN' B Q kl (kZ k kl) zz h3 Rb (Nat.lt_of_le_of_lt (Nat.sub_le _ _) (Nat.lt_of_le_of_lt (Nat.mul_le_mul_left 64 zz) hF))
      rw [eF] at hF
      rw [u1]
      have km : k < s.m := B.1.2.2.2.1 k (List.mem_append.2 (Or.inl kl))
      have xk := u2.1.1.xk km
      obtain ⟨yz, yi, yv, yd⟩ := u2.1.1.i
      have f1 := u5.nd rN' rd
      have ed : iDiv (R1 : Int) 64 = ((R1 / 64 : Nat) : Int) := iDiv_nat (n := 64) (Nat.lt_of_le_of_lt u6.2 (by decide)) (by decide) (by decide)
      unfold f_cBlocks_put_b194 f_cBlocks_put_b222
      rw [if_neg yz.2.2.1, if_pos xk.2.1, if_neg r0, Int.toNat_natCast, (yv k km).2.1, u3, ed]
      have R2 := (InL.app.1 (show InL s.I (-1) (l1 ++ (k :: l')) by rw [← hl]; exact B.1.2.2.2.2.1)).2.2
      by_cases w : ((R1 / 64 : Nat) : Int) ≤ s.I k
      · rw [if_pos w]
        obtain ⟨n', en⟩ : ∃ n', n = n' + 1 := by
          cases n with
          | zero => exact absurd hn (by lia)
          | succ n => exact ⟨n, rfl⟩
        refine ⟨h1, R1, ?_, u2, u3, u4, u5, u6, u7, fun z => ?_⟩
        · rw [en]; unfold f_cBlocks_put_b136_lp f_cBlocks_put_b136; rw [if_pos rfl]
        · obtain ⟨j, z1, z2, z3⟩ := (Q.1 R1).1 z
          rw [hl] at z1
          rcases List.mem_append.1 z1 with y | y
          · exact absurd z2 (rd_a (rd_b (p1 j y) u6.1) (Int.le_refl _))
          · rcases List.mem_cons.1 y with y | y
            · rw [y] at z2 z3; exact u8 ⟨z2, z3⟩
            · have := R2.gt j y
              rw [z2] at this
              exact absurd this (Int.not_lt.2 w)
      · rw [if_neg w, if_neg yz.2.2.2, if_pos xk.2.2, (yv k km).2.2]
        obtain ⟨h2, R', t1, t2, t3, t4, t5, t6, t7, t8⟩ := ih (l1 := l1 ++ [k]) (l2 := l') f1.1 f1.2 u2 (by rw [hl, List.append_assoc]; rfl) C2.2 u3 u6.2 (fun j hj => by
          rcases List.mem_append.1 hj with y | y
          · exact rd_b (p1 j y) u6.1
          · rw [List.mem_singleton.1 y]; exact Int.not_le.1 w) (Nat.lt_of_succ_lt_succ hn)
        refine ⟨h2, R', t1, t2, t3, fun y hy => by rw [t4 y hy, u4 y hy], u5.tr t5, ⟨Nat.le_trans u6.1 t6.1, t6.2⟩, fun q q1 q2 => ?_, t8⟩
        by_cases c : q < R1
        · exact u7 q q1 c
        · exact t7 q (Nat.le_of_not_lt c) q2
end
