/-! what came: a block is asked for, a byte is laid down -/
section
variable {o r oth k : Nat} {h h' h'' : Hp} {s s' : BSt} {S S' : Nat → Prop} {W W' : Nat → Int} {lo H : Int} {I : Nat → Int} {l : List Nat}
theorem InL.inj (R : InL I lo l) : ∀ k k', k ∈ l → k' ∈ l → I k = I k' → k = k' := by
  induction l generalizing lo with
  | nil => intro k k' h; cases h
  | cons j l ih =>
    intro k k' a b e
    have g := R.2.gt
    rcases List.mem_cons.1 a with z | z <;> rcases List.mem_cons.1 b with w | w
    · rw [z, w]
    · have := g k' w; rw [z] at e; omega
    · have := g k z; rw [w] at e; omega
    · exact ih R.2 k k' z w e
theorem BI.I0 (B : BI h o oth r s) : ∀ k, k ∈ s.l → 0 ≤ s.I k := fun k hk => by
  have := B.1.2.2.2.2.1.gt k hk; omega
theorem BS.st (Q : BS s S W) (e : ∀ p, S' p ↔ S p) : BS s S' W := ⟨fun p => by rw [e]; exact Q.1 p, Q.2⟩
theorem BS.wc (B : BI h o oth r s) (Q : BS s S W) (e : ∀ p, S p → W' p = W p) : BS s S W' := ⟨Q.1, fun k hk b hb bit => by
  rw [Q.2 k hk b hb bit]
  have i0 := B.I0 k hk
  refine (e _ ((Q.1 _).2 ⟨k, hk, ?_, ?_⟩)).symm
  · rw [show (64 * (s.I k).toNat + b) / 64 = (s.I k).toNat by omega]; omega
  · rw [show (64 * (s.I k).toNat + b) % 64 = b by omega]; exact bit⟩
theorem c_bblock {i G : Int} (r0 : r ≠ 0) (rd : ¬ BlD h o r) (rN' : r < hN h) (B : BI h o oth r s) (Q : BS s S W) (i0 : 0 ≤ i) (iH : G ≤ i ∧ i ≤ H) (kH : ∀ k, k ∈ s.l → G ≤ s.I k ∧ s.I k ≤ H) (hm : oth + H < 2048) (rN : hN h + blN h o ≤ CN) (rZ : hZ h + blZ h o ≤ CZ) :
    ∃ (k : Nat) (h' : Hp) (s' : BSt), f_cBlocks_block o r i h = some ((k : Int), h') ∧ BI h' o oth r s' ∧ BS s' S W ∧ k ∈ s'.l ∧ s'.I k = i ∧ (∀ y, y ≠ 7 → hI h' r y = hI h r y) ∧ BK o r h h' s s' ∧ (∀ k, k ∈ s'.l → G ≤ s'.I k ∧ s'.I k ≤ H) := by
  obtain ⟨FF, hF, F9⟩ : ∃ FF, FF = FU ∧ 200000 < FF := ⟨FU, rfl, by decide⟩
  unfold f_cBlocks_block
  rw [if_neg r0, lt1_eq, ← hF]
  have L : s.l.length ≤ 2048 := by
    have a := B.1.2.2.2.2.2.2
    have b := B.1.1.2.2.2.2.1
    have := b.2.1.le
    omega
  exact c_bsearch (l1 := []) (l2 := s.l) r0 rd rN' B.1 rfl Q rfl rfl B.2 (Or.inl ⟨rfl, rfl⟩) (by show (-1 : Int) < i; omega) i0 iH kH hm rN rZ (by omega)
theorem c_bp61 {row p : Nat} {v2 v4 v5 v7 : Int} {K : Nat → Nat → Int → Nat → Int → Int → Int → Int → Hp → Option Hp} (rd : ¬ BlD h o r) (rN' : r < hN h) (B : BI h o oth r s) (Q : BS s S W) (kl : k ∈ s.l) (ki : s.I k = ((p / 64 : Nat) : Int)) (hp : p < 1000000) (rw0 : row ≠ 0) (rwx : ix (w32 (v4 + v7)) (ln h row)) (hW : ¬ S p → W p = i8 (hI h row (w32 (v4 + v7)).toNat)) :
    ∃ (h' : Hp) (s' : BSt), f_cBlocks_put_b61 K o r v2 row v4 v5 (k : Int) v7 (p : Int) h = f_cBlocks_put_b124 K o r v2 row v4 v5 (k : Int) v7 h' ∧ BI h' o oth r s' ∧ BS s' (fun q => S q ∨ q = p) W ∧ s'.l = s.l ∧ s'.I = s.I ∧ (∀ y, hI h' r y = hI h r y) ∧ BK o r h h' s s' := by
  have km : k < s.m := B.1.2.2.2.1 k (List.mem_append.2 (Or.inl kl))
  have xk := B.1.1.xk km
  obtain ⟨yz, yi, yv, yd⟩ := B.1.1.i
  have c6 := B.1.2.2.2.2.2.1 k kl
  have P := B.1.1
  have kL : s.m ≤ ln h (hR h o 1) := P.2.2.2.2.1.2.2
  have L2 : ln h (hR h o 1) ≤ 2048 := P.2.2.2.2.1.2.1.le
  have L0 : ln h (hR h o 0) = 64 * ln h (hR h o 1) := P.2.2.1.1.2.2.2
  have b6 : p % 64 < 64 := Nat.mod_lt _ (by decide)
  have er : iRem (p : Int) 64 = ((p % 64 : Nat) : Int) := iRem_nat (n := 64) (by omega) (by decide) (by decide)
  have hix : ix ((64 * k + p % 64 : Nat) : Int) (ln h (hR h o 0)) := by
    clear yz yi yv yd xk P B Q rd c6 rwx hW ki rw0 er
    exact ⟨by omega, by omega⟩
  have ej : w32 ((w32 ((k : Int) * 64)) + ((p % 64 : Nat) : Int)) = ((64 * k + p % 64 : Nat) : Int) := by
    rw [w32_id (x := (k : Int) * 64) ⟨by omega, by omega⟩, w32_id ⟨by omega, by omega⟩]; omega
  have uniq : ∀ k', k' ∈ s.l → s.I k' = s.I k → k' = k := fun k' z e => B.1.2.2.2.2.1.inj k' k z kl e
  unfold f_cBlocks_put_b61
  rw [if_neg yz.2.1, if_pos xk.1, er, Int.toNat_natCast, (yv k km).1, bitL_get c6 b6]
  by_cases bt : bitL (s.M k) (p % 64) = true
  · rw [if_pos bt, if_neg (fun z => z rfl)]
    have Sp : S p := (Q.1 p).2 ⟨k, kl, ki, bt⟩
    refine ⟨h, s, rfl, B, Q.st (fun q => ⟨fun z => ?_, Or.inl⟩), rfl, rfl, fun _ => rfl, BK.rf⟩
    rcases z with w | w
    · exact w
    · rw [w]; exact Sp
  · have nS : ¬ S p := fun z => by
      obtain ⟨k', z1, z2, z3⟩ := (Q.1 p).1 z
      rw [uniq k' z1 (by rw [z2, ki])] at z3
      exact bt z3
    have rnd : ∀ x, BlD h o x → r ≠ x := fun x z e => rd (by rw [e]; exact z)
    rw [if_neg bt, if_pos (by decide), if_neg rw0, if_pos rwx, if_neg yz.1, ej, if_pos hix, lt1_eq, Int.toNat_natCast]
    have gr : ∀ x y, hR (sI h (hR h o 0) (64 * k + p % 64) (i8 (hI h row (w32 (v4 + v7)).toNat))) x y = hR h x y := fun _ _ => rfl
    have gl : ∀ x, ln (sI h (hR h o 0) (64 * k + p % 64) (i8 (hI h row (w32 (v4 + v7)).toNat))) x = ln h x := fun _ => rfl
    rw [gr, gl, if_neg yz.2.1, if_pos xk.1, if_pos xk.1, lt1_eq]
    have P1 := P.sD (j0 := 64 * k + p % 64) (v := i8 (hI h row (w32 (v4 + v7)).toNat))
    have P2 := P1.sM (v := lOr (s.M k) (lShl 1 ((p % 64 : Nat) : Int))) km
    rw [gr] at P2
    have em : hJ (sI h (hR h o 0) (64 * k + p % 64) (i8 (hI h row (w32 (v4 + v7)).toNat))) (hR h o 1) k = s.M k := (yv k km).1
    rw [em]
    refine ⟨_, ((s.m, s.fr), up1 s.D (64 * k + p % 64) (i8 (hI h row (w32 (v4 + v7)).toNat)), up1 s.M k (lOr (s.M k) (lShl 1 ((p % 64 : Nat) : Int))), s.I, s.X, s.l, s.lf), rfl, ⟨⟨P2, B.1.2.1, B.1.2.2.1, B.1.2.2.2.1, B.1.2.2.2.2.1, fun j hj => ?_, B.1.2.2.2.2.2.2⟩, ?_⟩, ⟨fun q => ?_, fun j hj b hb bit => ?_⟩, rfl, rfl, fun y => ?_, ⟨fun j j1 j2 j3 => ?_, Nat.le_refl _, fun j hj => Or.inl hj, ?_, fun x z => Or.inl z, Nat.le_refl _, Nat.le_refl _⟩⟩
    · show c64 (up1 s.M k _ j)
      by_cases w : j = k
      · rw [w, up1_eq]; exact c64_or _ _
      · rw [up1_ne w]; exact B.1.2.2.2.2.2.1 j hj
    · show ChX s.X (hI (sI h (hR h o 0) _ _) r 7) s.l
      rw [hI_sI, if_neg (fun z => rnd _ (Or.inr (Or.inl rfl)) z.1)]
      exact B.2
    · show (S q ∨ q = p) ↔ ∃ k', k' ∈ s.l ∧ s.I k' = ((q / 64 : Nat) : Int) ∧ bitL (up1 s.M k _ k') (q % 64) = true
      constructor
      · rintro (z | z)
        · obtain ⟨k', z1, z2, z3⟩ := (Q.1 q).1 z
          refine ⟨k', z1, z2, ?_⟩
          by_cases w : k' = k
          · rw [w] at z3
            rw [w, up1_eq, bitL_set b6 (Nat.mod_lt _ (by decide)), z3]; rfl
          · rw [up1_ne w]; exact z3
        · refine ⟨k, kl, by rw [z]; exact ki, ?_⟩
          rw [up1_eq, z, bitL_set b6 b6, decide_eq_true rfl, Bool.or_true]
      · rintro ⟨k', z1, z2, z3⟩
        by_cases w : k' = k
        · rw [w, up1_eq, bitL_set b6 (Nat.mod_lt _ (by decide))] at z3
          rcases Bool.or_eq_true_iff.1 z3 with c | c
          · exact Or.inl ((Q.1 q).2 ⟨k, kl, by rw [← w]; exact z2, c⟩)
          · have c1 : p % 64 = q % 64 := of_decide_eq_true c
            have c2 : ((p / 64 : Nat) : Int) = ((q / 64 : Nat) : Int) := by rw [← ki, ← w]; exact z2
            refine Or.inr ?_
            clear yz yi yv yd xk P B Q rd c6 rwx hW ki rw0 er ej uniq
            omega
        · rw [up1_ne w] at z3
          exact Or.inl ((Q.1 q).2 ⟨k', z1, z2, z3⟩)
    · change bitL (up1 s.M k _ j) b = true at bit
      show up1 s.D (64 * k + p % 64) _ (64 * j + b) = W (64 * (s.I j).toNat + b)
      by_cases w : j = k
      · rw [w, up1_eq, bitL_set b6 hb] at bit
        rw [w]
        by_cases c : p % 64 = b
        · rw [← c, up1_eq, ki, Int.toNat_natCast, show 64 * (p / 64) + p % 64 = p from Nat.div_add_mod p 64]
          exact (hW nS).symm
        · rw [decide_eq_false c, Bool.or_false] at bit
          rw [up1_ne (fun z => c (by clear yz yi yv yd xk P B Q rd c6 rwx hW ki rw0 er ej uniq; omega))]
          exact Q.2 k kl b hb bit
      · rw [up1_ne w] at bit
        rw [up1_ne (fun z => w (by clear yz yi yv yd xk P B Q rd c6 rwx hW ki rw0 er ej uniq; omega))]
        exact Q.2 j hj b hb bit
    · show hI (sI h (hR h o 0) _ _) r y = hI h r y
      rw [hI_sI, if_neg (fun z => rnd _ (Or.inr (Or.inl rfl)) z.1)]
    · have w : j ≠ k := fun z => j1 (by rw [z]; exact kl)
      exact ⟨up1_ne w, rfl, rfl, fun b hb => up1_ne (fun z => w (by clear yz yi yv yd xk P B Q rd c6 rwx hW ki rw0 er ej uniq; omega))⟩
    · have G := (BlG.sI (h := h) (o := o) (a := hR h o 0) (y := 64 * k + p % 64) (v := i8 (hI h row (w32 (v4 + v7)).toNat)) (Or.inr (Or.inl rfl))).tr (BlG.sJ (a := hR h o 1) (y := k) (v := lOr (s.M k) (lShl 1 ((p % 64 : Nat) : Int))) (Or.inr (Or.inr (Or.inl rfl))))
      exact G.1.mono (fun x z => Or.inl z)
end
