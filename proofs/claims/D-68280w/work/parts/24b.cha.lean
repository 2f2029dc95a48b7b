/-! ChaCha: the class's next block -/
/-- byte k of the block of sixteen words -/
def CHW (F : Nat → BitVec 32) (k : Nat) : Int := ((chN F 20 (k / 4) + F (k / 4)).toNat : Int) / 2 ^ (8 * (k % 4)) % 256
theorem CHW_lt (F : Nat → BitVec 32) (k : Nat) : 0 ≤ CHW F k ∧ CHW F k < 256 := by
  unfold CHW
  generalize ((chN F 20 (k / 4) + F (k / 4)).toNat : Int) / 2 ^ (8 * (k % 4)) = z
  omega
theorem w_k1 {k : Nat} (hk : k < 1000000000) : w32 ((k : Int) + 1) = ((k + 1 : Nat) : Int) := by unfold w32; omega
theorem w_ck {c k : Nat} (hk : c + k < 1000000000) : w32 ((c : Int) + (k : Int)) = ((c + k : Nat) : Int) := by unfold w32; omega
theorem w_4k {c k : Nat} (hk : c * k < 1000000000) : w32 ((c : Int) * (k : Int)) = ((c * k : Nat) : Int) := by
  have : ((c * k : Nat) : Int) = (c : Int) * (k : Int) := Int.natCast_mul _ _
  rw [← this]; generalize c * k = z at *; unfold w32; omega
theorem iRem_nat {k n : Nat} (hk : k < 1000000000) (hn : 0 < n) (hn2 : n < 1000000000) : iRem (k : Int) (n : Int) = ((k % n : Nat) : Int) := by
  rw [iRem_eq ⟨by omega, by omega⟩ ⟨by omega, by omega⟩ (by omega) (by omega)]; exact (Int.natCast_emod _ _).symm
theorem iDiv_nat {k n : Nat} (hk : k < 1000000000) (hn : 0 < n) (hn2 : n < 1000000000) : iDiv (k : Int) (n : Int) = ((k / n : Nat) : Int) := by
  rw [iDiv_eq ⟨by omega, by omega⟩ ⟨by omega, by omega⟩ (by omega) (by omega)]; exact (Int.natCast_ediv _ _).symm
/-- all but the words that are mixed is as before -/
def KF (a : Nat) (h h' : Hp) : Prop := (hR h' = hR h ∧ ln h' = ln h) ∧ ∀ x k, x ≠ a + 2 → hI h' x k = hI h x k
theorem KF.mix {a : Nat} {p q r s : Int} {h h' : Hp} (L : LKs h a) (e : f_cKeystream_mix a p q r s h = some h') : KF a h h' := by
  have F : Fe (wI_cKeystream_mix a p q r s h) (wJ_cKeystream_mix a p q r s h) h h' := fe_cKeystream_mix a p q r s h _ e
  exact ⟨⟨F.r, F.l⟩, fun x k hx => F.I (by simp only [wI_cKeystream_mix, L.r0_1]; exact hx)⟩
theorem KF.tr {a : Nat} {h g h' : Hp} (F : KF a h g) (G : KF a g h') : KF a h h' := ⟨⟨G.1.1.trans F.1.1, G.1.2.trans F.1.2⟩, fun x k hx => (G.2 x k hx).trans (F.2 x k hx)⟩
theorem c_n54 {a r : Nat} {X : Nat → BitVec 32} {K : Nat → Int → Hp → Option Hp} {Q : Hp → Prop} {h0 : Hp} (kk : ∀ h', LKs h' a → KF a h0 h' → XS h' (a + 2) (chQ 1 X 4) → wp (K a (w32 ((r : Int) + 1)) h') Q) (f : Nat) : ∀ (k : Nat) (h : Hp), k ≤ 4 → 4 - k < f → LKs h a → KF a h0 h → XS h (a + 2) (chQ 1 X k) → wp (f_cKeystream_next_b54_lp K f a (r : Int) (k : Int) h) Q := by
  induction f with
  | zero => intro k h _ hf; omega
  | succ f ih =>
    intro k h hk hf L F S
    show wp (f_cKeystream_next_b54 K (f_cKeystream_next_b54_lp K f) a (r : Int) (k : Int) h) Q
    unfold f_cKeystream_next_b54
    by_cases hx : (4 : Int) ≤ k
    · rw [if_pos hx]
      have : k = 4 := by omega
      subst this
      exact kk h L F S
    · rw [if_neg hx]
      have e1 : w32 (4 + iRem (w32 ((k : Int) + 1)) 4) = ((4 + (k + 1) % 4 : Nat) : Int) := by
        rw [w_k1 (by omega), show (4 : Int) = ((4 : Nat) : Int) from rfl, iRem_nat (by omega) (by omega) (by omega), w_ck (by omega)]
      have e2 : w32 (8 + iRem (w32 ((k : Int) + 2)) 4) = ((8 + (k + 2 * 1) % 4 : Nat) : Int) := by
        rw [show w32 ((k : Int) + 2) = ((k + 2 : Nat) : Int) from w_ck (c := k) (k := 2) (by omega), show (4 : Int) = ((4 : Nat) : Int) from rfl, iRem_nat (by omega) (by omega) (by omega), show (8 : Int) = ((8 : Nat) : Int) from rfl, w_ck (by omega)]
      have e3 : w32 (12 + iRem (w32 ((k : Int) + 3)) 4) = ((12 + (k + 3 * 1) % 4 : Nat) : Int) := by
        rw [show w32 ((k : Int) + 3) = ((k + 3 : Nat) : Int) from w_ck (c := k) (k := 3) (by omega), show (4 : Int) = ((4 : Nat) : Int) from rfl, iRem_nat (by omega) (by omega) (by omega), show (12 : Int) = ((12 : Nat) : Int) from rfl, w_ck (by omega)]
      simp only [e1, e2, e3]
      clear e1 e2 e3
      refine wp_b1o (c_mix L S (by omega) (by omega) (by omega) (by omega)) (fun h1 e1 q1 => ?_)
      have F1 := KF.mix L e1
      simp only [w_k1 (show k < 1000000000 by omega)]
      exact ih (k + 1) h1 (by omega) (by omega) (L.of F1.1.1 F1.1.2) (F.tr F1) q1
theorem c_n25 {a r : Nat} {X : Nat → BitVec 32} {K : Nat → Int → Hp → Option Hp} {Q : Hp → Prop} {h0 : Hp} (kk : ∀ h', LKs h' a → KF a h0 h' → XS h' (a + 2) (chQ 1 (chQ 0 X 4) 4) → wp (K a (w32 ((r : Int) + 1)) h') Q) (f : Nat) : ∀ (k : Nat) (h : Hp), k ≤ 4 → 4 - k < f → LKs h a → KF a h0 h → XS h (a + 2) (chQ 0 X k) → wp (f_cKeystream_next_b25_lp K f a (r : Int) (k : Int) h) Q := by
  induction f with
  | zero => intro k h _ hf; omega
  | succ f ih =>
    intro k h hk hf L F S
    show wp (f_cKeystream_next_b25 K (f_cKeystream_next_b25_lp K f) a (r : Int) (k : Int) h) Q
    unfold f_cKeystream_next_b25
    by_cases hx : (4 : Int) ≤ k
    · rw [if_pos hx]
      have : k = 4 := by omega
      subst this
      exact c_n54 kk FU 0 h (by omega) (by unfold FU; omega) L F S
    · rw [if_neg hx]
      have e1 : w32 (4 + (k : Int)) = ((4 + (k + 0) % 4 : Nat) : Int) := by
        rw [show (4 : Int) = ((4 : Nat) : Int) from rfl, w_ck (by omega), Nat.add_zero, Nat.mod_eq_of_lt (by omega)]
      have e2 : w32 (8 + (k : Int)) = ((8 + (k + 2 * 0) % 4 : Nat) : Int) := by
        rw [show (8 : Int) = ((8 : Nat) : Int) from rfl, w_ck (by omega), Nat.mul_zero, Nat.add_zero, Nat.mod_eq_of_lt (by omega)]
      have e3 : w32 (12 + (k : Int)) = ((12 + (k + 3 * 0) % 4 : Nat) : Int) := by
        rw [show (12 : Int) = ((12 : Nat) : Int) from rfl, w_ck (by omega), Nat.mul_zero, Nat.add_zero, Nat.mod_eq_of_lt (by omega)]
      simp only [e1, e2, e3]
      clear e1 e2 e3
      refine wp_b1o (c_mix L S (by omega) (by omega) (by omega) (by omega)) (fun h1 e1 q1 => ?_)
      have F1 := KF.mix L e1
      simp only [w_k1 (show k < 1000000000 by omega)]
      exact ih (k + 1) h1 (by omega) (by omega) (L.of F1.1.1 F1.1.2) (F.tr F1) q1
theorem bytej {x : Int} (hx : c32 x) {m : Nat} (hm : m < 4) : i8 (i8 (iShr x ((8 * m : Nat) : Int))) = i8 (((bv x).toNat : Int) / 2 ^ (8 * m) % 256) := by
  rw [iShr_eq hx (by omega), i8_1]
  have hb := ofI_nat 32 x
  have hb' : ((bv x).toNat : Int) = x % 4294967296 := hb
  rw [hb']
  clear hb hb'
  unfold c32 at hx
  unfold i8
  rcases (by omega : m = 0 ∨ m = 1 ∨ m = 2 ∨ m = 3) with e | e | e | e <;> subst e
  · rw [show (2 : Int) ^ (8 * 0) = 1 from rfl]; omega
  · rw [show (2 : Int) ^ (8 * 1) = 256 from rfl]; omega
  · rw [show (2 : Int) ^ (8 * 2) = 65536 from rfl]; omega
  · rw [show (2 : Int) ^ (8 * 3) = 16777216 from rfl]; omega
theorem c_n101 {a : Nat} {F : Nat → BitVec 32} {h : Hp} (L : LKs h a) (S : XS h (a + 2) (chN F 20)) (S0 : XS h (a + 1) F) : wp (f_cKeystream_next_b101_lp FU a 0 h) (fun h' => (∀ k, k < 64 → hI h' (a + 3) k = i8 (CHW F k)) ∧ XS h' (a + 1) (ud1 F 12 (F 12 + 1#32))) := by
  have l0 := L.1
  have dv : ∀ j : Nat, j < 64 → iDiv (j : Int) 4 = ((j / 4 : Nat) : Int) := fun j hj => iDiv_nat (n := 4) (by omega) (by omega) (by omega)
  have e := lq_cKeystream_next_b101 (v0 := a) FU 0 h (by omega) (by unfold FU; omega) (by omega) (by rw [L.r0_1]; omega) (by rw [L.r0_1, L.l2]; intro j _ hj; rw [dv j hj]; exact ix16 (by omega)) (by rw [L.r0_0]; omega) (by rw [L.r0_0, L.l1]; intro j _ hj; rw [dv j hj]; exact ix16 (by omega)) (by rw [L.r0_2]; omega) (by rw [L.r0_2, L.l3]; intro j _ hj; exact ix16 hj) (by rw [L.r0_0, L.r0_2]; omega) (by rw [L.r0_1, L.r0_2]; omega)
  have e' : f_cKeystream_next_b101_lp FU a 0 h = _ := e
  rw [e', L.r0_0, L.r0_1, L.r0_2]
  clear e e'
  unfold lx_cKeystream_next_b101
  generalize hg : fI h (a + 3) 0 0 64 (fun j => i8 (i8 (iShr (w32 (hI h (a + 2) ((iDiv (j : Int) 4).toNat) + hI h (a + 1) ((iDiv (j : Int) 4).toNat))) (w32 (8 * iRem (j : Int) 4))))) = g
  have G : LKs g a := by rw [← hg]; exact L.of rfI lfI
  have z1 : ∀ x k, x ≠ a + 3 → hI g x k = hI h x k := fun x k hx => by rw [← hg, hI_fI, if_neg (fun z => hx z.1)]
  have z2 : ∀ k, k < 64 → hI g (a + 3) k = i8 (CHW F k) := fun k hk => by
    rw [← hg, hI_fI, if_pos ⟨rfl, by omega, by omega⟩, Nat.sub_zero, dv k hk, Int.toNat_natCast, show iRem (k : Int) 4 = ((k % 4 : Nat) : Int) from iRem_nat (n := 4) (by omega) (by omega) (by omega), show w32 (8 * ((k % 4 : Nat) : Int)) = ((8 * (k % 4) : Nat) : Int) from w_4k (c := 8) (by omega), bytej (c32_w _) (by omega), bv_w32, bv_add, (S _ (by omega)).1, (S0 _ (by omega)).1]
    rfl
  clear hg dv
  rw [G.r0_0, G.l1, wp_cn]
  refine ⟨by omega, ?_⟩
  rw [wp_ck, wp_ck]
  refine ⟨⟨by decide, by decide⟩, ⟨by decide, by decide⟩, ?_⟩
  rw [wp_lt1, wp_some]
  refine ⟨fun k hk => by rw [hI_sI, if_neg (by omega)]; exact z2 k hk, ?_⟩
  have S1 : XS g (a + 1) F := fun i hi => by rw [z1 _ _ (by omega)]; exact S0 i hi
  exact S1.s (by rw [bv_w32, bv_add, show (Int.toNat 12) = 12 from rfl, (S1 12 (by omega)).1]; rfl) (c32_w _)
theorem chN2 (X : Nat → BitVec 32) (r : Nat) : chN X (2 * r + 2) = chQ 1 (chQ 0 (chN X (2 * r)) 4) 4 := by
  show chQ ((2 * r + 1) % 2) (chQ ((2 * r) % 2) (chN X (2 * r)) 4) 4 = _
  rw [show (2 * r + 1) % 2 = 1 by omega, show (2 * r) % 2 = 0 by omega]
theorem c_n17 {a : Nat} {F : Nat → BitVec 32} {h0 : Hp} (S0 : XS h0 (a + 1) F) (f : Nat) : ∀ (r : Nat) (h : Hp), r ≤ 10 → 10 - r < f → LKs h a → KF a h0 h → XS h (a + 2) (chN F (2 * r)) → wp (f_cKeystream_next_b17_lp f a (r : Int) h) (fun h' => (∀ k, k < 64 → hI h' (a + 3) k = i8 (CHW F k)) ∧ XS h' (a + 1) (ud1 F 12 (F 12 + 1#32))) := by
  induction f with
  | zero => intro r h _ hf; omega
  | succ f ih =>
    intro r h hr hf L G S
    show wp (f_cKeystream_next_b17 (f_cKeystream_next_b17_lp f) a (r : Int) h) _
    unfold f_cKeystream_next_b17
    by_cases hx : (10 : Int) ≤ r
    · rw [if_pos hx]
      have : r = 10 := by omega
      subst this
      exact c_n101 L S (fun i hi => by rw [G.2 _ _ (by omega)]; exact S0 i hi)
    · rw [if_neg hx]
      refine c_n25 (h0 := h0) (X := chN F (2 * r)) (fun h' L' G' S' => ?_) FU 0 h (by omega) (by unfold FU; omega) L G S
      simp only [w_k1 (show r < 1000000000 by omega)]
      refine ih (r + 1) h' (by omega) (by omega) L' G' ?_
      rw [show 2 * (r + 1) = 2 * r + 2 by omega, chN2]
      exact S'
theorem c_next {a : Nat} {F : Nat → BitVec 32} {h : Hp} (L : LKs h a) (S : XS h (a + 1) F) : wp (f_cKeystream_next a h) (fun h' => (∀ k, k < 64 → hI h' (a + 3) k = i8 (CHW F k)) ∧ XS h' (a + 1) (ud1 F 12 (F 12 + 1#32))) := by
  have l0 := L.1
  unfold f_cKeystream_next
  rw [L.r0_0, L.r0_1, wp_cn]
  refine ⟨by omega, ?_⟩
  rw [wp_cn]
  refine ⟨by omega, ?_⟩
  rw [wp_ck, L.l1, L.l2]
  refine ⟨by unfold cpk; omega, ?_⟩
  rw [wp_lt1]
  refine c_n17 (h0 := h) S FU 0 _ (by omega) (by unfold FU; omega) (L.of rcI lcI) ⟨⟨rcI, lcI⟩, fun x k hx => by rw [hI_cI, if_neg (fun z => hx z.1)]⟩ (fun i hi => ?_)
  rw [hI_cI, if_pos ⟨rfl, Nat.zero_le _, by exact hi⟩]
  have := S i hi
  simpa [chN] using this
