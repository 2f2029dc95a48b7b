/-! LOOPS that fill arrays, in closed form -/
def fI (h : Hp) (P o k N : Nat) (E : Nat → Int) : Hp := (h.1, h.2.1, fun x y => if x = P ∧ o + k ≤ y ∧ y < o + N then E (y - o) else h.2.2.1 x y, h.2.2.2.1, h.2.2.2.2)
def fJ (h : Hp) (P o k N : Nat) (E : Nat → Int) : Hp := (h.1, h.2.1, h.2.2.1, fun x y => if x = P ∧ o + k ≤ y ∧ y < o + N then E (y - o) else h.2.2.2.1 x y, h.2.2.2.2)
section
variable {h : Hp} {P o k N x y : Nat} {E E' : Nat → Int} {v : Int}
theorem hI_fI : hI (fI h P o k N E) x y = if x = P ∧ o + k ≤ y ∧ y < o + N then E (y - o) else hI h x y := rfl
theorem hJ_fJ : hJ (fJ h P o k N E) x y = if x = P ∧ o + k ≤ y ∧ y < o + N then E (y - o) else hJ h x y := rfl
theorem hJ_fI : hJ (fI h P o k N E) x y = hJ h x y := rfl
theorem hI_fJ : hI (fJ h P o k N E) x y = hI h x y := rfl
theorem hR_fI : hR (fI h P o k N E) x y = hR h x y := rfl
theorem hR_fJ : hR (fJ h P o k N E) x y = hR h x y := rfl
theorem ln_fI : ln (fI h P o k N E) x = ln h x := rfl
theorem ln_fJ : ln (fJ h P o k N E) x = ln h x := rfl
theorem kd_fI : kd (fI h P o k N E) x = kd h x := rfl
theorem kd_fJ : kd (fJ h P o k N E) x = kd h x := rfl
theorem hN_fI : hN (fI h P o k N E) = hN h := rfl
theorem hN_fJ : hN (fJ h P o k N E) = hN h := rfl
theorem hZ_fI : hZ (fI h P o k N E) = hZ h := rfl
theorem hZ_fJ : hZ (fJ h P o k N E) = hZ h := rfl
theorem fI_nil : fI h P o N N E = h := by
  refine Prod.ext rfl (Prod.ext rfl (Prod.ext ?_ rfl))
  funext x y
  exact if_neg (by omega)
theorem fJ_nil : fJ h P o N N E = h := by
  refine Prod.ext rfl (Prod.ext rfl (Prod.ext rfl (Prod.ext ?_ rfl)))
  funext x y
  exact if_neg (by omega)
theorem fI_step {i : Nat} (hk : k < N) (hi : i = o + k) (hv : v = E k) (hE : ∀ j, k + 1 ≤ j → j < N → E' j = E j) : fI (sI h P i v) P o (k + 1) N E' = fI h P o k N E := by
  subst hv
  refine Prod.ext rfl (Prod.ext rfl (Prod.ext ?_ rfl))
  funext x y
  show (if x = P ∧ o + (k + 1) ≤ y ∧ y < o + N then E' (y - o) else up2 h.2.2.1 P i (E k) x y) = _
  by_cases hx : x = P ∧ o + k ≤ y ∧ y < o + N
  · by_cases hy : y = o + k
    · rw [if_neg (by omega)]
      show (if x = P ∧ y = i then E k else _) = _
      rw [if_pos ⟨hx.1, by omega⟩]
      show _ = (if x = P ∧ o + k ≤ y ∧ y < o + N then E (y - o) else h.2.2.1 x y)
      rw [if_pos hx, hy]
      congr 1; omega
    · rw [if_pos ⟨hx.1, by omega, hx.2.2⟩, hE _ (by omega) (by omega)]
      exact (if_pos hx).symm
  · rw [if_neg (fun z => hx ⟨z.1, by omega, z.2.2⟩)]
    show (if x = P ∧ y = i then E k else h.2.2.1 x y) = _
    rw [if_neg (fun z => hx ⟨z.1, by omega, by omega⟩)]
    exact (if_neg hx).symm
theorem fJ_step {i : Nat} (hk : k < N) (hi : i = o + k) (hv : v = E k) (hE : ∀ j, k + 1 ≤ j → j < N → E' j = E j) : fJ (sJ h P i v) P o (k + 1) N E' = fJ h P o k N E := by
  subst hv
  refine Prod.ext rfl (Prod.ext rfl (Prod.ext rfl (Prod.ext ?_ rfl)))
  funext x y
  show (if x = P ∧ o + (k + 1) ≤ y ∧ y < o + N then E' (y - o) else up2 h.2.2.2.1 P i (E k) x y) = _
  by_cases hx : x = P ∧ o + k ≤ y ∧ y < o + N
  · by_cases hy : y = o + k
    · rw [if_neg (by omega)]
      show (if x = P ∧ y = i then E k else _) = _
      rw [if_pos ⟨hx.1, by omega⟩]
      show _ = (if x = P ∧ o + k ≤ y ∧ y < o + N then E (y - o) else h.2.2.2.1 x y)
      rw [if_pos hx, hy]
      congr 1; omega
    · rw [if_pos ⟨hx.1, by omega, hx.2.2⟩, hE _ (by omega) (by omega)]
      exact (if_pos hx).symm
  · rw [if_neg (fun z => hx ⟨z.1, by omega, z.2.2⟩)]
    show (if x = P ∧ y = i then E k else h.2.2.2.1 x y) = _
    rw [if_neg (fun z => hx ⟨z.1, by omega, by omega⟩)]
    exact (if_neg hx).symm
end
def lx_cSide_init_b359 (v0 : Nat) (h : Hp) : Option (Hp) := (if hR h v0 33 = 0 then none else (if ix 8 (ln h (hR h v0 33)) then (lt1 (sI h (hR h v0 33) (Int.toNat 8) 16) fun h201 => (if hR h201 v0 33 = 0 then none else (if ix 9 (ln h201 (hR h201 v0 33)) then (lt1 (sI h201 (hR h201 v0 33) (Int.toNat 9) 8) fun h204 => (b1 (f_cSide_grants v0 h204) fun h205 => some h205)) else none))) else none))
theorem lq_cSide_init_b359 {v0 : Nat} (n : Nat) : ∀ (k : Nat) (h : Hp), k ≤ 8 → 8 - k < n → 8 < 2147483648 → (¬ (hR h v0 33 = 0)) → (∀ j : Nat, k ≤ j → j < 8 → ix (j : Int) (ln h (hR h v0 33))) → f_cSide_init_b359_lp n v0 (k : Int) h = lx_cSide_init_b359 v0 (fI h (hR h v0 33) 0 k 8 (fun j => 16384)) := by
  induction n with
  | zero => intro k h _ hn; omega
  | succ n ih =>
    intro k h hk hn ho hc0 hc1
    show f_cSide_init_b359 (f_cSide_init_b359_lp n) v0 (k : Int) h = _
    unfold f_cSide_init_b359
    by_cases hx0 : (8 : Int) ≤ (k : Int)
    · have hx : (8 : Int) ≤ (k : Int) := by exact hx0
      have hkN : k = 8 := by omega
      subst hkN
      rw [if_pos hx0, fI_nil]
      rfl
    · have hx : ¬ (8 : Int) ≤ (k : Int) := by exact hx0
      rw [if_neg hx0]
      have e1 : w32 ((k : Int) + 1) = ((k + 1 : Nat) : Int) := by unfold w32; omega
      conv => lhs; simp only [lt1, b2, e1]
      rw [if_neg (hc0)]
      rw [if_pos (hc1 k (Nat.le_refl k) (by omega))]
      refine Eq.trans (ih (k + 1) _ (by omega) (by omega) ho ?_ ?_) (congrArg (lx_cSide_init_b359 v0) (fI_step (h := h) (P := hR h v0 33) (o := 0) (k := k) (N := 8) (E := fun j => 16384) (by omega) (by omega) rfl (fun j h1 h2 => ?_)))
      · exact hc0
      · exact fun j h1 h2 => hc1 j (by omega) h2
      · rfl
def lx_cHash_spread_b2 (v0 : Nat) (h : Hp) : Option (Hp) := f_cHash_spread_b89_lp FU v0 16 h
theorem lq_cHash_spread_b2 {v0 : Nat} (n : Nat) : ∀ (k : Nat) (h : Hp), k ≤ 16 → 16 - k < n → 16 < 2147483648 → (¬ (hR h v0 2 = 0)) → (∀ j : Nat, k ≤ j → j < 16 → ix (w32 (4 * (j : Int))) (ln h (hR h v0 2))) → (∀ j : Nat, k ≤ j → j < 16 → ix (w32 ((w32 (4 * (j : Int))) + 1)) (ln h (hR h v0 2))) → (∀ j : Nat, k ≤ j → j < 16 → ix (w32 ((w32 (4 * (j : Int))) + 2)) (ln h (hR h v0 2))) → (∀ j : Nat, k ≤ j → j < 16 → ix (w32 ((w32 (4 * (j : Int))) + 3)) (ln h (hR h v0 2))) → (¬ (hR h v0 1 = 0)) → (∀ j : Nat, k ≤ j → j < 16 → ix (j : Int) (ln h (hR h v0 1))) → (¬ hR h v0 2 = hR h v0 1) → f_cHash_spread_b2_lp n v0 (k : Int) h = lx_cHash_spread_b2 v0 (fI h (hR h v0 1) 0 k 16 (fun j => (iOr (iOr (iOr (iShl (iAnd (hI h (hR h v0 2) ((w32 (4 * (j : Int))).toNat)) 255) 24) (iShl (iAnd (hI h (hR h v0 2) ((w32 ((w32 (4 * (j : Int))) + 1)).toNat)) 255) 16)) (iShl (iAnd (hI h (hR h v0 2) ((w32 ((w32 (4 * (j : Int))) + 2)).toNat)) 255) 8)) (iAnd (hI h (hR h v0 2) ((w32 ((w32 (4 * (j : Int))) + 3)).toNat)) 255)))) := by
  induction n with
  | zero => intro k h _ hn; omega
  | succ n ih =>
    intro k h hk hn ho hc0 hc1 hc2 hc3 hc4 hc5 hc6 hd0
    show f_cHash_spread_b2 (f_cHash_spread_b2_lp n) v0 (k : Int) h = _
    unfold f_cHash_spread_b2
    by_cases hx0 : (16 : Int) ≤ (k : Int)
    · have hx : (16 : Int) ≤ (k : Int) := by exact hx0
      have hkN : k = 16 := by omega
      subst hkN
      rw [if_pos hx0, fI_nil]
      rfl
    · have hx : ¬ (16 : Int) ≤ (k : Int) := by exact hx0
      rw [if_neg hx0]
      have e1 : w32 ((k : Int) + 1) = ((k + 1 : Nat) : Int) := by unfold w32; omega
      conv => lhs; simp only [lt1, b2, e1]
      rw [if_neg (hc0)]
      rw [if_pos (hc1 k (Nat.le_refl k) (by omega))]
      rw [if_pos (hc2 k (Nat.le_refl k) (by omega))]
      rw [if_pos (hc3 k (Nat.le_refl k) (by omega))]
      rw [if_pos (hc4 k (Nat.le_refl k) (by omega))]
      rw [if_neg (hc5)]
      rw [if_pos (hc6 k (Nat.le_refl k) (by omega))]
      refine Eq.trans (ih (k + 1) _ (by omega) (by omega) ho ?_ ?_ ?_ ?_ ?_ ?_ ?_ ?_) (congrArg (lx_cHash_spread_b2 v0) (fI_step (h := h) (P := hR h v0 1) (o := 0) (k := k) (N := 16) (E := fun j => (iOr (iOr (iOr (iShl (iAnd (hI h (hR h v0 2) ((w32 (4 * (j : Int))).toNat)) 255) 24) (iShl (iAnd (hI h (hR h v0 2) ((w32 ((w32 (4 * (j : Int))) + 1)).toNat)) 255) 16)) (iShl (iAnd (hI h (hR h v0 2) ((w32 ((w32 (4 * (j : Int))) + 2)).toNat)) 255) 8)) (iAnd (hI h (hR h v0 2) ((w32 ((w32 (4 * (j : Int))) + 3)).toNat)) 255))) (by omega) (by omega) rfl (fun j h1 h2 => ?_)))
      · exact hc0
      · exact fun j h1 h2 => hc1 j (by omega) h2
      · exact fun j h1 h2 => hc2 j (by omega) h2
      · exact fun j h1 h2 => hc3 j (by omega) h2
      · exact fun j h1 h2 => hc4 j (by omega) h2
      · exact hc5
      · exact fun j h1 h2 => hc6 j (by omega) h2
      · exact hd0
      · simp only [hI_sI, hJ_sJ, hI_sJ, hJ_sI, hR_sI, hR_sJ, hd0, false_and, if_false]
def lx_cHash_end_b57 (v0 : Nat) (v1 : Nat) (o : Nat) (h : Hp) : Option (Hp) := some h
theorem lq_cHash_end_b57 {v0 : Nat} {v1 : Nat} {o : Nat} (n : Nat) : ∀ (k : Nat) (h : Hp), k ≤ 32 → 32 - k < n → o + 32 < 2147483648 → (¬ (hR h v0 0 = 0)) → (∀ j : Nat, k ≤ j → j < 32 → ix (iDiv (j : Int) 4) (ln h (hR h v0 0))) → (¬ (v1 = 0)) → (∀ j : Nat, k ≤ j → j < 32 → ix (w32 ((o : Int) + (j : Int))) (ln h v1)) → (¬ hR h v0 0 = v1) → f_cHash_end_b57_lp n v0 v1 (o : Int) (k : Int) h = lx_cHash_end_b57 v0 v1 o (fI h (v1) o k 32 (fun j => (i8 (i8 (iShr (hI h (hR h v0 0) ((iDiv (j : Int) 4).toNat)) (w32 (24 - (w32 (8 * (iRem (j : Int) 4)))))))))) := by
  induction n with
  | zero => intro k h _ hn; omega
  | succ n ih =>
    intro k h hk hn ho hc0 hc1 hc2 hc3 hd0
    show f_cHash_end_b57 (f_cHash_end_b57_lp n) v0 v1 (o : Int) (k : Int) h = _
    unfold f_cHash_end_b57
    by_cases hx0 : (32 : Int) ≤ (k : Int)
    · have hx : (32 : Int) ≤ (k : Int) := by exact hx0
      have hkN : k = 32 := by omega
      subst hkN
      rw [if_pos hx0, fI_nil]
      rfl
    · have hx : ¬ (32 : Int) ≤ (k : Int) := by exact hx0
      rw [if_neg hx0]
      have e1 : w32 ((k : Int) + 1) = ((k + 1 : Nat) : Int) := by unfold w32; omega
      have e0 : (w32 ((o : Int) + (k : Int))).toNat = o + k := by unfold w32; omega
      conv => lhs; simp only [lt1, b2, e1, e0]
      rw [if_neg (hc0)]
      rw [if_pos (hc1 k (Nat.le_refl k) (by omega))]
      rw [if_neg (hc2)]
      rw [if_pos (hc3 k (Nat.le_refl k) (by omega))]
      refine Eq.trans (ih (k + 1) _ (by omega) (by omega) ho ?_ ?_ ?_ ?_ ?_) (congrArg (lx_cHash_end_b57 v0 v1 o) (fI_step (h := h) (P := v1) (o := o) (k := k) (N := 32) (E := fun j => (i8 (i8 (iShr (hI h (hR h v0 0) ((iDiv (j : Int) 4).toNat)) (w32 (24 - (w32 (8 * (iRem (j : Int) 4))))))))) (by omega) (by omega) rfl (fun j h1 h2 => ?_)))
      · exact hc0
      · exact fun j h1 h2 => hc1 j (by omega) h2
      · exact hc2
      · exact fun j h1 h2 => hc3 j (by omega) h2
      · exact hd0
      · simp only [hI_sI, hJ_sJ, hI_sJ, hJ_sI, hR_sI, hR_sJ, hd0, false_and, if_false]
def lx_cMac_turn_b2 (v0 : Nat) (v1 : Int) (h : Hp) : Option (Hp) := some h
theorem lq_cMac_turn_b2 {v0 : Nat} {v1 : Int} (n : Nat) : ∀ (k : Nat) (h : Hp), k ≤ 64 → 64 - k < n → 64 < 2147483648 → (¬ (hR h v0 2 = 0)) → (∀ j : Nat, k ≤ j → j < 64 → ix (j : Int) (ln h (hR h v0 2))) → (∀ j : Nat, k ≤ j → j < 64 → ix (j : Int) (ln h (hR h v0 2))) → f_cMac_turn_b2_lp n v0 v1 (k : Int) h = lx_cMac_turn_b2 v0 v1 (fI h (hR h v0 2) 0 k 64 (fun j => (i8 (i8 (iXor (hI h (hR h v0 2) j) (i8 v1)))))) := by
  induction n with
  | zero => intro k h _ hn; omega
  | succ n ih =>
    intro k h hk hn ho hc0 hc1 hc2
    show f_cMac_turn_b2 (f_cMac_turn_b2_lp n) v0 v1 (k : Int) h = _
    unfold f_cMac_turn_b2
    by_cases hx0 : (64 : Int) ≤ (k : Int)
    · have hx : (64 : Int) ≤ (k : Int) := by exact hx0
      have hkN : k = 64 := by omega
      subst hkN
      rw [if_pos hx0, fI_nil]
      rfl
    · have hx : ¬ (64 : Int) ≤ (k : Int) := by exact hx0
      rw [if_neg hx0]
      have e1 : w32 ((k : Int) + 1) = ((k + 1 : Nat) : Int) := by unfold w32; omega
      conv => lhs; simp only [lt1, b2, e1]
      rw [if_neg (hc0)]
      rw [if_pos (hc1 k (Nat.le_refl k) (by omega))]
      rw [if_pos (hc2 k (Nat.le_refl k) (by omega))]
      refine Eq.trans (ih (k + 1) _ (by omega) (by omega) ho ?_ ?_ ?_) (congrArg (lx_cMac_turn_b2 v0 v1) (fI_step (h := h) (P := hR h v0 2) (o := 0) (k := k) (N := 64) (E := fun j => (i8 (i8 (iXor (hI h (hR h v0 2) j) (i8 v1))))) (by omega) (by omega) rfl (fun j h1 h2 => ?_)))
      · exact hc0
      · exact fun j h1 h2 => hc1 j (by omega) h2
      · exact fun j h1 h2 => hc2 j (by omega) h2
      · simp only [hI_sI, hJ_sJ, hI_sJ, hJ_sI, hR_sI, hR_sJ, false_and, if_false]; repeat rw [if_neg (by omega)]
def lx_cMac_begin_b2 (v0 : Nat) (v1 : Nat) (v2 : Int) (h : Hp) : Option (Hp) := (if v2 ≤ 64 then f_cMac_begin_b73 v0 h else (if hR h v0 0 = 0 then none else (b1 (f_cHash_begin (hR h v0 0) h) fun h2 => (if hR h2 v0 0 = 0 then none else (b1 (f_cHash_add (hR h2 v0 0) v1 0 v2 h2) fun h5 => (if hR h5 v0 0 = 0 then none else (b1 (f_cHash_end (hR h5 v0 0) (hR h5 v0 2) 0 h5) fun h8 => f_cMac_begin_b73 v0 h8)))))))
theorem lq_cMac_begin_b2 {v0 : Nat} {v1 : Nat} {v2 : Int} (n : Nat) : ∀ (k : Nat) (h : Hp), k ≤ 64 → 64 - k < n → 64 < 2147483648 → ((64 < v2) → ¬ ((hR h v0 2) = 0)) → (∀ j : Nat, k ≤ j → j < 64 → (64 < v2) → ix (j : Int) (ln h (hR h v0 2))) → (∀ j : Nat, k ≤ j → j < 64 → (¬ (64 < v2)) → (v2 ≤ (j : Int)) → ¬ ((hR h v0 2) = 0)) → (∀ j : Nat, k ≤ j → j < 64 → (¬ (64 < v2)) → (v2 ≤ (j : Int)) → ix (j : Int) (ln h (hR h v0 2))) → (∀ j : Nat, k ≤ j → j < 64 → (¬ (64 < v2)) → (¬ (v2 ≤ (j : Int))) → ¬ (v1 = 0)) → (∀ j : Nat, k ≤ j → j < 64 → (¬ (64 < v2)) → (¬ (v2 ≤ (j : Int))) → ix (j : Int) (ln h v1)) → (∀ j : Nat, k ≤ j → j < 64 → (¬ (64 < v2)) → (¬ (v2 ≤ (j : Int))) → ¬ ((hR h v0 2) = 0)) → (∀ j : Nat, k ≤ j → j < 64 → (¬ (64 < v2)) → (¬ (v2 ≤ (j : Int))) → ix (j : Int) (ln h (hR h v0 2))) → (¬ v1 = hR h v0 2) → f_cMac_begin_b2_lp n v0 v1 v2 (k : Int) h = lx_cMac_begin_b2 v0 v1 v2 (fI h (hR h v0 2) 0 k 64 (fun j => if 64 < v2 then ((i8 0)) else (if v2 ≤ (j : Int) then ((i8 0)) else ((i8 (hI h v1 j)))))) := by
  induction n with
  | zero => intro k h _ hn; omega
  | succ n ih =>
    intro k h hk hn ho hc0 hc1 hc2 hc3 hc4 hc5 hc6 hc7 hd0
    show f_cMac_begin_b2 (f_cMac_begin_b2_lp n) v0 v1 v2 (k : Int) h = _
    unfold f_cMac_begin_b2
    by_cases hx0 : (64 : Int) ≤ (k : Int)
    · have hx : (64 : Int) ≤ (k : Int) := by exact hx0
      have hkN : k = 64 := by omega
      subst hkN
      rw [if_pos hx0, fI_nil]
      rfl
    · have hx : ¬ (64 : Int) ≤ (k : Int) := by exact hx0
      rw [if_neg hx0]
      have e1 : w32 ((k : Int) + 1) = ((k + 1 : Nat) : Int) := by unfold w32; omega
      conv => lhs; simp only [lt1, b2, f_cMac_begin_b30, f_cMac_begin_b31, e1]
      by_cases q1 : 64 < v2
      · rw [if_pos q1]
        rw [if_neg (hc0 q1)]
        rw [if_pos (hc1 k (Nat.le_refl k) (by omega) q1)]
        refine Eq.trans (ih (k + 1) _ (by omega) (by omega) ho ?_ ?_ ?_ ?_ ?_ ?_ ?_ ?_ ?_) (congrArg (lx_cMac_begin_b2 v0 v1 v2) (fI_step (h := h) (P := hR h v0 2) (o := 0) (k := k) (N := 64) (E := fun j => if 64 < v2 then ((i8 0)) else (if v2 ≤ (j : Int) then ((i8 0)) else ((i8 (hI h v1 j))))) (by omega) (by omega) (by simp only [if_pos q1, Int.toNat_natCast]) (fun j h1 h2 => ?_)))
        · exact hc0
        · exact fun j h1 h2 => hc1 j (by omega) h2
        · exact fun j h1 h2 => hc2 j (by omega) h2
        · exact fun j h1 h2 => hc3 j (by omega) h2
        · exact fun j h1 h2 => hc4 j (by omega) h2
        · exact fun j h1 h2 => hc5 j (by omega) h2
        · exact fun j h1 h2 => hc6 j (by omega) h2
        · exact fun j h1 h2 => hc7 j (by omega) h2
        · exact hd0
        · simp only [hI_sI, hJ_sJ, hI_sJ, hJ_sI, hR_sI, hR_sJ, hd0, false_and, if_false]
      · rw [if_neg q1]
        by_cases q2 : v2 ≤ (k : Int)
        · rw [if_pos q2]
          rw [if_neg (hc2 k (Nat.le_refl k) (by omega) q1 q2)]
          rw [if_pos (hc3 k (Nat.le_refl k) (by omega) q1 q2)]
          refine Eq.trans (ih (k + 1) _ (by omega) (by omega) ho ?_ ?_ ?_ ?_ ?_ ?_ ?_ ?_ ?_) (congrArg (lx_cMac_begin_b2 v0 v1 v2) (fI_step (h := h) (P := hR h v0 2) (o := 0) (k := k) (N := 64) (E := fun j => if 64 < v2 then ((i8 0)) else (if v2 ≤ (j : Int) then ((i8 0)) else ((i8 (hI h v1 j))))) (by omega) (by omega) (by simp only [if_neg q1, if_pos q2, Int.toNat_natCast]) (fun j h1 h2 => ?_)))
          · exact hc0
          · exact fun j h1 h2 => hc1 j (by omega) h2
          · exact fun j h1 h2 => hc2 j (by omega) h2
          · exact fun j h1 h2 => hc3 j (by omega) h2
          · exact fun j h1 h2 => hc4 j (by omega) h2
          · exact fun j h1 h2 => hc5 j (by omega) h2
          · exact fun j h1 h2 => hc6 j (by omega) h2
          · exact fun j h1 h2 => hc7 j (by omega) h2
          · exact hd0
          · simp only [hI_sI, hJ_sJ, hI_sJ, hJ_sI, hR_sI, hR_sJ, hd0, false_and, if_false]
        · rw [if_neg q2]
          rw [if_neg (hc4 k (Nat.le_refl k) (by omega) q1 q2)]
          rw [if_pos (hc5 k (Nat.le_refl k) (by omega) q1 q2)]
          rw [if_neg (hc6 k (Nat.le_refl k) (by omega) q1 q2)]
          rw [if_pos (hc7 k (Nat.le_refl k) (by omega) q1 q2)]
          refine Eq.trans (ih (k + 1) _ (by omega) (by omega) ho ?_ ?_ ?_ ?_ ?_ ?_ ?_ ?_ ?_) (congrArg (lx_cMac_begin_b2 v0 v1 v2) (fI_step (h := h) (P := hR h v0 2) (o := 0) (k := k) (N := 64) (E := fun j => if 64 < v2 then ((i8 0)) else (if v2 ≤ (j : Int) then ((i8 0)) else ((i8 (hI h v1 j))))) (by omega) (by omega) (by simp only [if_neg q1, if_neg q2, Int.toNat_natCast]) (fun j h1 h2 => ?_)))
          · exact hc0
          · exact fun j h1 h2 => hc1 j (by omega) h2
          · exact fun j h1 h2 => hc2 j (by omega) h2
          · exact fun j h1 h2 => hc3 j (by omega) h2
          · exact fun j h1 h2 => hc4 j (by omega) h2
          · exact fun j h1 h2 => hc5 j (by omega) h2
          · exact fun j h1 h2 => hc6 j (by omega) h2
          · exact fun j h1 h2 => hc7 j (by omega) h2
          · exact hd0
          · simp only [hI_sI, hJ_sJ, hI_sJ, hJ_sI, hR_sI, hR_sJ, hd0, false_and, if_false]
def lx_cKeystream_next_b101 (v0 : Nat) (h : Hp) : Option (Hp) := (if hR h v0 0 = 0 then none else (if ix 12 (ln h (hR h v0 0)) then (if ix 12 (ln h (hR h v0 0)) then (lt1 (sI h (hR h v0 0) (Int.toNat 12) (w32 ((hI h (hR h v0 0) (Int.toNat 12)) + 1))) fun h12 => some h12) else none) else none))
theorem lq_cKeystream_next_b101 {v0 : Nat} (n : Nat) : ∀ (k : Nat) (h : Hp), k ≤ 64 → 64 - k < n → 64 < 2147483648 → (¬ (hR h v0 1 = 0)) → (∀ j : Nat, k ≤ j → j < 64 → ix (iDiv (j : Int) 4) (ln h (hR h v0 1))) → (¬ (hR h v0 0 = 0)) → (∀ j : Nat, k ≤ j → j < 64 → ix (iDiv (j : Int) 4) (ln h (hR h v0 0))) → (¬ (hR h v0 2 = 0)) → (∀ j : Nat, k ≤ j → j < 64 → ix (j : Int) (ln h (hR h v0 2))) → (¬ hR h v0 0 = hR h v0 2) → (¬ hR h v0 1 = hR h v0 2) → f_cKeystream_next_b101_lp n v0 (k : Int) h = lx_cKeystream_next_b101 v0 (fI h (hR h v0 2) 0 k 64 (fun j => (i8 (i8 (iShr (w32 ((hI h (hR h v0 1) ((iDiv (j : Int) 4).toNat)) + (hI h (hR h v0 0) ((iDiv (j : Int) 4).toNat)))) (w32 (8 * (iRem (j : Int) 4)))))))) := by
  induction n with
  | zero => intro k h _ hn; omega
  | succ n ih =>
    intro k h hk hn ho hc0 hc1 hc2 hc3 hc4 hc5 hd0 hd1
    show f_cKeystream_next_b101 (f_cKeystream_next_b101_lp n) v0 (k : Int) h = _
    unfold f_cKeystream_next_b101
    by_cases hx0 : (64 : Int) ≤ (k : Int)
    · have hx : (64 : Int) ≤ (k : Int) := by exact hx0
      have hkN : k = 64 := by omega
      subst hkN
      rw [if_pos hx0, fI_nil]
      rfl
    · have hx : ¬ (64 : Int) ≤ (k : Int) := by exact hx0
      rw [if_neg hx0]
      have e1 : w32 ((k : Int) + 1) = ((k + 1 : Nat) : Int) := by unfold w32; omega
      conv => lhs; simp only [lt1, b2, e1]
      rw [if_neg (hc0)]
      rw [if_pos (hc1 k (Nat.le_refl k) (by omega))]
      rw [if_neg (hc2)]
      rw [if_pos (hc3 k (Nat.le_refl k) (by omega))]
      rw [if_neg (hc4)]
      rw [if_pos (hc5 k (Nat.le_refl k) (by omega))]
      refine Eq.trans (ih (k + 1) _ (by omega) (by omega) ho ?_ ?_ ?_ ?_ ?_ ?_ ?_ ?_) (congrArg (lx_cKeystream_next_b101 v0) (fI_step (h := h) (P := hR h v0 2) (o := 0) (k := k) (N := 64) (E := fun j => (i8 (i8 (iShr (w32 ((hI h (hR h v0 1) ((iDiv (j : Int) 4).toNat)) + (hI h (hR h v0 0) ((iDiv (j : Int) 4).toNat)))) (w32 (8 * (iRem (j : Int) 4))))))) (by omega) (by omega) rfl (fun j h1 h2 => ?_)))
      · exact hc0
      · exact fun j h1 h2 => hc1 j (by omega) h2
      · exact hc2
      · exact fun j h1 h2 => hc3 j (by omega) h2
      · exact hc4
      · exact fun j h1 h2 => hc5 j (by omega) h2
      · exact hd0
      · exact hd1
      · simp only [hI_sI, hJ_sJ, hI_sJ, hJ_sI, hR_sI, hR_sJ, hd0, hd1, false_and, if_false]
def lx_cGuard_begin_b3 (v0 : Nat) (v1 : Nat) (v2 : Int) (v4 : Int) (h : Hp) : Option (Hp) := (if v1 = 0 then none else (if hR h v1 1 = 0 then none else (b1 (f_cKeystream_begin (hR h v1 1) (hR h v0 1) (hR h v1 4) 0 v4 h) fun h3 => some h3)))
theorem lq_cGuard_begin_b3 {v0 : Nat} {v1 : Nat} {v2 : Int} {v4 : Int} (n : Nat) : ∀ (k : Nat) (h : Hp), k ≤ 12 → 12 - k < n → 12 < 2147483648 → (¬ (v1 = 0)) → (¬ (hR h v0 2 = 0)) → (∀ j : Nat, k ≤ j → j < 12 → ix (j : Int) (ln h (hR h v0 2))) → (∀ j : Nat, k ≤ j → j < 12 → (4 ≤ (j : Int)) → ¬ ((hR h v1 4) = 0)) → (∀ j : Nat, k ≤ j → j < 12 → (4 ≤ (j : Int)) → ix (j : Int) (ln h (hR h v1 4))) → (∀ j : Nat, k ≤ j → j < 12 → (¬ (4 ≤ (j : Int))) → ¬ ((hR h v1 4) = 0)) → (∀ j : Nat, k ≤ j → j < 12 → (¬ (4 ≤ (j : Int))) → ix (j : Int) (ln h (hR h v1 4))) → (¬ hR h v0 2 = hR h v1 4) → f_cGuard_begin_b3_lp n v0 v1 v2 v4 (k : Int) h = lx_cGuard_begin_b3 v0 v1 v2 v4 (fI h (hR h v1 4) 0 k 12 (fun j => if 4 ≤ (j : Int) then ((i8 (i8 (iXor (hI h (hR h v0 2) j) (w32 (lShr v2 (w32 (88 - (w32 (8 * (j : Int))))))))))) else ((i8 (i8 (iXor (hI h (hR h v0 2) j) 0)))))) := by
  induction n with
  | zero => intro k h _ hn; omega
  | succ n ih =>
    intro k h hk hn ho hc0 hc1 hc2 hc3 hc4 hc5 hc6 hd0
    show f_cGuard_begin_b3 (f_cGuard_begin_b3_lp n) v0 v1 v2 v4 (k : Int) h = _
    unfold f_cGuard_begin_b3
    by_cases hx0 : (12 : Int) ≤ (k : Int)
    · have hx : (12 : Int) ≤ (k : Int) := by exact hx0
      have hkN : k = 12 := by omega
      subst hkN
      rw [if_pos hx0, fI_nil]
      rfl
    · have hx : ¬ (12 : Int) ≤ (k : Int) := by exact hx0
      rw [if_neg hx0]
      have e1 : w32 ((k : Int) + 1) = ((k + 1 : Nat) : Int) := by unfold w32; omega
      conv => lhs; simp only [lt1, b2, f_cGuard_begin_b44, e1]
      rw [if_neg (hc0)]
      rw [if_neg (hc1)]
      rw [if_pos (hc2 k (Nat.le_refl k) (by omega))]
      by_cases q1 : 4 ≤ (k : Int)
      · rw [if_pos q1]
        rw [if_neg (hc3 k (Nat.le_refl k) (by omega) q1)]
        rw [if_pos (hc4 k (Nat.le_refl k) (by omega) q1)]
        refine Eq.trans (ih (k + 1) _ (by omega) (by omega) ho ?_ ?_ ?_ ?_ ?_ ?_ ?_ ?_) (congrArg (lx_cGuard_begin_b3 v0 v1 v2 v4) (fI_step (h := h) (P := hR h v1 4) (o := 0) (k := k) (N := 12) (E := fun j => if 4 ≤ (j : Int) then ((i8 (i8 (iXor (hI h (hR h v0 2) j) (w32 (lShr v2 (w32 (88 - (w32 (8 * (j : Int))))))))))) else ((i8 (i8 (iXor (hI h (hR h v0 2) j) 0))))) (by omega) (by omega) (by simp only [if_pos q1, Int.toNat_natCast]) (fun j h1 h2 => ?_)))
        · exact hc0
        · exact hc1
        · exact fun j h1 h2 => hc2 j (by omega) h2
        · exact fun j h1 h2 => hc3 j (by omega) h2
        · exact fun j h1 h2 => hc4 j (by omega) h2
        · exact fun j h1 h2 => hc5 j (by omega) h2
        · exact fun j h1 h2 => hc6 j (by omega) h2
        · exact hd0
        · simp only [hI_sI, hJ_sJ, hI_sJ, hJ_sI, hR_sI, hR_sJ, hd0, false_and, if_false]
      · rw [if_neg q1]
        rw [if_neg (hc5 k (Nat.le_refl k) (by omega) q1)]
        rw [if_pos (hc6 k (Nat.le_refl k) (by omega) q1)]
        refine Eq.trans (ih (k + 1) _ (by omega) (by omega) ho ?_ ?_ ?_ ?_ ?_ ?_ ?_ ?_) (congrArg (lx_cGuard_begin_b3 v0 v1 v2 v4) (fI_step (h := h) (P := hR h v1 4) (o := 0) (k := k) (N := 12) (E := fun j => if 4 ≤ (j : Int) then ((i8 (i8 (iXor (hI h (hR h v0 2) j) (w32 (lShr v2 (w32 (88 - (w32 (8 * (j : Int))))))))))) else ((i8 (i8 (iXor (hI h (hR h v0 2) j) 0))))) (by omega) (by omega) (by simp only [if_neg q1, Int.toNat_natCast]) (fun j h1 h2 => ?_)))
        · exact hc0
        · exact hc1
        · exact fun j h1 h2 => hc2 j (by omega) h2
        · exact fun j h1 h2 => hc3 j (by omega) h2
        · exact fun j h1 h2 => hc4 j (by omega) h2
        · exact fun j h1 h2 => hc5 j (by omega) h2
        · exact fun j h1 h2 => hc6 j (by omega) h2
        · exact hd0
        · simp only [hI_sI, hJ_sJ, hI_sJ, hJ_sI, hR_sI, hR_sJ, hd0, false_and, if_false]
def lx_cTally_begin_b35 (v0 : Nat) (v1 : Nat) (h : Hp) : Option (Hp) := (b2 (f_cTally_eight v1 16 h) fun r13 h11 => (lt1 (sJ h11 v0 5 r13) fun h14 => (b2 (f_cTally_eight v1 24 h14) fun r17 h15 => (lt1 (sJ h15 v0 6 r17) fun h18 => (lt1 (sI h18 v0 4 0) fun h19 => some h19)))))
theorem lq_cTally_begin_b35 {v0 : Nat} {v1 : Nat} (n : Nat) : ∀ (k : Nat) (h : Hp), k ≤ 5 → 5 - k < n → 5 < 2147483648 → (¬ (hR h v0 0 = 0)) → (∀ j : Nat, k ≤ j → j < 5 → ix (j : Int) (ln h (hR h v0 0))) → f_cTally_begin_b35_lp n v0 v1 (k : Int) h = lx_cTally_begin_b35 v0 v1 (fJ h (hR h v0 0) 0 k 5 (fun j => 0)) := by
  induction n with
  | zero => intro k h _ hn; omega
  | succ n ih =>
    intro k h hk hn ho hc0 hc1
    show f_cTally_begin_b35 (f_cTally_begin_b35_lp n) v0 v1 (k : Int) h = _
    unfold f_cTally_begin_b35
    by_cases hx0 : (5 : Int) ≤ (k : Int)
    · have hx : (5 : Int) ≤ (k : Int) := by exact hx0
      have hkN : k = 5 := by omega
      subst hkN
      rw [if_pos hx0, fJ_nil]
      rfl
    · have hx : ¬ (5 : Int) ≤ (k : Int) := by exact hx0
      rw [if_neg hx0]
      have e1 : w32 ((k : Int) + 1) = ((k + 1 : Nat) : Int) := by unfold w32; omega
      conv => lhs; simp only [lt1, b2, e1]
      rw [if_neg (hc0)]
      rw [if_pos (hc1 k (Nat.le_refl k) (by omega))]
      refine Eq.trans (ih (k + 1) _ (by omega) (by omega) ho ?_ ?_) (congrArg (lx_cTally_begin_b35 v0 v1) (fJ_step (h := h) (P := hR h v0 0) (o := 0) (k := k) (N := 5) (E := fun j => 0) (by omega) (by omega) rfl (fun j h1 h2 => ?_)))
      · exact hc0
      · exact fun j h1 h2 => hc1 j (by omega) h2
      · rfl
def lx_cTally_take_b26 (v0 : Nat) (v1 : Int) (h : Hp) : Option (Hp) := (if hR h v0 0 = 0 then none else (if ix 4 (ln h (hR h v0 0)) then (if ix 4 (ln h (hR h v0 0)) then (lt1 (sJ h (hR h v0 0) (Int.toNat 4) (w64 ((hJ h (hR h v0 0) (Int.toNat 4)) + v1))) fun h12 => f_cTally_take_b64_lp FU v0 0 h12) else none) else none))
theorem lq_cTally_take_b26 {v0 : Nat} {v1 : Int} (n : Nat) : ∀ (k : Nat) (h : Hp), k ≤ 5 → 5 - k < n → 5 < 2147483648 → (¬ (hR h v0 0 = 0)) → (∀ j : Nat, k ≤ j → j < 5 → ix (j : Int) (ln h (hR h v0 0))) → (¬ (hR h v0 2 = 0)) → (∀ j : Nat, k ≤ j → j < 5 → ix (j : Int) (ln h (hR h v0 2))) → (∀ j : Nat, k ≤ j → j < 5 → ix (j : Int) (ln h (hR h v0 0))) → (¬ hR h v0 2 = hR h v0 0) → f_cTally_take_b26_lp n v0 v1 (k : Int) h = lx_cTally_take_b26 v0 v1 (fJ h (hR h v0 0) 0 k 5 (fun j => (w64 ((hJ h (hR h v0 0) j) + (hJ h (hR h v0 2) j))))) := by
  induction n with
  | zero => intro k h _ hn; omega
  | succ n ih =>
    intro k h hk hn ho hc0 hc1 hc2 hc3 hc4 hd0
    show f_cTally_take_b26 (f_cTally_take_b26_lp n) v0 v1 (k : Int) h = _
    unfold f_cTally_take_b26
    by_cases hx0 : (5 : Int) ≤ (k : Int)
    · have hx : (5 : Int) ≤ (k : Int) := by exact hx0
      have hkN : k = 5 := by omega
      subst hkN
      rw [if_pos hx0, fJ_nil]
      rfl
    · have hx : ¬ (5 : Int) ≤ (k : Int) := by exact hx0
      rw [if_neg hx0]
      have e1 : w32 ((k : Int) + 1) = ((k + 1 : Nat) : Int) := by unfold w32; omega
      conv => lhs; simp only [lt1, b2, e1]
      rw [if_neg (hc0)]
      rw [if_pos (hc1 k (Nat.le_refl k) (by omega))]
      rw [if_neg (hc2)]
      rw [if_pos (hc3 k (Nat.le_refl k) (by omega))]
      rw [if_pos (hc4 k (Nat.le_refl k) (by omega))]
      refine Eq.trans (ih (k + 1) _ (by omega) (by omega) ho ?_ ?_ ?_ ?_ ?_ ?_) (congrArg (lx_cTally_take_b26 v0 v1) (fJ_step (h := h) (P := hR h v0 0) (o := 0) (k := k) (N := 5) (E := fun j => (w64 ((hJ h (hR h v0 0) j) + (hJ h (hR h v0 2) j)))) (by omega) (by omega) rfl (fun j h1 h2 => ?_)))
      · exact hc0
      · exact fun j h1 h2 => hc1 j (by omega) h2
      · exact hc2
      · exact fun j h1 h2 => hc3 j (by omega) h2
      · exact fun j h1 h2 => hc4 j (by omega) h2
      · exact hd0
      · simp only [hI_sI, hJ_sJ, hI_sJ, hJ_sI, hR_sI, hR_sJ, hd0, false_and, if_false]; repeat rw [if_neg (by omega)]
def lx_cTally_end_b42 (v0 : Nat) (v1 : Nat) (v2 : Int) (h : Hp) : Option (Hp) := f_cTally_end_b60 v0 v1 v2 h
theorem lq_cTally_end_b42 {v0 : Nat} {v1 : Nat} {v2 : Int} (n : Nat) : ∀ (k : Nat) (h : Hp), k ≤ 5 → 5 - k < n → 5 < 2147483648 → (¬ (hR h v0 0 = 0)) → (∀ j : Nat, k ≤ j → j < 5 → ix (j : Int) (ln h (hR h v0 0))) → f_cTally_end_b42_lp n v0 v1 v2 (k : Int) h = lx_cTally_end_b42 v0 v1 v2 (fJ h (hR h v0 0) 0 k 5 (fun j => 0)) := by
  induction n with
  | zero => intro k h _ hn; omega
  | succ n ih =>
    intro k h hk hn ho hc0 hc1
    show f_cTally_end_b42 (f_cTally_end_b42_lp n) v0 v1 v2 (k : Int) h = _
    unfold f_cTally_end_b42
    by_cases hx0 : (5 : Int) ≤ (k : Int)
    · have hx : (5 : Int) ≤ (k : Int) := by exact hx0
      have hkN : k = 5 := by omega
      subst hkN
      rw [if_pos hx0, fJ_nil]
      rfl
    · have hx : ¬ (5 : Int) ≤ (k : Int) := by exact hx0
      rw [if_neg hx0]
      have e1 : w32 ((k : Int) + 1) = ((k + 1 : Nat) : Int) := by unfold w32; omega
      conv => lhs; simp only [lt1, b2, e1]
      rw [if_neg (hc0)]
      rw [if_pos (hc1 k (Nat.le_refl k) (by omega))]
      refine Eq.trans (ih (k + 1) _ (by omega) (by omega) ho ?_ ?_) (congrArg (lx_cTally_end_b42 v0 v1 v2) (fJ_step (h := h) (P := hR h v0 0) (o := 0) (k := k) (N := 5) (E := fun j => 0) (by omega) (by omega) rfl (fun j h1 h2 => ?_)))
      · exact hc0
      · exact fun j h1 h2 => hc1 j (by omega) h2
      · rfl
def lx_cGuard_reckon_b77 (v0 : Nat) (v1 : Nat) (v6 : Int) (v7 : Int) (h : Hp) : Option (Hp) := (if v1 = 0 then none else (if hR h v1 2 = 0 then none else (b1 (f_cTally_add (hR h v1 2) (hR h v1 5) 0 16 h) fun h25 => (if hR h25 v1 2 = 0 then none else (b1 (f_cTally_end (hR h25 v1 2) (hR h25 v1 6) 0 h25) fun h28 => some h28)))))
theorem lq_cGuard_reckon_b77 {v0 : Nat} {v1 : Nat} {v6 : Int} {v7 : Int} (n : Nat) : ∀ (k : Nat) (h : Hp), k ≤ 16 → 16 - k < n → 16 < 2147483648 → (¬ (v1 = 0)) → (∀ j : Nat, k ≤ j → j < 16 → ((iRem (j : Int) 8) ≤ 3) → (8 ≤ (j : Int)) → ¬ ((hR h v1 5) = 0)) → (∀ j : Nat, k ≤ j → j < 16 → ((iRem (j : Int) 8) ≤ 3) → (8 ≤ (j : Int)) → ix (j : Int) (ln h (hR h v1 5))) → (∀ j : Nat, k ≤ j → j < 16 → ((iRem (j : Int) 8) ≤ 3) → (¬ (8 ≤ (j : Int))) → ¬ ((hR h v1 5) = 0)) → (∀ j : Nat, k ≤ j → j < 16 → ((iRem (j : Int) 8) ≤ 3) → (¬ (8 ≤ (j : Int))) → ix (j : Int) (ln h (hR h v1 5))) → (∀ j : Nat, k ≤ j → j < 16 → (¬ ((iRem (j : Int) 8) ≤ 3)) → ¬ ((hR h v1 5) = 0)) → (∀ j : Nat, k ≤ j → j < 16 → (¬ ((iRem (j : Int) 8) ≤ 3)) → ix (j : Int) (ln h (hR h v1 5))) → f_cGuard_reckon_b77_lp n v0 v1 v6 v7 (k : Int) h = lx_cGuard_reckon_b77 v0 v1 v6 v7 (fI h (hR h v1 5) 0 k 16 (fun j => if (iRem (j : Int) 8) ≤ 3 then (if 8 ≤ (j : Int) then ((i8 (i8 (iShr (w32 (v7 - v6)) (w32 (8 * (iRem (j : Int) 8))))))) else ((i8 (i8 (iShr v6 (w32 (8 * (iRem (j : Int) 8)))))))) else ((i8 (i8 0))))) := by
  induction n with
  | zero => intro k h _ hn; omega
  | succ n ih =>
    intro k h hk hn ho hc0 hc1 hc2 hc3 hc4 hc5 hc6
    show f_cGuard_reckon_b77 (f_cGuard_reckon_b77_lp n) v0 v1 v6 v7 (k : Int) h = _
    unfold f_cGuard_reckon_b77
    by_cases hx0 : (16 : Int) ≤ (k : Int)
    · have hx : (16 : Int) ≤ (k : Int) := by exact hx0
      have hkN : k = 16 := by omega
      subst hkN
      rw [if_pos hx0, fI_nil]
      rfl
    · have hx : ¬ (16 : Int) ≤ (k : Int) := by exact hx0
      rw [if_neg hx0]
      have e1 : w32 ((k : Int) + 1) = ((k + 1 : Nat) : Int) := by unfold w32; omega
      conv => lhs; simp only [lt1, b2, f_cGuard_reckon_b120, f_cGuard_reckon_b129, e1]
      rw [if_neg (hc0)]
      by_cases q1 : (iRem (k : Int) 8) ≤ 3
      · rw [if_pos q1]
        by_cases q2 : 8 ≤ (k : Int)
        · rw [if_pos q2]
          rw [if_neg (hc1 k (Nat.le_refl k) (by omega) q1 q2)]
          rw [if_pos (hc2 k (Nat.le_refl k) (by omega) q1 q2)]
          refine Eq.trans (ih (k + 1) _ (by omega) (by omega) ho ?_ ?_ ?_ ?_ ?_ ?_ ?_) (congrArg (lx_cGuard_reckon_b77 v0 v1 v6 v7) (fI_step (h := h) (P := hR h v1 5) (o := 0) (k := k) (N := 16) (E := fun j => if (iRem (j : Int) 8) ≤ 3 then (if 8 ≤ (j : Int) then ((i8 (i8 (iShr (w32 (v7 - v6)) (w32 (8 * (iRem (j : Int) 8))))))) else ((i8 (i8 (iShr v6 (w32 (8 * (iRem (j : Int) 8)))))))) else ((i8 (i8 0)))) (by omega) (by omega) (by simp only [if_pos q1, if_pos q2, Int.toNat_natCast]) (fun j h1 h2 => ?_)))
          · exact hc0
          · exact fun j h1 h2 => hc1 j (by omega) h2
          · exact fun j h1 h2 => hc2 j (by omega) h2
          · exact fun j h1 h2 => hc3 j (by omega) h2
          · exact fun j h1 h2 => hc4 j (by omega) h2
          · exact fun j h1 h2 => hc5 j (by omega) h2
          · exact fun j h1 h2 => hc6 j (by omega) h2
          · rfl
        · rw [if_neg q2]
          rw [if_neg (hc3 k (Nat.le_refl k) (by omega) q1 q2)]
          rw [if_pos (hc4 k (Nat.le_refl k) (by omega) q1 q2)]
          refine Eq.trans (ih (k + 1) _ (by omega) (by omega) ho ?_ ?_ ?_ ?_ ?_ ?_ ?_) (congrArg (lx_cGuard_reckon_b77 v0 v1 v6 v7) (fI_step (h := h) (P := hR h v1 5) (o := 0) (k := k) (N := 16) (E := fun j => if (iRem (j : Int) 8) ≤ 3 then (if 8 ≤ (j : Int) then ((i8 (i8 (iShr (w32 (v7 - v6)) (w32 (8 * (iRem (j : Int) 8))))))) else ((i8 (i8 (iShr v6 (w32 (8 * (iRem (j : Int) 8)))))))) else ((i8 (i8 0)))) (by omega) (by omega) (by simp only [if_pos q1, if_neg q2, Int.toNat_natCast]) (fun j h1 h2 => ?_)))
          · exact hc0
          · exact fun j h1 h2 => hc1 j (by omega) h2
          · exact fun j h1 h2 => hc2 j (by omega) h2
          · exact fun j h1 h2 => hc3 j (by omega) h2
          · exact fun j h1 h2 => hc4 j (by omega) h2
          · exact fun j h1 h2 => hc5 j (by omega) h2
          · exact fun j h1 h2 => hc6 j (by omega) h2
          · rfl
      · rw [if_neg q1]
        rw [if_neg (hc5 k (Nat.le_refl k) (by omega) q1)]
        rw [if_pos (hc6 k (Nat.le_refl k) (by omega) q1)]
        refine Eq.trans (ih (k + 1) _ (by omega) (by omega) ho ?_ ?_ ?_ ?_ ?_ ?_ ?_) (congrArg (lx_cGuard_reckon_b77 v0 v1 v6 v7) (fI_step (h := h) (P := hR h v1 5) (o := 0) (k := k) (N := 16) (E := fun j => if (iRem (j : Int) 8) ≤ 3 then (if 8 ≤ (j : Int) then ((i8 (i8 (iShr (w32 (v7 - v6)) (w32 (8 * (iRem (j : Int) 8))))))) else ((i8 (i8 (iShr v6 (w32 (8 * (iRem (j : Int) 8)))))))) else ((i8 (i8 0)))) (by omega) (by omega) (by simp only [if_neg q1, Int.toNat_natCast]) (fun j h1 h2 => ?_)))
        · exact hc0
        · exact fun j h1 h2 => hc1 j (by omega) h2
        · exact fun j h1 h2 => hc2 j (by omega) h2
        · exact fun j h1 h2 => hc3 j (by omega) h2
        · exact fun j h1 h2 => hc4 j (by omega) h2
        · exact fun j h1 h2 => hc5 j (by omega) h2
        · exact fun j h1 h2 => hc6 j (by omega) h2
        · rfl
def lx_cFrame_clear_b32 (v0 : Nat) (h : Hp) : Option (Hp) := (lt1 (sI h v0 8 0) fun h7 => (lt1 (sI h7 v0 9 0) fun h8 => (lt1 (sI h8 v0 10 0) fun h9 => (lt1 (sI h9 v0 11 0) fun h10 => some h10))))
theorem lq_cFrame_clear_b32 {v0 : Nat} (n : Nat) : ∀ (k : Nat) (h : Hp), k ≤ 3 → 3 - k < n → 3 < 2147483648 → (¬ (hR h v0 6 = 0)) → (∀ j : Nat, k ≤ j → j < 3 → ix (j : Int) (ln h (hR h v0 6))) → f_cFrame_clear_b32_lp n v0 (k : Int) h = lx_cFrame_clear_b32 v0 (fJ h (hR h v0 6) 0 k 3 (fun j => 0)) := by
  induction n with
  | zero => intro k h _ hn; omega
  | succ n ih =>
    intro k h hk hn ho hc0 hc1
    show f_cFrame_clear_b32 (f_cFrame_clear_b32_lp n) v0 (k : Int) h = _
    unfold f_cFrame_clear_b32
    by_cases hx0 : (3 : Int) ≤ (k : Int)
    · have hx : (3 : Int) ≤ (k : Int) := by exact hx0
      have hkN : k = 3 := by omega
      subst hkN
      rw [if_pos hx0, fJ_nil]
      rfl
    · have hx : ¬ (3 : Int) ≤ (k : Int) := by exact hx0
      rw [if_neg hx0]
      have e1 : w32 ((k : Int) + 1) = ((k + 1 : Nat) : Int) := by unfold w32; omega
      conv => lhs; simp only [lt1, b2, e1]
      rw [if_neg (hc0)]
      rw [if_pos (hc1 k (Nat.le_refl k) (by omega))]
      refine Eq.trans (ih (k + 1) _ (by omega) (by omega) ho ?_ ?_) (congrArg (lx_cFrame_clear_b32 v0) (fJ_step (h := h) (P := hR h v0 6) (o := 0) (k := k) (N := 3) (E := fun j => 0) (by omega) (by omega) rfl (fun j h1 h2 => ?_)))
      · exact hc0
      · exact fun j h1 h2 => hc1 j (by omega) h2
      · rfl
def lx_mSeals_isAbove_b34 (v0 : Nat) (v1 : Int) (v3 : Int) (v4 : Int) (h : Hp) : Option (Int × Hp) := f_mSeals_isAbove_b68_lp FU v0 v3 v4 0 h
theorem lq_mSeals_isAbove_b34 {v0 : Nat} {v1 : Int} {v3 : Int} {v4 : Int} (n : Nat) : ∀ (k : Nat) (h : Hp), k ≤ 3 → 3 - k < n → 3 < 2147483648 → (¬ (hR h v0 2 = 0)) → (∀ j : Nat, k ≤ j → j < 3 → ix (j : Int) (ln h (hR h v0 2))) → f_mSeals_isAbove_b34_lp n v0 v1 v3 v4 (k : Int) h = lx_mSeals_isAbove_b34 v0 v1 v3 v4 (fI h (hR h v0 2) 0 k 3 (fun j => (w32 (lAnd (lShr v1 (w32 (16 * (j : Int)))) 65535)))) := by
  induction n with
  | zero => intro k h _ hn; omega
  | succ n ih =>
    intro k h hk hn ho hc0 hc1
    show f_mSeals_isAbove_b34 (f_mSeals_isAbove_b34_lp n) v0 v1 v3 v4 (k : Int) h = _
    unfold f_mSeals_isAbove_b34
    by_cases hx0 : (3 : Int) ≤ (k : Int)
    · have hx : (3 : Int) ≤ (k : Int) := by exact hx0
      have hkN : k = 3 := by omega
      subst hkN
      rw [if_pos hx0, fI_nil]
      rfl
    · have hx : ¬ (3 : Int) ≤ (k : Int) := by exact hx0
      rw [if_neg hx0]
      have e1 : w32 ((k : Int) + 1) = ((k + 1 : Nat) : Int) := by unfold w32; omega
      conv => lhs; simp only [lt1, b2, e1]
      rw [if_neg (hc0)]
      rw [if_pos (hc1 k (Nat.le_refl k) (by omega))]
      refine Eq.trans (ih (k + 1) _ (by omega) (by omega) ho ?_ ?_) (congrArg (lx_mSeals_isAbove_b34 v0 v1 v3 v4) (fI_step (h := h) (P := hR h v0 2) (o := 0) (k := k) (N := 3) (E := fun j => (w32 (lAnd (lShr v1 (w32 (16 * (j : Int)))) 65535))) (by omega) (by omega) rfl (fun j h1 h2 => ?_)))
      · exact hc0
      · exact fun j h1 h2 => hc1 j (by omega) h2
      · rfl
def lx_mSeals_isAbove_b3 (v0 : Nat) (v1 : Int) (v3 : Int) (v4 : Int) (h : Hp) : Option (Int × Hp) := (if hR h v0 3 = 0 then none else (if ix 0 (ln h (hR h v0 3)) then (lt1 (sI h (hR h v0 3) (Int.toNat 0) 1) fun h3 => f_mSeals_isAbove_b34_lp FU v0 v1 v3 v4 0 h3) else none))
theorem lq_mSeals_isAbove_b3 {v0 : Nat} {v1 : Int} {v3 : Int} {v4 : Int} (n : Nat) : ∀ (k : Nat) (h : Hp), k ≤ 9 → 9 - k < n → 9 < 2147483648 → (¬ (hR h v0 3 = 0)) → (∀ j : Nat, k ≤ j → j < 9 → ix (j : Int) (ln h (hR h v0 3))) → f_mSeals_isAbove_b3_lp n v0 v1 v3 v4 (k : Int) h = lx_mSeals_isAbove_b3 v0 v1 v3 v4 (fI h (hR h v0 3) 0 k 9 (fun j => 0)) := by
  induction n with
  | zero => intro k h _ hn; omega
  | succ n ih =>
    intro k h hk hn ho hc0 hc1
    show f_mSeals_isAbove_b3 (f_mSeals_isAbove_b3_lp n) v0 v1 v3 v4 (k : Int) h = _
    unfold f_mSeals_isAbove_b3
    by_cases hx0 : (9 : Int) ≤ (k : Int)
    · have hx : (9 : Int) ≤ (k : Int) := by exact hx0
      have hkN : k = 9 := by omega
      subst hkN
      rw [if_pos hx0, fI_nil]
      rfl
    · have hx : ¬ (9 : Int) ≤ (k : Int) := by exact hx0
      rw [if_neg hx0]
      have e1 : w32 ((k : Int) + 1) = ((k + 1 : Nat) : Int) := by unfold w32; omega
      conv => lhs; simp only [lt1, b2, e1]
      rw [if_neg (hc0)]
      rw [if_pos (hc1 k (Nat.le_refl k) (by omega))]
      refine Eq.trans (ih (k + 1) _ (by omega) (by omega) ho ?_ ?_) (congrArg (lx_mSeals_isAbove_b3 v0 v1 v3 v4) (fI_step (h := h) (P := hR h v0 3) (o := 0) (k := k) (N := 9) (E := fun j => 0) (by omega) (by omega) rfl (fun j h1 h2 => ?_)))
      · exact hc0
      · exact fun j h1 h2 => hc1 j (by omega) h2
      · rfl
def lx_mP_key_b57 (v0 : Nat) (v1 : Int) (h : Hp) : Option (Hp) := (if hR h v0 7 = 0 then none else (if ix v1 (ln h (hR h v0 7)) then (if hR h (hR h v0 7) v1.toNat = 0 then none else (lt1 (sI h (hR h (hR h v0 7) v1.toNat) 6 1) fun h18 => (lt1 (sI h18 v0 2 0) fun h19 => some h19))) else none))
theorem lq_mP_key_b57 {v0 : Nat} {v1 : Int} (n : Nat) : ∀ (k : Nat) (h : Hp), k ≤ 32 → 32 - k < n → 32 < 2147483648 → (¬ (hR h v0 7 = 0)) → (ix v1 (ln h (hR h v0 7))) → (¬ (hR h (hR h v0 7) v1.toNat = 0)) → (¬ (hR h (hR h (hR h v0 7) v1.toNat) 3 = 0)) → (¬ (hR h v0 1 = 0)) → (∀ j : Nat, k ≤ j → j < 32 → ix (j : Int) (ln h (hR h v0 1))) → (¬ (hR h (hR h (hR h (hR h v0 7) v1.toNat) 3) 2 = 0)) → (∀ j : Nat, k ≤ j → j < 32 → ix (j : Int) (ln h (hR h (hR h (hR h (hR h v0 7) v1.toNat) 3) 2))) → (¬ hR h v0 1 = hR h (hR h (hR h (hR h v0 7) v1.toNat) 3) 2) → f_mP_key_b57_lp n v0 v1 (k : Int) h = lx_mP_key_b57 v0 v1 (fI h (hR h (hR h (hR h (hR h v0 7) v1.toNat) 3) 2) 0 k 32 (fun j => (iAnd (hI h (hR h v0 1) j) 255))) := by
  induction n with
  | zero => intro k h _ hn; omega
  | succ n ih =>
    intro k h hk hn ho hc0 hc1 hc2 hc3 hc4 hc5 hc6 hc7 hd0
    show f_mP_key_b57 (f_mP_key_b57_lp n) v0 v1 (k : Int) h = _
    unfold f_mP_key_b57
    by_cases hx0 : (32 : Int) ≤ (k : Int)
    · have hx : (32 : Int) ≤ (k : Int) := by exact hx0
      have hkN : k = 32 := by omega
      subst hkN
      rw [if_pos hx0, fI_nil]
      rfl
    · have hx : ¬ (32 : Int) ≤ (k : Int) := by exact hx0
      rw [if_neg hx0]
      have e1 : w32 ((k : Int) + 1) = ((k + 1 : Nat) : Int) := by unfold w32; omega
      conv => lhs; simp only [lt1, b2, e1]
      rw [if_neg (hc0)]
      rw [if_pos (hc1)]
      rw [if_neg (hc2)]
      rw [if_neg (hc3)]
      rw [if_neg (hc4)]
      rw [if_pos (hc5 k (Nat.le_refl k) (by omega))]
      rw [if_neg (hc6)]
      rw [if_pos (hc7 k (Nat.le_refl k) (by omega))]
      refine Eq.trans (ih (k + 1) _ (by omega) (by omega) ho ?_ ?_ ?_ ?_ ?_ ?_ ?_ ?_ ?_) (congrArg (lx_mP_key_b57 v0 v1) (fI_step (h := h) (P := hR h (hR h (hR h (hR h v0 7) v1.toNat) 3) 2) (o := 0) (k := k) (N := 32) (E := fun j => (iAnd (hI h (hR h v0 1) j) 255)) (by omega) (by omega) rfl (fun j h1 h2 => ?_)))
      · exact hc0
      · exact hc1
      · exact hc2
      · exact hc3
      · exact hc4
      · exact fun j h1 h2 => hc5 j (by omega) h2
      · exact hc6
      · exact fun j h1 h2 => hc7 j (by omega) h2
      · exact hd0
      · simp only [hI_sI, hJ_sJ, hI_sJ, hJ_sI, hR_sI, hR_sJ, hd0, false_and, if_false]
def lx_mP_random_b57 (v0 : Nat) (v1 : Int) (h : Hp) : Option (Hp) := (if hR h v0 7 = 0 then none else (if ix v1 (ln h (hR h v0 7)) then (if hR h (hR h v0 7) v1.toNat = 0 then none else (lt1 (sI h (hR h (hR h v0 7) v1.toNat) 7 1) fun h18 => (lt1 (sI h18 v0 2 0) fun h19 => some h19))) else none))
theorem lq_mP_random_b57 {v0 : Nat} {v1 : Int} (n : Nat) : ∀ (k : Nat) (h : Hp), k ≤ 32 → 32 - k < n → 32 < 2147483648 → (¬ (hR h v0 7 = 0)) → (ix v1 (ln h (hR h v0 7))) → (¬ (hR h (hR h v0 7) v1.toNat = 0)) → (¬ (hR h (hR h (hR h v0 7) v1.toNat) 3 = 0)) → (¬ (hR h v0 1 = 0)) → (∀ j : Nat, k ≤ j → j < 32 → ix (j : Int) (ln h (hR h v0 1))) → (¬ (hR h (hR h (hR h (hR h v0 7) v1.toNat) 3) 3 = 0)) → (∀ j : Nat, k ≤ j → j < 32 → ix (j : Int) (ln h (hR h (hR h (hR h (hR h v0 7) v1.toNat) 3) 3))) → (¬ hR h v0 1 = hR h (hR h (hR h (hR h v0 7) v1.toNat) 3) 3) → f_mP_random_b57_lp n v0 v1 (k : Int) h = lx_mP_random_b57 v0 v1 (fI h (hR h (hR h (hR h (hR h v0 7) v1.toNat) 3) 3) 0 k 32 (fun j => (iAnd (hI h (hR h v0 1) j) 255))) := by
  induction n with
  | zero => intro k h _ hn; omega
  | succ n ih =>
    intro k h hk hn ho hc0 hc1 hc2 hc3 hc4 hc5 hc6 hc7 hd0
    show f_mP_random_b57 (f_mP_random_b57_lp n) v0 v1 (k : Int) h = _
    unfold f_mP_random_b57
    by_cases hx0 : (32 : Int) ≤ (k : Int)
    · have hx : (32 : Int) ≤ (k : Int) := by exact hx0
      have hkN : k = 32 := by omega
      subst hkN
      rw [if_pos hx0, fI_nil]
      rfl
    · have hx : ¬ (32 : Int) ≤ (k : Int) := by exact hx0
      rw [if_neg hx0]
      have e1 : w32 ((k : Int) + 1) = ((k + 1 : Nat) : Int) := by unfold w32; omega
      conv => lhs; simp only [lt1, b2, e1]
      rw [if_neg (hc0)]
      rw [if_pos (hc1)]
      rw [if_neg (hc2)]
      rw [if_neg (hc3)]
      rw [if_neg (hc4)]
      rw [if_pos (hc5 k (Nat.le_refl k) (by omega))]
      rw [if_neg (hc6)]
      rw [if_pos (hc7 k (Nat.le_refl k) (by omega))]
      refine Eq.trans (ih (k + 1) _ (by omega) (by omega) ho ?_ ?_ ?_ ?_ ?_ ?_ ?_ ?_ ?_) (congrArg (lx_mP_random_b57 v0 v1) (fI_step (h := h) (P := hR h (hR h (hR h (hR h v0 7) v1.toNat) 3) 3) (o := 0) (k := k) (N := 32) (E := fun j => (iAnd (hI h (hR h v0 1) j) 255)) (by omega) (by omega) rfl (fun j h1 h2 => ?_)))
      · exact hc0
      · exact hc1
      · exact hc2
      · exact hc3
      · exact hc4
      · exact fun j h1 h2 => hc5 j (by omega) h2
      · exact hc6
      · exact fun j h1 h2 => hc7 j (by omega) h2
      · exact hd0
      · simp only [hI_sI, hJ_sJ, hI_sJ, hJ_sI, hR_sI, hR_sJ, hd0, false_and, if_false]
def lx_mSeals_part_b248 (v0 : Nat) (h : Hp) : Option (Hp) := some h
theorem lq_mSeals_part_b248 {v0 : Nat} (n : Nat) : ∀ (k : Nat) (h : Hp), k ≤ 8 → 8 - k < n → 8 < 2147483648 → (¬ (hR h v0 6 = 0)) → (∀ j : Nat, k ≤ j → j < 8 → ix (j : Int) (ln h (hR h v0 6))) → (¬ (hR h v0 7 = 0)) → (∀ j : Nat, k ≤ j → j < 8 → ix (j : Int) (ln h (hR h v0 7))) → (∀ j : Nat, k ≤ j → j < 8 → ix (j : Int) (ln h (hR h v0 6))) → (¬ hR h v0 7 = hR h v0 6) → f_mSeals_part_b248_lp n v0 (k : Int) h = lx_mSeals_part_b248 v0 (fJ h (hR h v0 6) 0 k 8 (fun j => (lAnd (w64 ((hJ h (hR h v0 6) j) + (hJ h (hR h v0 7) j))) 4294967295))) := by
  induction n with
  | zero => intro k h _ hn; omega
  | succ n ih =>
    intro k h hk hn ho hc0 hc1 hc2 hc3 hc4 hd0
    show f_mSeals_part_b248 (f_mSeals_part_b248_lp n) v0 (k : Int) h = _
    unfold f_mSeals_part_b248
    by_cases hx0 : (8 : Int) ≤ (k : Int)
    · have hx : (8 : Int) ≤ (k : Int) := by exact hx0
      have hkN : k = 8 := by omega
      subst hkN
      rw [if_pos hx0, fJ_nil]
      rfl
    · have hx : ¬ (8 : Int) ≤ (k : Int) := by exact hx0
      rw [if_neg hx0]
      have e1 : w32 ((k : Int) + 1) = ((k + 1 : Nat) : Int) := by unfold w32; omega
      conv => lhs; simp only [lt1, b2, e1]
      rw [if_neg (hc0)]
      rw [if_pos (hc1 k (Nat.le_refl k) (by omega))]
      rw [if_neg (hc2)]
      rw [if_pos (hc3 k (Nat.le_refl k) (by omega))]
      rw [if_pos (hc4 k (Nat.le_refl k) (by omega))]
      refine Eq.trans (ih (k + 1) _ (by omega) (by omega) ho ?_ ?_ ?_ ?_ ?_ ?_) (congrArg (lx_mSeals_part_b248 v0) (fJ_step (h := h) (P := hR h v0 6) (o := 0) (k := k) (N := 8) (E := fun j => (lAnd (w64 ((hJ h (hR h v0 6) j) + (hJ h (hR h v0 7) j))) 4294967295)) (by omega) (by omega) rfl (fun j h1 h2 => ?_)))
      · exact hc0
      · exact fun j h1 h2 => hc1 j (by omega) h2
      · exact hc2
      · exact fun j h1 h2 => hc3 j (by omega) h2
      · exact fun j h1 h2 => hc4 j (by omega) h2
      · exact hd0
      · simp only [hI_sI, hJ_sJ, hI_sJ, hJ_sI, hR_sI, hR_sJ, hd0, false_and, if_false]; repeat rw [if_neg (by omega)]
def lx_mSeals_part_b203 (v0 : Nat) (h : Hp) : Option (Hp) := f_mSeals_part_b229_lp FU v0 0 h
theorem lq_mSeals_part_b203 {v0 : Nat} (n : Nat) : ∀ (k : Nat) (h : Hp), k ≤ 8 → 8 - k < n → 8 < 2147483648 → (¬ (hR h v0 6 = 0)) → (∀ j : Nat, k ≤ j → j < 8 → ix (j : Int) (ln h (hR h v0 6))) → (¬ (hR h v0 7 = 0)) → (∀ j : Nat, k ≤ j → j < 8 → ix (j : Int) (ln h (hR h v0 7))) → (¬ hR h v0 6 = hR h v0 7) → f_mSeals_part_b203_lp n v0 (k : Int) h = lx_mSeals_part_b203 v0 (fJ h (hR h v0 7) 0 k 8 (fun j => (hJ h (hR h v0 6) j))) := by
  induction n with
  | zero => intro k h _ hn; omega
  | succ n ih =>
    intro k h hk hn ho hc0 hc1 hc2 hc3 hd0
    show f_mSeals_part_b203 (f_mSeals_part_b203_lp n) v0 (k : Int) h = _
    unfold f_mSeals_part_b203
    by_cases hx0 : (8 : Int) ≤ (k : Int)
    · have hx : (8 : Int) ≤ (k : Int) := by exact hx0
      have hkN : k = 8 := by omega
      subst hkN
      rw [if_pos hx0, fJ_nil]
      rfl
    · have hx : ¬ (8 : Int) ≤ (k : Int) := by exact hx0
      rw [if_neg hx0]
      have e1 : w32 ((k : Int) + 1) = ((k + 1 : Nat) : Int) := by unfold w32; omega
      conv => lhs; simp only [lt1, b2, e1]
      rw [if_neg (hc0)]
      rw [if_pos (hc1 k (Nat.le_refl k) (by omega))]
      rw [if_neg (hc2)]
      rw [if_pos (hc3 k (Nat.le_refl k) (by omega))]
      refine Eq.trans (ih (k + 1) _ (by omega) (by omega) ho ?_ ?_ ?_ ?_ ?_) (congrArg (lx_mSeals_part_b203 v0) (fJ_step (h := h) (P := hR h v0 7) (o := 0) (k := k) (N := 8) (E := fun j => (hJ h (hR h v0 6) j)) (by omega) (by omega) rfl (fun j h1 h2 => ?_)))
      · exact hc0
      · exact fun j h1 h2 => hc1 j (by omega) h2
      · exact hc2
      · exact fun j h1 h2 => hc3 j (by omega) h2
      · exact hd0
      · simp only [hI_sI, hJ_sJ, hI_sJ, hJ_sI, hR_sI, hR_sJ, hd0, false_and, if_false]
def lx_mSeals_digestWork_b125 (v0 : Nat) (h : Hp) : Option (Hp) := some h
theorem lq_mSeals_digestWork_b125 {v0 : Nat} (n : Nat) : ∀ (k : Nat) (h : Hp), k ≤ 32 → 32 - k < n → 32 < 2147483648 → (¬ (hR h v0 6 = 0)) → (∀ j : Nat, k ≤ j → j < 32 → ix (iDiv (j : Int) 4) (ln h (hR h v0 6))) → (¬ (hR h v0 8 = 0)) → (∀ j : Nat, k ≤ j → j < 32 → ix (j : Int) (ln h (hR h v0 8))) → f_mSeals_digestWork_b125_lp n v0 (k : Int) h = lx_mSeals_digestWork_b125 v0 (fI h (hR h v0 8) 0 k 32 (fun j => (w32 (lAnd (lShr (hJ h (hR h v0 6) ((iDiv (j : Int) 4).toNat)) (w32 (24 - (w32 (8 * (iRem (j : Int) 4)))))) 255)))) := by
  induction n with
  | zero => intro k h _ hn; omega
  | succ n ih =>
    intro k h hk hn ho hc0 hc1 hc2 hc3
    show f_mSeals_digestWork_b125 (f_mSeals_digestWork_b125_lp n) v0 (k : Int) h = _
    unfold f_mSeals_digestWork_b125
    by_cases hx0 : (32 : Int) ≤ (k : Int)
    · have hx : (32 : Int) ≤ (k : Int) := by exact hx0
      have hkN : k = 32 := by omega
      subst hkN
      rw [if_pos hx0, fI_nil]
      rfl
    · have hx : ¬ (32 : Int) ≤ (k : Int) := by exact hx0
      rw [if_neg hx0]
      have e1 : w32 ((k : Int) + 1) = ((k + 1 : Nat) : Int) := by unfold w32; omega
      conv => lhs; simp only [lt1, b2, e1]
      rw [if_neg (hc0)]
      rw [if_pos (hc1 k (Nat.le_refl k) (by omega))]
      rw [if_neg (hc2)]
      rw [if_pos (hc3 k (Nat.le_refl k) (by omega))]
      refine Eq.trans (ih (k + 1) _ (by omega) (by omega) ho ?_ ?_ ?_ ?_) (congrArg (lx_mSeals_digestWork_b125 v0) (fI_step (h := h) (P := hR h v0 8) (o := 0) (k := k) (N := 32) (E := fun j => (w32 (lAnd (lShr (hJ h (hR h v0 6) ((iDiv (j : Int) 4).toNat)) (w32 (24 - (w32 (8 * (iRem (j : Int) 4)))))) 255))) (by omega) (by omega) rfl (fun j h1 h2 => ?_)))
      · exact hc0
      · exact fun j h1 h2 => hc1 j (by omega) h2
      · exact hc2
      · exact fun j h1 h2 => hc3 j (by omega) h2
      · rfl
def lx_mSeals_digestWork_b81 (v0 : Nat) (v2 : Int) (h : Hp) : Option (Hp) := f_mSeals_digestWork_b107_lp FU v0 v2 0 h
theorem lq_mSeals_digestWork_b81 {v0 : Nat} {v2 : Int} (n : Nat) : ∀ (k : Nat) (h : Hp), k ≤ 8 → 8 - k < n → 8 < 2147483648 → (¬ (hR h v0 0 = 0)) → (∀ j : Nat, k ≤ j → j < 8 → ix (j : Int) (ln h (hR h v0 0))) → (¬ (hR h v0 6 = 0)) → (∀ j : Nat, k ≤ j → j < 8 → ix (j : Int) (ln h (hR h v0 6))) → (¬ hR h v0 0 = hR h v0 6) → f_mSeals_digestWork_b81_lp n v0 v2 (k : Int) h = lx_mSeals_digestWork_b81 v0 v2 (fJ h (hR h v0 6) 0 k 8 (fun j => (hJ h (hR h v0 0) j))) := by
  induction n with
  | zero => intro k h _ hn; omega
  | succ n ih =>
    intro k h hk hn ho hc0 hc1 hc2 hc3 hd0
    show f_mSeals_digestWork_b81 (f_mSeals_digestWork_b81_lp n) v0 v2 (k : Int) h = _
    unfold f_mSeals_digestWork_b81
    by_cases hx0 : (8 : Int) ≤ (k : Int)
    · have hx : (8 : Int) ≤ (k : Int) := by exact hx0
      have hkN : k = 8 := by omega
      subst hkN
      rw [if_pos hx0, fJ_nil]
      rfl
    · have hx : ¬ (8 : Int) ≤ (k : Int) := by exact hx0
      rw [if_neg hx0]
      have e1 : w32 ((k : Int) + 1) = ((k + 1 : Nat) : Int) := by unfold w32; omega
      conv => lhs; simp only [lt1, b2, e1]
      rw [if_neg (hc0)]
      rw [if_pos (hc1 k (Nat.le_refl k) (by omega))]
      rw [if_neg (hc2)]
      rw [if_pos (hc3 k (Nat.le_refl k) (by omega))]
      refine Eq.trans (ih (k + 1) _ (by omega) (by omega) ho ?_ ?_ ?_ ?_ ?_) (congrArg (lx_mSeals_digestWork_b81 v0 v2) (fJ_step (h := h) (P := hR h v0 6) (o := 0) (k := k) (N := 8) (E := fun j => (hJ h (hR h v0 0) j)) (by omega) (by omega) rfl (fun j h1 h2 => ?_)))
      · exact hc0
      · exact fun j h1 h2 => hc1 j (by omega) h2
      · exact hc2
      · exact fun j h1 h2 => hc3 j (by omega) h2
      · exact hd0
      · simp only [hI_sI, hJ_sJ, hI_sJ, hJ_sI, hR_sI, hR_sJ, hd0, false_and, if_false]
def lx_mSeals_digestWork_b16 (v0 : Nat) (v1 : Int) (N : Nat) (h : Hp) : Option (Hp) := (if hR h v0 4 = 0 then none else (if ix v1 (ln h (hR h v0 4)) then (lt1 (sI h (hR h v0 4) v1.toNat 128) fun h4 => f_mSeals_digestWork_b45_lp FU v0 v1 (N : Int) 0 h4) else none))
theorem lq_mSeals_digestWork_b16 {v0 : Nat} {v1 : Int} {N : Nat} (n : Nat) : ∀ (k : Nat) (h : Hp), k ≤ N → N - k < n → N < 2147483648 → (¬ (hR h v0 4 = 0)) → (∀ j : Nat, k ≤ j → j < N → ix (j : Int) (ln h (hR h v0 4))) → f_mSeals_digestWork_b16_lp n v0 v1 (N : Int) (k : Int) h = lx_mSeals_digestWork_b16 v0 v1 N (fI h (hR h v0 4) 0 k N (fun j => 0)) := by
  induction n with
  | zero => intro k h _ hn; omega
  | succ n ih =>
    intro k h hk hn ho hc0 hc1
    show f_mSeals_digestWork_b16 (f_mSeals_digestWork_b16_lp n) v0 v1 (N : Int) (k : Int) h = _
    unfold f_mSeals_digestWork_b16
    by_cases hx0 : (N : Int) ≤ (k : Int)
    · have hx : (N : Int) ≤ (k : Int) := by exact hx0
      have hkN : k = N := by omega
      subst hkN
      rw [if_pos hx0, fI_nil]
      rfl
    · have hx : ¬ (N : Int) ≤ (k : Int) := by exact hx0
      rw [if_neg hx0]
      have e1 : w32 ((k : Int) + 1) = ((k + 1 : Nat) : Int) := by unfold w32; omega
      conv => lhs; simp only [lt1, b2, e1]
      rw [if_neg (hc0)]
      rw [if_pos (hc1 k (Nat.le_refl k) (by omega))]
      refine Eq.trans (ih (k + 1) _ (by omega) (by omega) ho ?_ ?_) (congrArg (lx_mSeals_digestWork_b16 v0 v1 N) (fI_step (h := h) (P := hR h v0 4) (o := 0) (k := k) (N := N) (E := fun j => 0) (by omega) (by omega) rfl (fun j h1 h2 => ?_)))
      · exact hc0
      · exact fun j h1 h2 => hc1 j (by omega) h2
      · rfl
def lx_mSeals_macText_b154 (v0 : Nat) (h : Hp) : Option (Hp) := (b1 (f_mSeals_digestWork v0 96 h) fun h20 => some h20)
theorem lq_mSeals_macText_b154 {v0 : Nat} (n : Nat) : ∀ (k : Nat) (h : Hp), k ≤ 32 → 32 - k < n → 64 + 32 < 2147483648 → (¬ (hR h v0 8 = 0)) → (∀ j : Nat, k ≤ j → j < 32 → ix (j : Int) (ln h (hR h v0 8))) → (¬ (hR h v0 4 = 0)) → (∀ j : Nat, k ≤ j → j < 32 → ix (w32 (64 + (j : Int))) (ln h (hR h v0 4))) → (¬ hR h v0 8 = hR h v0 4) → f_mSeals_macText_b154_lp n v0 (k : Int) h = lx_mSeals_macText_b154 v0 (fI h (hR h v0 4) 64 k 32 (fun j => (hI h (hR h v0 8) j))) := by
  induction n with
  | zero => intro k h _ hn; omega
  | succ n ih =>
    intro k h hk hn ho hc0 hc1 hc2 hc3 hd0
    show f_mSeals_macText_b154 (f_mSeals_macText_b154_lp n) v0 (k : Int) h = _
    unfold f_mSeals_macText_b154
    by_cases hx0 : (32 : Int) ≤ (k : Int)
    · have hx : (32 : Int) ≤ (k : Int) := by exact hx0
      have hkN : k = 32 := by omega
      subst hkN
      rw [if_pos hx0, fI_nil]
      rfl
    · have hx : ¬ (32 : Int) ≤ (k : Int) := by exact hx0
      rw [if_neg hx0]
      have e1 : w32 ((k : Int) + 1) = ((k + 1 : Nat) : Int) := by unfold w32; omega
      have e0 : (w32 (64 + (k : Int))).toNat = 64 + k := by unfold w32; omega
      conv => lhs; simp only [lt1, b2, e1, e0]
      rw [if_neg (hc0)]
      rw [if_pos (hc1 k (Nat.le_refl k) (by omega))]
      rw [if_neg (hc2)]
      rw [if_pos (hc3 k (Nat.le_refl k) (by omega))]
      refine Eq.trans (ih (k + 1) _ (by omega) (by omega) ho ?_ ?_ ?_ ?_ ?_) (congrArg (lx_mSeals_macText_b154 v0) (fI_step (h := h) (P := hR h v0 4) (o := 64) (k := k) (N := 32) (E := fun j => (hI h (hR h v0 8) j)) (by omega) (by omega) rfl (fun j h1 h2 => ?_)))
      · exact hc0
      · exact fun j h1 h2 => hc1 j (by omega) h2
      · exact hc2
      · exact fun j h1 h2 => hc3 j (by omega) h2
      · exact hd0
      · simp only [hI_sI, hJ_sJ, hI_sJ, hJ_sI, hR_sI, hR_sJ, hd0, false_and, if_false]
def lx_mSeals_macText_b121 (v0 : Nat) (h : Hp) : Option (Hp) := f_mSeals_macText_b154_lp FU v0 0 h
theorem lq_mSeals_macText_b121 {v0 : Nat} (n : Nat) : ∀ (k : Nat) (h : Hp), k ≤ 64 → 64 - k < n → 64 < 2147483648 → (¬ (hR h v0 9 = 0)) → (∀ j : Nat, k ≤ j → j < 64 → ix (j : Int) (ln h (hR h v0 9))) → (¬ (hR h v0 4 = 0)) → (∀ j : Nat, k ≤ j → j < 64 → ix (j : Int) (ln h (hR h v0 4))) → (¬ hR h v0 9 = hR h v0 4) → f_mSeals_macText_b121_lp n v0 (k : Int) h = lx_mSeals_macText_b121 v0 (fI h (hR h v0 4) 0 k 64 (fun j => (iXor (hI h (hR h v0 9) j) 92))) := by
  induction n with
  | zero => intro k h _ hn; omega
  | succ n ih =>
    intro k h hk hn ho hc0 hc1 hc2 hc3 hd0
    show f_mSeals_macText_b121 (f_mSeals_macText_b121_lp n) v0 (k : Int) h = _
    unfold f_mSeals_macText_b121
    by_cases hx0 : (64 : Int) ≤ (k : Int)
    · have hx : (64 : Int) ≤ (k : Int) := by exact hx0
      have hkN : k = 64 := by omega
      subst hkN
      rw [if_pos hx0, fI_nil]
      rfl
    · have hx : ¬ (64 : Int) ≤ (k : Int) := by exact hx0
      rw [if_neg hx0]
      have e1 : w32 ((k : Int) + 1) = ((k + 1 : Nat) : Int) := by unfold w32; omega
      conv => lhs; simp only [lt1, b2, e1]
      rw [if_neg (hc0)]
      rw [if_pos (hc1 k (Nat.le_refl k) (by omega))]
      rw [if_neg (hc2)]
      rw [if_pos (hc3 k (Nat.le_refl k) (by omega))]
      refine Eq.trans (ih (k + 1) _ (by omega) (by omega) ho ?_ ?_ ?_ ?_ ?_) (congrArg (lx_mSeals_macText_b121 v0) (fI_step (h := h) (P := hR h v0 4) (o := 0) (k := k) (N := 64) (E := fun j => (iXor (hI h (hR h v0 9) j) 92)) (by omega) (by omega) rfl (fun j h1 h2 => ?_)))
      · exact hc0
      · exact fun j h1 h2 => hc1 j (by omega) h2
      · exact hc2
      · exact fun j h1 h2 => hc3 j (by omega) h2
      · exact hd0
      · simp only [hI_sI, hJ_sJ, hI_sJ, hJ_sI, hR_sI, hR_sJ, hd0, false_and, if_false]
def lx_mSeals_macText_b75 (v0 : Nat) (N : Nat) (h : Hp) : Option (Hp) := (b1 (f_mSeals_digestWork v0 (w32 (64 + (hI h v0 11))) h) fun h8 => f_mSeals_macText_b121_lp FU v0 0 h8)
theorem lq_mSeals_macText_b75 {v0 : Nat} {N : Nat} (n : Nat) : ∀ (k : Nat) (h : Hp), k ≤ N → N - k < n → 64 + N < 2147483648 → (hI h v0 11 = (N : Int)) → (¬ v0 = hR h v0 4) → (¬ (hR h v0 10 = 0)) → (∀ j : Nat, k ≤ j → j < N → ix (j : Int) (ln h (hR h v0 10))) → (¬ (hR h v0 4 = 0)) → (∀ j : Nat, k ≤ j → j < N → ix (w32 (64 + (j : Int))) (ln h (hR h v0 4))) → (¬ hR h v0 10 = hR h v0 4) → f_mSeals_macText_b75_lp n v0 (k : Int) h = lx_mSeals_macText_b75 v0 N (fI h (hR h v0 4) 64 k N (fun j => (hI h (hR h v0 10) j))) := by
  induction n with
  | zero => intro k h _ hn; omega
  | succ n ih =>
    intro k h hk hn ho hNN hPN hc0 hc1 hc2 hc3 hd0
    show f_mSeals_macText_b75 (f_mSeals_macText_b75_lp n) v0 (k : Int) h = _
    unfold f_mSeals_macText_b75
    by_cases hx0 : hI h v0 11 ≤ (k : Int)
    · have hx : (N : Int) ≤ (k : Int) := by rw [← hNN]; exact hx0
      have hkN : k = N := by omega
      subst hkN
      rw [if_pos hx0, fI_nil]
      rfl
    · have hx : ¬ (N : Int) ≤ (k : Int) := by rw [← hNN]; exact hx0
      rw [if_neg hx0]
      have e1 : w32 ((k : Int) + 1) = ((k + 1 : Nat) : Int) := by unfold w32; omega
      have e0 : (w32 (64 + (k : Int))).toNat = 64 + k := by unfold w32; omega
      conv => lhs; simp only [lt1, b2, e1, e0]
      rw [if_neg (hc0)]
      rw [if_pos (hc1 k (Nat.le_refl k) (by omega))]
      rw [if_neg (hc2)]
      rw [if_pos (hc3 k (Nat.le_refl k) (by omega))]
      refine Eq.trans (ih (k + 1) _ (by omega) (by omega) ho (by rw [hI_sI, if_neg (fun z => hPN z.1)]; exact hNN) hPN ?_ ?_ ?_ ?_ ?_) (congrArg (lx_mSeals_macText_b75 v0 N) (fI_step (h := h) (P := hR h v0 4) (o := 64) (k := k) (N := N) (E := fun j => (hI h (hR h v0 10) j)) (by omega) (by omega) rfl (fun j h1 h2 => ?_)))
      · exact hc0
      · exact fun j h1 h2 => hc1 j (by omega) h2
      · exact hc2
      · exact fun j h1 h2 => hc3 j (by omega) h2
      · exact hd0
      · simp only [hI_sI, hJ_sJ, hI_sJ, hJ_sI, hR_sI, hR_sJ, hd0, false_and, if_false]
def lx_mSeals_macText_b42 (v0 : Nat) (h : Hp) : Option (Hp) := f_mSeals_macText_b75_lp FU v0 0 h
theorem lq_mSeals_macText_b42 {v0 : Nat} (n : Nat) : ∀ (k : Nat) (h : Hp), k ≤ 64 → 64 - k < n → 64 < 2147483648 → (¬ (hR h v0 9 = 0)) → (∀ j : Nat, k ≤ j → j < 64 → ix (j : Int) (ln h (hR h v0 9))) → (¬ (hR h v0 4 = 0)) → (∀ j : Nat, k ≤ j → j < 64 → ix (j : Int) (ln h (hR h v0 4))) → (¬ hR h v0 9 = hR h v0 4) → f_mSeals_macText_b42_lp n v0 (k : Int) h = lx_mSeals_macText_b42 v0 (fI h (hR h v0 4) 0 k 64 (fun j => (iXor (hI h (hR h v0 9) j) 54))) := by
  induction n with
  | zero => intro k h _ hn; omega
  | succ n ih =>
    intro k h hk hn ho hc0 hc1 hc2 hc3 hd0
    show f_mSeals_macText_b42 (f_mSeals_macText_b42_lp n) v0 (k : Int) h = _
    unfold f_mSeals_macText_b42
    by_cases hx0 : (64 : Int) ≤ (k : Int)
    · have hx : (64 : Int) ≤ (k : Int) := by exact hx0
      have hkN : k = 64 := by omega
      subst hkN
      rw [if_pos hx0, fI_nil]
      rfl
    · have hx : ¬ (64 : Int) ≤ (k : Int) := by exact hx0
      rw [if_neg hx0]
      have e1 : w32 ((k : Int) + 1) = ((k + 1 : Nat) : Int) := by unfold w32; omega
      conv => lhs; simp only [lt1, b2, e1]
      rw [if_neg (hc0)]
      rw [if_pos (hc1 k (Nat.le_refl k) (by omega))]
      rw [if_neg (hc2)]
      rw [if_pos (hc3 k (Nat.le_refl k) (by omega))]
      refine Eq.trans (ih (k + 1) _ (by omega) (by omega) ho ?_ ?_ ?_ ?_ ?_) (congrArg (lx_mSeals_macText_b42 v0) (fI_step (h := h) (P := hR h v0 4) (o := 0) (k := k) (N := 64) (E := fun j => (iXor (hI h (hR h v0 9) j) 54)) (by omega) (by omega) rfl (fun j h1 h2 => ?_)))
      · exact hc0
      · exact fun j h1 h2 => hc1 j (by omega) h2
      · exact hc2
      · exact fun j h1 h2 => hc3 j (by omega) h2
      · exact hd0
      · simp only [hI_sI, hJ_sJ, hI_sJ, hJ_sI, hR_sI, hR_sJ, hd0, false_and, if_false]
def lx_mSeals_macText_b3 (v0 : Nat) (v1 : Nat) (v2 : Int) (v3 : Int) (h : Hp) : Option (Hp) := f_mSeals_macText_b42_lp FU v0 0 h
theorem lq_mSeals_macText_b3 {v0 : Nat} {v1 : Nat} {v2 : Int} {v3 : Int} (n : Nat) : ∀ (k : Nat) (h : Hp), k ≤ 64 → 64 - k < n → 64 < 2147483648 → (∀ j : Nat, k ≤ j → j < 64 → (v3 ≤ (j : Int)) → ¬ ((hR h v0 9) = 0)) → (∀ j : Nat, k ≤ j → j < 64 → (v3 ≤ (j : Int)) → ix (j : Int) (ln h (hR h v0 9))) → (∀ j : Nat, k ≤ j → j < 64 → (¬ (v3 ≤ (j : Int))) → ¬ (v1 = 0)) → (∀ j : Nat, k ≤ j → j < 64 → (¬ (v3 ≤ (j : Int))) → ix (w32 (v2 + (j : Int))) (ln h v1)) → (∀ j : Nat, k ≤ j → j < 64 → (¬ (v3 ≤ (j : Int))) → ¬ ((hR h v0 9) = 0)) → (∀ j : Nat, k ≤ j → j < 64 → (¬ (v3 ≤ (j : Int))) → ix (j : Int) (ln h (hR h v0 9))) → (¬ v1 = hR h v0 9) → f_mSeals_macText_b3_lp n v0 v1 v2 v3 (k : Int) h = lx_mSeals_macText_b3 v0 v1 v2 v3 (fI h (hR h v0 9) 0 k 64 (fun j => if v3 ≤ (j : Int) then (0) else ((hI h v1 ((w32 (v2 + (j : Int))).toNat))))) := by
  induction n with
  | zero => intro k h _ hn; omega
  | succ n ih =>
    intro k h hk hn ho hc0 hc1 hc2 hc3 hc4 hc5 hd0
    show f_mSeals_macText_b3 (f_mSeals_macText_b3_lp n) v0 v1 v2 v3 (k : Int) h = _
    unfold f_mSeals_macText_b3
    by_cases hx0 : (64 : Int) ≤ (k : Int)
    · have hx : (64 : Int) ≤ (k : Int) := by exact hx0
      have hkN : k = 64 := by omega
      subst hkN
      rw [if_pos hx0, fI_nil]
      rfl
    · have hx : ¬ (64 : Int) ≤ (k : Int) := by exact hx0
      rw [if_neg hx0]
      have e1 : w32 ((k : Int) + 1) = ((k + 1 : Nat) : Int) := by unfold w32; omega
      conv => lhs; simp only [lt1, b2, f_mSeals_macText_b32, e1]
      by_cases q1 : v3 ≤ (k : Int)
      · rw [if_pos q1]
        rw [if_neg (hc0 k (Nat.le_refl k) (by omega) q1)]
        rw [if_pos (hc1 k (Nat.le_refl k) (by omega) q1)]
        refine Eq.trans (ih (k + 1) _ (by omega) (by omega) ho ?_ ?_ ?_ ?_ ?_ ?_ ?_) (congrArg (lx_mSeals_macText_b3 v0 v1 v2 v3) (fI_step (h := h) (P := hR h v0 9) (o := 0) (k := k) (N := 64) (E := fun j => if v3 ≤ (j : Int) then (0) else ((hI h v1 ((w32 (v2 + (j : Int))).toNat)))) (by omega) (by omega) (by simp only [if_pos q1, Int.toNat_natCast]) (fun j h1 h2 => ?_)))
        · exact fun j h1 h2 => hc0 j (by omega) h2
        · exact fun j h1 h2 => hc1 j (by omega) h2
        · exact fun j h1 h2 => hc2 j (by omega) h2
        · exact fun j h1 h2 => hc3 j (by omega) h2
        · exact fun j h1 h2 => hc4 j (by omega) h2
        · exact fun j h1 h2 => hc5 j (by omega) h2
        · exact hd0
        · simp only [hI_sI, hJ_sJ, hI_sJ, hJ_sI, hR_sI, hR_sJ, hd0, false_and, if_false]
      · rw [if_neg q1]
        rw [if_neg (hc2 k (Nat.le_refl k) (by omega) q1)]
        rw [if_pos (hc3 k (Nat.le_refl k) (by omega) q1)]
        rw [if_neg (hc4 k (Nat.le_refl k) (by omega) q1)]
        rw [if_pos (hc5 k (Nat.le_refl k) (by omega) q1)]
        refine Eq.trans (ih (k + 1) _ (by omega) (by omega) ho ?_ ?_ ?_ ?_ ?_ ?_ ?_) (congrArg (lx_mSeals_macText_b3 v0 v1 v2 v3) (fI_step (h := h) (P := hR h v0 9) (o := 0) (k := k) (N := 64) (E := fun j => if v3 ≤ (j : Int) then (0) else ((hI h v1 ((w32 (v2 + (j : Int))).toNat)))) (by omega) (by omega) (by simp only [if_neg q1, Int.toNat_natCast]) (fun j h1 h2 => ?_)))
        · exact fun j h1 h2 => hc0 j (by omega) h2
        · exact fun j h1 h2 => hc1 j (by omega) h2
        · exact fun j h1 h2 => hc2 j (by omega) h2
        · exact fun j h1 h2 => hc3 j (by omega) h2
        · exact fun j h1 h2 => hc4 j (by omega) h2
        · exact fun j h1 h2 => hc5 j (by omega) h2
        · exact hd0
        · simp only [hI_sI, hJ_sJ, hI_sJ, hJ_sI, hR_sI, hR_sJ, hd0, false_and, if_false]
def lx_mSeals_mac_b47 (v0 : Nat) (v7 : Nat) (h : Hp) : Option (Hp) := some h
theorem lq_mSeals_mac_b47 {v0 : Nat} {v7 : Nat} (n : Nat) : ∀ (k : Nat) (h : Hp), k ≤ 32 → 32 - k < n → 32 < 2147483648 → (¬ (hR h v0 8 = 0)) → (∀ j : Nat, k ≤ j → j < 32 → ix (j : Int) (ln h (hR h v0 8))) → (¬ (v7 = 0)) → (∀ j : Nat, k ≤ j → j < 32 → ix (j : Int) (ln h v7)) → (¬ hR h v0 8 = v7) → f_mSeals_mac_b47_lp n v0 v7 (k : Int) h = lx_mSeals_mac_b47 v0 v7 (fI h (v7) 0 k 32 (fun j => (hI h (hR h v0 8) j))) := by
  induction n with
  | zero => intro k h _ hn; omega
  | succ n ih =>
    intro k h hk hn ho hc0 hc1 hc2 hc3 hd0
    show f_mSeals_mac_b47 (f_mSeals_mac_b47_lp n) v0 v7 (k : Int) h = _
    unfold f_mSeals_mac_b47
    by_cases hx0 : (32 : Int) ≤ (k : Int)
    · have hx : (32 : Int) ≤ (k : Int) := by exact hx0
      have hkN : k = 32 := by omega
      subst hkN
      rw [if_pos hx0, fI_nil]
      rfl
    · have hx : ¬ (32 : Int) ≤ (k : Int) := by exact hx0
      rw [if_neg hx0]
      have e1 : w32 ((k : Int) + 1) = ((k + 1 : Nat) : Int) := by unfold w32; omega
      conv => lhs; simp only [lt1, b2, e1]
      rw [if_neg (hc0)]
      rw [if_pos (hc1 k (Nat.le_refl k) (by omega))]
      rw [if_neg (hc2)]
      rw [if_pos (hc3 k (Nat.le_refl k) (by omega))]
      refine Eq.trans (ih (k + 1) _ (by omega) (by omega) ho ?_ ?_ ?_ ?_ ?_) (congrArg (lx_mSeals_mac_b47 v0 v7) (fI_step (h := h) (P := v7) (o := 0) (k := k) (N := 32) (E := fun j => (hI h (hR h v0 8) j)) (by omega) (by omega) rfl (fun j h1 h2 => ?_)))
      · exact hc0
      · exact fun j h1 h2 => hc1 j (by omega) h2
      · exact hc2
      · exact fun j h1 h2 => hc3 j (by omega) h2
      · exact hd0
      · simp only [hI_sI, hJ_sJ, hI_sJ, hJ_sI, hR_sI, hR_sJ, hd0, false_and, if_false]
def lx_mSeals_mac_b3 (v0 : Nat) (v1 : Nat) (v2 : Int) (v3 : Int) (v4 : Nat) (v5 : Int) (v7 : Nat) (N : Nat) (h : Hp) : Option (Hp) := (lt1 (sI h v0 11 (N : Int)) fun h1 => (b1 (f_mSeals_macText v0 v1 v2 v3 h1) fun h2 => f_mSeals_mac_b47_lp FU v0 v7 0 h2))
theorem lq_mSeals_mac_b3 {v0 : Nat} {v1 : Nat} {v2 : Int} {v3 : Int} {v4 : Nat} {v5 : Int} {v7 : Nat} {N : Nat} (n : Nat) : ∀ (k : Nat) (h : Hp), k ≤ N → N - k < n → N < 2147483648 → (¬ (v4 = 0)) → (∀ j : Nat, k ≤ j → j < N → ix (w32 (v5 + (j : Int))) (ln h v4)) → (¬ (hR h v0 10 = 0)) → (∀ j : Nat, k ≤ j → j < N → ix (j : Int) (ln h (hR h v0 10))) → (¬ v4 = hR h v0 10) → f_mSeals_mac_b3_lp n v0 v1 v2 v3 v4 v5 (N : Int) v7 (k : Int) h = lx_mSeals_mac_b3 v0 v1 v2 v3 v4 v5 v7 N (fI h (hR h v0 10) 0 k N (fun j => (hI h v4 ((w32 (v5 + (j : Int))).toNat)))) := by
  induction n with
  | zero => intro k h _ hn; omega
  | succ n ih =>
    intro k h hk hn ho hc0 hc1 hc2 hc3 hd0
    show f_mSeals_mac_b3 (f_mSeals_mac_b3_lp n) v0 v1 v2 v3 v4 v5 (N : Int) v7 (k : Int) h = _
    unfold f_mSeals_mac_b3
    by_cases hx0 : (N : Int) ≤ (k : Int)
    · have hx : (N : Int) ≤ (k : Int) := by exact hx0
      have hkN : k = N := by omega
      subst hkN
      rw [if_pos hx0, fI_nil]
      rfl
    · have hx : ¬ (N : Int) ≤ (k : Int) := by exact hx0
      rw [if_neg hx0]
      have e1 : w32 ((k : Int) + 1) = ((k + 1 : Nat) : Int) := by unfold w32; omega
      conv => lhs; simp only [lt1, b2, e1]
      rw [if_neg (hc0)]
      rw [if_pos (hc1 k (Nat.le_refl k) (by omega))]
      rw [if_neg (hc2)]
      rw [if_pos (hc3 k (Nat.le_refl k) (by omega))]
      refine Eq.trans (ih (k + 1) _ (by omega) (by omega) ho ?_ ?_ ?_ ?_ ?_) (congrArg (lx_mSeals_mac_b3 v0 v1 v2 v3 v4 v5 v7 N) (fI_step (h := h) (P := hR h v0 10) (o := 0) (k := k) (N := N) (E := fun j => (hI h v4 ((w32 (v5 + (j : Int))).toNat))) (by omega) (by omega) rfl (fun j h1 h2 => ?_)))
      · exact hc0
      · exact fun j h1 h2 => hc1 j (by omega) h2
      · exact hc2
      · exact fun j h1 h2 => hc3 j (by omega) h2
      · exact hd0
      · simp only [hI_sI, hJ_sJ, hI_sJ, hJ_sI, hR_sI, hR_sJ, hd0, false_and, if_false]
def lx_mSeals_label_b228 (v0 : Nat) (v7 : Nat) (N : Nat) (o : Nat) (h : Hp) : Option (Hp) := some h
theorem lq_mSeals_label_b228 {v0 : Nat} {v7 : Nat} {N : Nat} {o : Nat} (n : Nat) : ∀ (k : Nat) (h : Hp), k ≤ N → N - k < n → o + N < 2147483648 → (¬ (hR h v0 14 = 0)) → (∀ j : Nat, k ≤ j → j < N → ix (j : Int) (ln h (hR h v0 14))) → (¬ (v7 = 0)) → (∀ j : Nat, k ≤ j → j < N → ix (w32 ((o : Int) + (j : Int))) (ln h v7)) → (¬ hR h v0 14 = v7) → f_mSeals_label_b228_lp n v0 (N : Int) v7 (o : Int) (k : Int) h = lx_mSeals_label_b228 v0 v7 N o (fI h (v7) o k N (fun j => (hI h (hR h v0 14) j))) := by
  induction n with
  | zero => intro k h _ hn; omega
  | succ n ih =>
    intro k h hk hn ho hc0 hc1 hc2 hc3 hd0
    show f_mSeals_label_b228 (f_mSeals_label_b228_lp n) v0 (N : Int) v7 (o : Int) (k : Int) h = _
    unfold f_mSeals_label_b228
    by_cases hx0 : (N : Int) ≤ (k : Int)
    · have hx : (N : Int) ≤ (k : Int) := by exact hx0
      have hkN : k = N := by omega
      subst hkN
      rw [if_pos hx0, fI_nil]
      rfl
    · have hx : ¬ (N : Int) ≤ (k : Int) := by exact hx0
      rw [if_neg hx0]
      have e1 : w32 ((k : Int) + 1) = ((k + 1 : Nat) : Int) := by unfold w32; omega
      have e0 : (w32 ((o : Int) + (k : Int))).toNat = o + k := by unfold w32; omega
      conv => lhs; simp only [lt1, b2, e1, e0]
      rw [if_neg (hc0)]
      rw [if_pos (hc1 k (Nat.le_refl k) (by omega))]
      rw [if_neg (hc2)]
      rw [if_pos (hc3 k (Nat.le_refl k) (by omega))]
      refine Eq.trans (ih (k + 1) _ (by omega) (by omega) ho ?_ ?_ ?_ ?_ ?_) (congrArg (lx_mSeals_label_b228 v0 v7 N o) (fI_step (h := h) (P := v7) (o := o) (k := k) (N := N) (E := fun j => (hI h (hR h v0 14) j)) (by omega) (by omega) rfl (fun j h1 h2 => ?_)))
      · exact hc0
      · exact fun j h1 h2 => hc1 j (by omega) h2
      · exact hc2
      · exact fun j h1 h2 => hc3 j (by omega) h2
      · exact hd0
      · simp only [hI_sI, hJ_sJ, hI_sJ, hJ_sI, hR_sI, hR_sJ, hd0, false_and, if_false]
def lx_mSeals_label_b198 (v0 : Nat) (v7 : Nat) (v8 : Int) (N : Nat) (h : Hp) : Option (Hp) := f_mSeals_label_b228_lp FU v0 (N : Int) v7 v8 0 h
theorem lq_mSeals_label_b198 {v0 : Nat} {v7 : Nat} {v8 : Int} {N : Nat} (n : Nat) : ∀ (k : Nat) (h : Hp), k ≤ N → N - k < n → N < 2147483648 → (¬ (hR h v0 8 = 0)) → (∀ j : Nat, k ≤ j → j < N → ix (j : Int) (ln h (hR h v0 8))) → (¬ (hR h v0 14 = 0)) → (∀ j : Nat, k ≤ j → j < N → ix (j : Int) (ln h (hR h v0 14))) → (¬ hR h v0 8 = hR h v0 14) → f_mSeals_label_b198_lp n v0 (N : Int) v7 v8 (k : Int) h = lx_mSeals_label_b198 v0 v7 v8 N (fI h (hR h v0 14) 0 k N (fun j => (hI h (hR h v0 8) j))) := by
  induction n with
  | zero => intro k h _ hn; omega
  | succ n ih =>
    intro k h hk hn ho hc0 hc1 hc2 hc3 hd0
    show f_mSeals_label_b198 (f_mSeals_label_b198_lp n) v0 (N : Int) v7 v8 (k : Int) h = _
    unfold f_mSeals_label_b198
    by_cases hx0 : (N : Int) ≤ (k : Int)
    · have hx : (N : Int) ≤ (k : Int) := by exact hx0
      have hkN : k = N := by omega
      subst hkN
      rw [if_pos hx0, fI_nil]
      rfl
    · have hx : ¬ (N : Int) ≤ (k : Int) := by exact hx0
      rw [if_neg hx0]
      have e1 : w32 ((k : Int) + 1) = ((k + 1 : Nat) : Int) := by unfold w32; omega
      conv => lhs; simp only [lt1, b2, e1]
      rw [if_neg (hc0)]
      rw [if_pos (hc1 k (Nat.le_refl k) (by omega))]
      rw [if_neg (hc2)]
      rw [if_pos (hc3 k (Nat.le_refl k) (by omega))]
      refine Eq.trans (ih (k + 1) _ (by omega) (by omega) ho ?_ ?_ ?_ ?_ ?_) (congrArg (lx_mSeals_label_b198 v0 v7 v8 N) (fI_step (h := h) (P := hR h v0 14) (o := 0) (k := k) (N := N) (E := fun j => (hI h (hR h v0 8) j)) (by omega) (by omega) rfl (fun j h1 h2 => ?_)))
      · exact hc0
      · exact fun j h1 h2 => hc1 j (by omega) h2
      · exact hc2
      · exact fun j h1 h2 => hc3 j (by omega) h2
      · exact hd0
      · simp only [hI_sI, hJ_sJ, hI_sJ, hJ_sI, hR_sI, hR_sJ, hd0, false_and, if_false]
def lx_mSeals_label_b150 (v0 : Nat) (v1 : Nat) (v2 : Int) (v6 : Int) (v7 : Nat) (v8 : Int) (N : Nat) (h : Hp) : Option (Hp) := (lt1 (sI h v0 11 (hI h v0 13)) fun h28 => (b1 (f_mSeals_macText v0 v1 v2 32 h28) fun h29 => f_mSeals_label_b198_lp FU v0 v6 v7 v8 0 h29))
theorem lq_mSeals_label_b150 {v0 : Nat} {v1 : Nat} {v2 : Int} {v6 : Int} {v7 : Nat} {v8 : Int} {N : Nat} (n : Nat) : ∀ (k : Nat) (h : Hp), k ≤ N → N - k < n → N < 2147483648 → (hI h v0 13 = (N : Int)) → (¬ v0 = hR h v0 10) → (¬ (hR h v0 12 = 0)) → (∀ j : Nat, k ≤ j → j < N → ix (j : Int) (ln h (hR h v0 12))) → (¬ (hR h v0 10 = 0)) → (∀ j : Nat, k ≤ j → j < N → ix (j : Int) (ln h (hR h v0 10))) → (¬ hR h v0 12 = hR h v0 10) → f_mSeals_label_b150_lp n v0 v1 v2 v6 v7 v8 (k : Int) h = lx_mSeals_label_b150 v0 v1 v2 v6 v7 v8 N (fI h (hR h v0 10) 0 k N (fun j => (hI h (hR h v0 12) j))) := by
  induction n with
  | zero => intro k h _ hn; omega
  | succ n ih =>
    intro k h hk hn ho hNN hPN hc0 hc1 hc2 hc3 hd0
    show f_mSeals_label_b150 (f_mSeals_label_b150_lp n) v0 v1 v2 v6 v7 v8 (k : Int) h = _
    unfold f_mSeals_label_b150
    by_cases hx0 : hI h v0 13 ≤ (k : Int)
    · have hx : (N : Int) ≤ (k : Int) := by rw [← hNN]; exact hx0
      have hkN : k = N := by omega
      subst hkN
      rw [if_pos hx0, fI_nil]
      rfl
    · have hx : ¬ (N : Int) ≤ (k : Int) := by rw [← hNN]; exact hx0
      rw [if_neg hx0]
      have e1 : w32 ((k : Int) + 1) = ((k + 1 : Nat) : Int) := by unfold w32; omega
      conv => lhs; simp only [lt1, b2, e1]
      rw [if_neg (hc0)]
      rw [if_pos (hc1 k (Nat.le_refl k) (by omega))]
      rw [if_neg (hc2)]
      rw [if_pos (hc3 k (Nat.le_refl k) (by omega))]
      refine Eq.trans (ih (k + 1) _ (by omega) (by omega) ho (by rw [hI_sI, if_neg (fun z => hPN z.1)]; exact hNN) hPN ?_ ?_ ?_ ?_ ?_) (congrArg (lx_mSeals_label_b150 v0 v1 v2 v6 v7 v8 N) (fI_step (h := h) (P := hR h v0 10) (o := 0) (k := k) (N := N) (E := fun j => (hI h (hR h v0 12) j)) (by omega) (by omega) rfl (fun j h1 h2 => ?_)))
      · exact hc0
      · exact fun j h1 h2 => hc1 j (by omega) h2
      · exact hc2
      · exact fun j h1 h2 => hc3 j (by omega) h2
      · exact hd0
      · simp only [hI_sI, hJ_sJ, hI_sJ, hJ_sI, hR_sI, hR_sJ, hd0, false_and, if_false]
def lx_mSide_begin_b157 (v0 : Nat) (h : Hp) : Option (Hp) := some h
theorem lq_mSide_begin_b157 {v0 : Nat} (n : Nat) : ∀ (k : Nat) (h : Hp), k ≤ 8 → 8 - k < n → 8 < 2147483648 → (¬ (hR h v0 16 = 0)) → (∀ j : Nat, k ≤ j → j < 8 → ix (j : Int) (ln h (hR h v0 16))) → (¬ (hR h v0 13 = 0)) → (∀ j : Nat, k ≤ j → j < 8 → ix (j : Int) (ln h (hR h v0 13))) → (¬ hR h v0 16 = hR h v0 13) → f_mSide_begin_b157_lp n v0 (k : Int) h = lx_mSide_begin_b157 v0 (fI h (hR h v0 13) 0 k 8 (fun j => (hI h (hR h v0 16) j))) := by
  induction n with
  | zero => intro k h _ hn; omega
  | succ n ih =>
    intro k h hk hn ho hc0 hc1 hc2 hc3 hd0
    show f_mSide_begin_b157 (f_mSide_begin_b157_lp n) v0 (k : Int) h = _
    unfold f_mSide_begin_b157
    by_cases hx0 : (8 : Int) ≤ (k : Int)
    · have hx : (8 : Int) ≤ (k : Int) := by exact hx0
      have hkN : k = 8 := by omega
      subst hkN
      rw [if_pos hx0, fI_nil]
      rfl
    · have hx : ¬ (8 : Int) ≤ (k : Int) := by exact hx0
      rw [if_neg hx0]
      have e1 : w32 ((k : Int) + 1) = ((k + 1 : Nat) : Int) := by unfold w32; omega
      conv => lhs; simp only [lt1, b2, e1]
      rw [if_neg (hc0)]
      rw [if_pos (hc1 k (Nat.le_refl k) (by omega))]
      rw [if_neg (hc2)]
      rw [if_pos (hc3 k (Nat.le_refl k) (by omega))]
      refine Eq.trans (ih (k + 1) _ (by omega) (by omega) ho ?_ ?_ ?_ ?_ ?_) (congrArg (lx_mSide_begin_b157 v0) (fI_step (h := h) (P := hR h v0 13) (o := 0) (k := k) (N := 8) (E := fun j => (hI h (hR h v0 16) j)) (by omega) (by omega) rfl (fun j h1 h2 => ?_)))
      · exact hc0
      · exact fun j h1 h2 => hc1 j (by omega) h2
      · exact hc2
      · exact fun j h1 h2 => hc3 j (by omega) h2
      · exact hd0
      · simp only [hI_sI, hJ_sJ, hI_sJ, hJ_sI, hR_sI, hR_sJ, hd0, false_and, if_false]
def lx_mSide_begin_b50 (v0 : Nat) (h : Hp) : Option (Hp) := (if hR h v0 3 = 0 then none else (if 0 ≤ (hI h (hR h v0 3) 18) then f_mSide_begin_b95 v0 h else (lt1 (sI h (hR h v0 3) 18 0) fun h11 => f_mSide_begin_b95 v0 h11)))
theorem lq_mSide_begin_b50 {v0 : Nat} (n : Nat) : ∀ (k : Nat) (h : Hp), k ≤ 64 → 64 - k < n → 64 < 2147483648 → (¬ (hR h v0 3 = 0)) → (¬ (hR h v0 20 = 0)) → (∀ j : Nat, k ≤ j → j < 64 → ix (j : Int) (ln h (hR h v0 20))) → (¬ (hR h (hR h v0 3) 17 = 0)) → (∀ j : Nat, k ≤ j → j < 64 → ix (j : Int) (ln h (hR h (hR h v0 3) 17))) → (¬ hR h v0 20 = hR h (hR h v0 3) 17) → f_mSide_begin_b50_lp n v0 (k : Int) h = lx_mSide_begin_b50 v0 (fI h (hR h (hR h v0 3) 17) 0 k 64 (fun j => (hI h (hR h v0 20) j))) := by
  induction n with
  | zero => intro k h _ hn; omega
  | succ n ih =>
    intro k h hk hn ho hc0 hc1 hc2 hc3 hc4 hd0
    show f_mSide_begin_b50 (f_mSide_begin_b50_lp n) v0 (k : Int) h = _
    unfold f_mSide_begin_b50
    by_cases hx0 : (64 : Int) ≤ (k : Int)
    · have hx : (64 : Int) ≤ (k : Int) := by exact hx0
      have hkN : k = 64 := by omega
      subst hkN
      rw [if_pos hx0, fI_nil]
      rfl
    · have hx : ¬ (64 : Int) ≤ (k : Int) := by exact hx0
      rw [if_neg hx0]
      have e1 : w32 ((k : Int) + 1) = ((k + 1 : Nat) : Int) := by unfold w32; omega
      conv => lhs; simp only [lt1, b2, e1]
      rw [if_neg (hc0)]
      rw [if_neg (hc1)]
      rw [if_pos (hc2 k (Nat.le_refl k) (by omega))]
      rw [if_neg (hc3)]
      rw [if_pos (hc4 k (Nat.le_refl k) (by omega))]
      refine Eq.trans (ih (k + 1) _ (by omega) (by omega) ho ?_ ?_ ?_ ?_ ?_ ?_) (congrArg (lx_mSide_begin_b50 v0) (fI_step (h := h) (P := hR h (hR h v0 3) 17) (o := 0) (k := k) (N := 64) (E := fun j => (hI h (hR h v0 20) j)) (by omega) (by omega) rfl (fun j h1 h2 => ?_)))
      · exact hc0
      · exact hc1
      · exact fun j h1 h2 => hc2 j (by omega) h2
      · exact hc3
      · exact fun j h1 h2 => hc4 j (by omega) h2
      · exact hd0
      · simp only [hI_sI, hJ_sJ, hI_sJ, hJ_sI, hR_sI, hR_sJ, hd0, false_and, if_false]
def lx_mSide_begin_b2 (v0 : Nat) (v1 : Nat) (v2 : Int) (h : Hp) : Option (Hp) := (lt1 (sI h v0 17 1) fun h1 => (if hR h1 v0 3 = 0 then none else (b1 (f_mGreet_firstSecrets (hR h1 v0 3) (hR h1 v0 16) 0 8 (hR h1 v0 20) h1) fun h3 => f_mSide_begin_b50_lp FU v0 0 h3)))
theorem lq_mSide_begin_b2 {v0 : Nat} {v1 : Nat} {v2 : Int} (n : Nat) : ∀ (k : Nat) (h : Hp), k ≤ 8 → 8 - k < n → 8 < 2147483648 → (¬ (v1 = 0)) → (∀ j : Nat, k ≤ j → j < 8 → ix (w32 (v2 + (j : Int))) (ln h v1)) → (¬ (hR h v0 16 = 0)) → (∀ j : Nat, k ≤ j → j < 8 → ix (j : Int) (ln h (hR h v0 16))) → (¬ v1 = hR h v0 16) → f_mSide_begin_b2_lp n v0 v1 v2 (k : Int) h = lx_mSide_begin_b2 v0 v1 v2 (fI h (hR h v0 16) 0 k 8 (fun j => (hI h v1 ((w32 (v2 + (j : Int))).toNat)))) := by
  induction n with
  | zero => intro k h _ hn; omega
  | succ n ih =>
    intro k h hk hn ho hc0 hc1 hc2 hc3 hd0
    show f_mSide_begin_b2 (f_mSide_begin_b2_lp n) v0 v1 v2 (k : Int) h = _
    unfold f_mSide_begin_b2
    by_cases hx0 : (8 : Int) ≤ (k : Int)
    · have hx : (8 : Int) ≤ (k : Int) := by exact hx0
      have hkN : k = 8 := by omega
      subst hkN
      rw [if_pos hx0, fI_nil]
      rfl
    · have hx : ¬ (8 : Int) ≤ (k : Int) := by exact hx0
      rw [if_neg hx0]
      have e1 : w32 ((k : Int) + 1) = ((k + 1 : Nat) : Int) := by unfold w32; omega
      conv => lhs; simp only [lt1, b2, e1]
      rw [if_neg (hc0)]
      rw [if_pos (hc1 k (Nat.le_refl k) (by omega))]
      rw [if_neg (hc2)]
      rw [if_pos (hc3 k (Nat.le_refl k) (by omega))]
      refine Eq.trans (ih (k + 1) _ (by omega) (by omega) ho ?_ ?_ ?_ ?_ ?_) (congrArg (lx_mSide_begin_b2 v0 v1 v2) (fI_step (h := h) (P := hR h v0 16) (o := 0) (k := k) (N := 8) (E := fun j => (hI h v1 ((w32 (v2 + (j : Int))).toNat))) (by omega) (by omega) rfl (fun j h1 h2 => ?_)))
      · exact hc0
      · exact fun j h1 h2 => hc1 j (by omega) h2
      · exact hc2
      · exact fun j h1 h2 => hc3 j (by omega) h2
      · exact hd0
      · simp only [hI_sI, hJ_sJ, hI_sJ, hJ_sI, hR_sI, hR_sJ, hd0, false_and, if_false]
def lx_mP_raw_b74 (v0 : Nat) (v2 : Nat) (N : Nat) (h : Hp) : Option (Hp) := (if v2 = 0 then none else (lt1 (sI h v2 43 (hI h v0 2)) fun h19 => (lt1 (sI h19 v0 2 0) fun h20 => some h20)))
theorem lq_mP_raw_b74 {v0 : Nat} {v2 : Nat} {N : Nat} (n : Nat) : ∀ (k : Nat) (h : Hp), k ≤ N → N - k < n → N < 2147483648 → (hI h v0 2 = (N : Int)) → (¬ v0 = hR h v2 42) → (¬ (v2 = 0)) → (¬ (hR h v0 1 = 0)) → (∀ j : Nat, k ≤ j → j < N → ix (j : Int) (ln h (hR h v0 1))) → (¬ (hR h v2 42 = 0)) → (∀ j : Nat, k ≤ j → j < N → ix (j : Int) (ln h (hR h v2 42))) → (¬ hR h v0 1 = hR h v2 42) → f_mP_raw_b74_lp n v0 v2 (k : Int) h = lx_mP_raw_b74 v0 v2 N (fI h (hR h v2 42) 0 k N (fun j => (iAnd (hI h (hR h v0 1) j) 255))) := by
  induction n with
  | zero => intro k h _ hn; omega
  | succ n ih =>
    intro k h hk hn ho hNN hPN hc0 hc1 hc2 hc3 hc4 hd0
    show f_mP_raw_b74 (f_mP_raw_b74_lp n) v0 v2 (k : Int) h = _
    unfold f_mP_raw_b74
    by_cases hx0 : hI h v0 2 ≤ (k : Int)
    · have hx : (N : Int) ≤ (k : Int) := by rw [← hNN]; exact hx0
      have hkN : k = N := by omega
      subst hkN
      rw [if_pos hx0, fI_nil]
      rfl
    · have hx : ¬ (N : Int) ≤ (k : Int) := by rw [← hNN]; exact hx0
      rw [if_neg hx0]
      have e1 : w32 ((k : Int) + 1) = ((k + 1 : Nat) : Int) := by unfold w32; omega
      conv => lhs; simp only [lt1, b2, e1]
      rw [if_neg (hc0)]
      rw [if_neg (hc1)]
      rw [if_pos (hc2 k (Nat.le_refl k) (by omega))]
      rw [if_neg (hc3)]
      rw [if_pos (hc4 k (Nat.le_refl k) (by omega))]
      refine Eq.trans (ih (k + 1) _ (by omega) (by omega) ho (by rw [hI_sI, if_neg (fun z => hPN z.1)]; exact hNN) hPN ?_ ?_ ?_ ?_ ?_ ?_) (congrArg (lx_mP_raw_b74 v0 v2 N) (fI_step (h := h) (P := hR h v2 42) (o := 0) (k := k) (N := N) (E := fun j => (iAnd (hI h (hR h v0 1) j) 255)) (by omega) (by omega) rfl (fun j h1 h2 => ?_)))
      · exact hc0
      · exact hc1
      · exact fun j h1 h2 => hc2 j (by omega) h2
      · exact hc3
      · exact fun j h1 h2 => hc4 j (by omega) h2
      · exact hd0
      · simp only [hI_sI, hJ_sJ, hI_sJ, hJ_sI, hR_sI, hR_sJ, hd0, false_and, if_false]
def lx_mP_reads_b15 (v0 : Nat) (v1 : Int) (v2 : Int) (h : Hp) : Option (Int × Hp) := (if hR h v0 22 = 0 then none else (b2 (f_mWire_take (hR h v0 22) 1 h) fun r7 h5 => (lt1 (w32 r7) fun y8 => (if hR h5 v0 22 = 0 then none else (if (hI h5 (hR h5 v0 22) 3) ≠ 0 then some ((-1), h5) else (if (iAnd y8 64) ≠ 0 then (if hR h5 v0 19 = 0 then none else (if ix 3 (ln h5 (hR h5 v0 19)) then (lt1 (sI h5 (hR h5 v0 19) (Int.toNat 3) v1) fun h12 => (if 128 ≤ y8 then (if hR h12 v0 19 = 0 then none else (if ix 0 (ln h12 (hR h12 v0 19)) then (lt1 (sI h12 (hR h12 v0 19) (Int.toNat 0) (iAnd (iShr y8 4) 3)) fun h15 => (if hR h15 v0 22 = 0 then none else (b2 (f_mWire_take (hR h15 v0 22) 4 h15) fun r19 h17 => (if r19 ≠ 1 then some ((-1), h17) else (if hR h17 v0 22 = 0 then none else (if (hI h17 (hR h17 v0 22) 3) ≠ 0 then some ((-1), h17) else (b2 (f_mP_readsName v0 6 h17) fun r23 h21 => (if r23 = 0 then some ((-1), h21) else (b2 (f_mP_readsName v0 8 h21) fun r26 h24 => (if r26 ≠ 0 then (if hR h24 v0 19 = 0 then none else (if ix 0 (ln h24 (hR h24 v0 19)) then (if (hI h24 (hR h24 v0 19) (Int.toNat 0)) = 1 then some ((-1), h24) else (if ix 0 (ln h24 (hR h24 v0 19)) then (if (hI h24 (hR h24 v0 19) (Int.toNat 0)) ≠ 3 then (if ix 0 (ln h24 (hR h24 v0 19)) then (if (hI h24 (hR h24 v0 19) (Int.toNat 0)) ≠ 0 then f_mP_reads_b257 v0 v2 h24 else (if hR h24 v0 22 = 0 then none else (b2 (f_mWire_takeNumber (hR h24 v0 22) h24) fun r34 h32 => (b2 (f_mWire_pass (hR h24 v0 22) r34 h32) fun r37 h35 => f_mP_reads_b257 v0 v2 h35)))) else none) else some ((-1), h24)) else none)) else none)) else some ((-1), h24))))))))))) else none)) else (if hR h12 v0 19 = 0 then none else (if ix 0 (ln h12 (hR h12 v0 19)) then (lt1 (sI h12 (hR h12 v0 19) (Int.toNat 0) 4) fun h40 => (if hR h40 v0 22 = 0 then none else (b2 (f_mWire_pass (hR h40 v0 22) 8 h40) fun r44 h42 => (if hR h40 v0 19 = 0 then none else (if ix 6 (ln h42 (hR h40 v0 19)) then (lt1 (sI h42 (hR h40 v0 19) (Int.toNat 6) r44) fun h47 => (if hR h47 v0 19 = 0 then none else (if ix 7 (ln h47 (hR h47 v0 19)) then (lt1 (sI h47 (hR h47 v0 19) (Int.toNat 7) 8) fun h50 => (if hR h50 v0 22 = 0 then none else (if hR h50 v0 19 = 0 then none else (if ix 4 (ln h50 (hR h50 v0 19)) then (lt1 (sI h50 (hR h50 v0 19) (Int.toNat 4) (hI h50 (hR h50 v0 22) 1)) fun h54 => (if hR h54 v0 22 = 0 then none else (b2 (f_mWire_pass (hR h54 v0 22) 20 h54) fun r58 h56 => (if hR h56 v0 19 = 0 then none else (if ix 5 (ln h56 (hR h56 v0 19)) then (lt1 (sI h56 (hR h56 v0 19) (Int.toNat 5) v2) fun h61 => (if hR h61 v0 22 = 0 then none else (if (hI h61 (hR h61 v0 22) 3) = 0 then some (v2, h61) else some ((-1), h61)))) else none))))) else none)))) else none))) else none))))) else none)))) else none)) else some ((-1), h5)))))))
theorem lq_mP_reads_b15 {v0 : Nat} {v1 : Int} {v2 : Int} (n : Nat) : ∀ (k : Nat) (h : Hp), k ≤ 10 → 10 - k < n → 10 < 2147483648 → (¬ (hR h v0 19 = 0)) → (∀ j : Nat, k ≤ j → j < 10 → ix (j : Int) (ln h (hR h v0 19))) → f_mP_reads_b15_lp n v0 v1 v2 (k : Int) h = lx_mP_reads_b15 v0 v1 v2 (fI h (hR h v0 19) 0 k 10 (fun j => 0)) := by
  induction n with
  | zero => intro k h _ hn; omega
  | succ n ih =>
    intro k h hk hn ho hc0 hc1
    show f_mP_reads_b15 (f_mP_reads_b15_lp n) v0 v1 v2 (k : Int) h = _
    unfold f_mP_reads_b15
    by_cases hx0 : (10 : Int) ≤ (k : Int)
    · have hx : (10 : Int) ≤ (k : Int) := by exact hx0
      have hkN : k = 10 := by omega
      subst hkN
      rw [if_pos hx0, fI_nil]
      rfl
    · have hx : ¬ (10 : Int) ≤ (k : Int) := by exact hx0
      rw [if_neg hx0]
      have e1 : w32 ((k : Int) + 1) = ((k + 1 : Nat) : Int) := by unfold w32; omega
      conv => lhs; simp only [lt1, b2, e1]
      rw [if_neg (hc0)]
      rw [if_pos (hc1 k (Nat.le_refl k) (by omega))]
      refine Eq.trans (ih (k + 1) _ (by omega) (by omega) ho ?_ ?_) (congrArg (lx_mP_reads_b15 v0 v1 v2) (fI_step (h := h) (P := hR h v0 19) (o := 0) (k := k) (N := 10) (E := fun j => 0) (by omega) (by omega) rfl (fun j h1 h2 => ?_)))
      · exact hc0
      · exact fun j h1 h2 => hc1 j (by omega) h2
      · rfl
def lx_mSeals_blockOf_b213 (v0 : Nat) (h : Hp) : Option (Hp) := some h
theorem lq_mSeals_blockOf_b213 {v0 : Nat} (n : Nat) : ∀ (k : Nat) (h : Hp), k ≤ 64 → 64 - k < n → 64 < 2147483648 → (¬ (hR h v0 17 = 0)) → (∀ j : Nat, k ≤ j → j < 64 → ix (iDiv (j : Int) 4) (ln h (hR h v0 17))) → (¬ (hR h v0 18 = 0)) → (∀ j : Nat, k ≤ j → j < 64 → ix (iDiv (j : Int) 4) (ln h (hR h v0 18))) → (¬ (hR h v0 19 = 0)) → (∀ j : Nat, k ≤ j → j < 64 → ix (j : Int) (ln h (hR h v0 19))) → f_mSeals_blockOf_b213_lp n v0 (k : Int) h = lx_mSeals_blockOf_b213 v0 (fI h (hR h v0 19) 0 k 64 (fun j => (w32 (lAnd (lShr (lAnd (w64 ((hJ h (hR h v0 17) ((iDiv (j : Int) 4).toNat)) + (hJ h (hR h v0 18) ((iDiv (j : Int) 4).toNat)))) 4294967295) (w32 (8 * (iRem (j : Int) 4)))) 255)))) := by
  induction n with
  | zero => intro k h _ hn; omega
  | succ n ih =>
    intro k h hk hn ho hc0 hc1 hc2 hc3 hc4 hc5
    show f_mSeals_blockOf_b213 (f_mSeals_blockOf_b213_lp n) v0 (k : Int) h = _
    unfold f_mSeals_blockOf_b213
    by_cases hx0 : (64 : Int) ≤ (k : Int)
    · have hx : (64 : Int) ≤ (k : Int) := by exact hx0
      have hkN : k = 64 := by omega
      subst hkN
      rw [if_pos hx0, fI_nil]
      rfl
    · have hx : ¬ (64 : Int) ≤ (k : Int) := by exact hx0
      rw [if_neg hx0]
      have e1 : w32 ((k : Int) + 1) = ((k + 1 : Nat) : Int) := by unfold w32; omega
      conv => lhs; simp only [lt1, b2, e1]
      rw [if_neg (hc0)]
      rw [if_pos (hc1 k (Nat.le_refl k) (by omega))]
      rw [if_neg (hc2)]
      rw [if_pos (hc3 k (Nat.le_refl k) (by omega))]
      rw [if_neg (hc4)]
      rw [if_pos (hc5 k (Nat.le_refl k) (by omega))]
      refine Eq.trans (ih (k + 1) _ (by omega) (by omega) ho ?_ ?_ ?_ ?_ ?_ ?_) (congrArg (lx_mSeals_blockOf_b213 v0) (fI_step (h := h) (P := hR h v0 19) (o := 0) (k := k) (N := 64) (E := fun j => (w32 (lAnd (lShr (lAnd (w64 ((hJ h (hR h v0 17) ((iDiv (j : Int) 4).toNat)) + (hJ h (hR h v0 18) ((iDiv (j : Int) 4).toNat)))) 4294967295) (w32 (8 * (iRem (j : Int) 4)))) 255))) (by omega) (by omega) rfl (fun j h1 h2 => ?_)))
      · exact hc0
      · exact fun j h1 h2 => hc1 j (by omega) h2
      · exact hc2
      · exact fun j h1 h2 => hc3 j (by omega) h2
      · exact hc4
      · exact fun j h1 h2 => hc5 j (by omega) h2
      · rfl
def lx_mSeals_blockOf_b114 (v0 : Nat) (h : Hp) : Option (Hp) := f_mSeals_blockOf_b140_lp FU v0 0 h
theorem lq_mSeals_blockOf_b114 {v0 : Nat} (n : Nat) : ∀ (k : Nat) (h : Hp), k ≤ 16 → 16 - k < n → 16 < 2147483648 → (¬ (hR h v0 18 = 0)) → (∀ j : Nat, k ≤ j → j < 16 → ix (j : Int) (ln h (hR h v0 18))) → (¬ (hR h v0 17 = 0)) → (∀ j : Nat, k ≤ j → j < 16 → ix (j : Int) (ln h (hR h v0 17))) → (¬ hR h v0 18 = hR h v0 17) → f_mSeals_blockOf_b114_lp n v0 (k : Int) h = lx_mSeals_blockOf_b114 v0 (fJ h (hR h v0 17) 0 k 16 (fun j => (hJ h (hR h v0 18) j))) := by
  induction n with
  | zero => intro k h _ hn; omega
  | succ n ih =>
    intro k h hk hn ho hc0 hc1 hc2 hc3 hd0
    show f_mSeals_blockOf_b114 (f_mSeals_blockOf_b114_lp n) v0 (k : Int) h = _
    unfold f_mSeals_blockOf_b114
    by_cases hx0 : (16 : Int) ≤ (k : Int)
    · have hx : (16 : Int) ≤ (k : Int) := by exact hx0
      have hkN : k = 16 := by omega
      subst hkN
      rw [if_pos hx0, fJ_nil]
      rfl
    · have hx : ¬ (16 : Int) ≤ (k : Int) := by exact hx0
      rw [if_neg hx0]
      have e1 : w32 ((k : Int) + 1) = ((k + 1 : Nat) : Int) := by unfold w32; omega
      conv => lhs; simp only [lt1, b2, e1]
      rw [if_neg (hc0)]
      rw [if_pos (hc1 k (Nat.le_refl k) (by omega))]
      rw [if_neg (hc2)]
      rw [if_pos (hc3 k (Nat.le_refl k) (by omega))]
      refine Eq.trans (ih (k + 1) _ (by omega) (by omega) ho ?_ ?_ ?_ ?_ ?_) (congrArg (lx_mSeals_blockOf_b114 v0) (fJ_step (h := h) (P := hR h v0 17) (o := 0) (k := k) (N := 16) (E := fun j => (hJ h (hR h v0 18) j)) (by omega) (by omega) rfl (fun j h1 h2 => ?_)))
      · exact hc0
      · exact fun j h1 h2 => hc1 j (by omega) h2
      · exact hc2
      · exact fun j h1 h2 => hc3 j (by omega) h2
      · exact hd0
      · simp only [hI_sI, hJ_sJ, hI_sJ, hJ_sI, hR_sI, hR_sJ, hd0, false_and, if_false]
def lx_mSeals_shield_b35 (v0 : Nat) (v3 : Nat) (v4 : Int) (v5 : Int) (v6 : Int) (h : Hp) : Option (Int × Hp) := (b2 (f_mSeals_wordOf v3 (w32 (v5 + 4)) h) fun r8 h6 => (b1 (f_mSeals_blockOf v0 r8 h6) fun h9 => (if v3 = 0 then none else (if ix v4 (ln h9 v3) then (if hR h9 v0 19 = 0 then none else (if ix 0 (ln h9 (hR h9 v0 19)) then (if ix v4 (ln h9 v3) then (if (hI h9 v3 v4.toNat) ≤ 127 then f_mSeals_shield_b103 v0 v3 v4 v5 v6 (hI h9 v3 v4.toNat) (hI h9 (hR h9 v0 19) (Int.toNat 0)) 31 h9 else f_mSeals_shield_b103 v0 v3 v4 v5 v6 (hI h9 v3 v4.toNat) (hI h9 (hR h9 v0 19) (Int.toNat 0)) 15 h9) else none) else none)) else none))))
theorem lq_mSeals_shield_b35 {v0 : Nat} {v3 : Nat} {v4 : Int} {v5 : Int} {v6 : Int} (n : Nat) : ∀ (k : Nat) (h : Hp), k ≤ 12 → 12 - k < n → 12 < 2147483648 → (¬ (v3 = 0)) → (∀ j : Nat, k ≤ j → j < 12 → ix (w32 ((w32 (v5 + 8)) + (j : Int))) (ln h v3)) → (¬ (hR h v0 16 = 0)) → (∀ j : Nat, k ≤ j → j < 12 → ix (j : Int) (ln h (hR h v0 16))) → (¬ v3 = hR h v0 16) → f_mSeals_shield_b35_lp n v0 v3 v4 v5 v6 (k : Int) h = lx_mSeals_shield_b35 v0 v3 v4 v5 v6 (fI h (hR h v0 16) 0 k 12 (fun j => (hI h v3 ((w32 ((w32 (v5 + 8)) + (j : Int))).toNat)))) := by
  induction n with
  | zero => intro k h _ hn; omega
  | succ n ih =>
    intro k h hk hn ho hc0 hc1 hc2 hc3 hd0
    show f_mSeals_shield_b35 (f_mSeals_shield_b35_lp n) v0 v3 v4 v5 v6 (k : Int) h = _
    unfold f_mSeals_shield_b35
    by_cases hx0 : (12 : Int) ≤ (k : Int)
    · have hx : (12 : Int) ≤ (k : Int) := by exact hx0
      have hkN : k = 12 := by omega
      subst hkN
      rw [if_pos hx0, fI_nil]
      rfl
    · have hx : ¬ (12 : Int) ≤ (k : Int) := by exact hx0
      rw [if_neg hx0]
      have e1 : w32 ((k : Int) + 1) = ((k + 1 : Nat) : Int) := by unfold w32; omega
      conv => lhs; simp only [lt1, b2, e1]
      rw [if_neg (hc0)]
      rw [if_pos (hc1 k (Nat.le_refl k) (by omega))]
      rw [if_neg (hc2)]
      rw [if_pos (hc3 k (Nat.le_refl k) (by omega))]
      refine Eq.trans (ih (k + 1) _ (by omega) (by omega) ho ?_ ?_ ?_ ?_ ?_) (congrArg (lx_mSeals_shield_b35 v0 v3 v4 v5 v6) (fI_step (h := h) (P := hR h v0 16) (o := 0) (k := k) (N := 12) (E := fun j => (hI h v3 ((w32 ((w32 (v5 + 8)) + (j : Int))).toNat))) (by omega) (by omega) rfl (fun j h1 h2 => ?_)))
      · exact hc0
      · exact fun j h1 h2 => hc1 j (by omega) h2
      · exact hc2
      · exact fun j h1 h2 => hc3 j (by omega) h2
      · exact hd0
      · simp only [hI_sI, hJ_sJ, hI_sJ, hJ_sI, hR_sI, hR_sJ, hd0, false_and, if_false]
def lx_mSeals_shield_b3 (v0 : Nat) (v1 : Nat) (v2 : Int) (v3 : Nat) (v4 : Int) (v5 : Int) (v6 : Int) (h : Hp) : Option (Int × Hp) := f_mSeals_shield_b35_lp FU v0 v3 v4 v5 v6 0 h
theorem lq_mSeals_shield_b3 {v0 : Nat} {v1 : Nat} {v2 : Int} {v3 : Nat} {v4 : Int} {v5 : Int} {v6 : Int} (n : Nat) : ∀ (k : Nat) (h : Hp), k ≤ 32 → 32 - k < n → 32 < 2147483648 → (¬ (v1 = 0)) → (∀ j : Nat, k ≤ j → j < 32 → ix (w32 ((w32 (v2 + 32)) + (j : Int))) (ln h v1)) → (¬ (hR h v0 15 = 0)) → (∀ j : Nat, k ≤ j → j < 32 → ix (j : Int) (ln h (hR h v0 15))) → (¬ v1 = hR h v0 15) → f_mSeals_shield_b3_lp n v0 v1 v2 v3 v4 v5 v6 (k : Int) h = lx_mSeals_shield_b3 v0 v1 v2 v3 v4 v5 v6 (fI h (hR h v0 15) 0 k 32 (fun j => (hI h v1 ((w32 ((w32 (v2 + 32)) + (j : Int))).toNat)))) := by
  induction n with
  | zero => intro k h _ hn; omega
  | succ n ih =>
    intro k h hk hn ho hc0 hc1 hc2 hc3 hd0
    show f_mSeals_shield_b3 (f_mSeals_shield_b3_lp n) v0 v1 v2 v3 v4 v5 v6 (k : Int) h = _
    unfold f_mSeals_shield_b3
    by_cases hx0 : (32 : Int) ≤ (k : Int)
    · have hx : (32 : Int) ≤ (k : Int) := by exact hx0
      have hkN : k = 32 := by omega
      subst hkN
      rw [if_pos hx0, fI_nil]
      rfl
    · have hx : ¬ (32 : Int) ≤ (k : Int) := by exact hx0
      rw [if_neg hx0]
      have e1 : w32 ((k : Int) + 1) = ((k + 1 : Nat) : Int) := by unfold w32; omega
      conv => lhs; simp only [lt1, b2, e1]
      rw [if_neg (hc0)]
      rw [if_pos (hc1 k (Nat.le_refl k) (by omega))]
      rw [if_neg (hc2)]
      rw [if_pos (hc3 k (Nat.le_refl k) (by omega))]
      refine Eq.trans (ih (k + 1) _ (by omega) (by omega) ho ?_ ?_ ?_ ?_ ?_) (congrArg (lx_mSeals_shield_b3 v0 v1 v2 v3 v4 v5 v6) (fI_step (h := h) (P := hR h v0 15) (o := 0) (k := k) (N := 32) (E := fun j => (hI h v1 ((w32 ((w32 (v2 + 32)) + (j : Int))).toNat))) (by omega) (by omega) rfl (fun j h1 h2 => ?_)))
      · exact hc0
      · exact fun j h1 h2 => hc1 j (by omega) h2
      · exact hc2
      · exact fun j h1 h2 => hc3 j (by omega) h2
      · exact hd0
      · simp only [hI_sI, hJ_sJ, hI_sJ, hJ_sI, hR_sI, hR_sJ, hd0, false_and, if_false]
def lx_mSeals_nonceOf_b32 (v0 : Nat) (v1 : Nat) (v2 : Int) (v3 : Int) (h : Hp) : Option (Hp) := some h
theorem lq_mSeals_nonceOf_b32 {v0 : Nat} {v1 : Nat} {v2 : Int} {v3 : Int} (n : Nat) : ∀ (k : Nat) (h : Hp), k ≤ 12 → 12 - k < n → 12 < 2147483648 → (¬ (v1 = 0)) → (∀ j : Nat, k ≤ j → j < 12 → ix (w32 ((w32 (v2 + 64)) + (j : Int))) (ln h v1)) → (∀ j : Nat, k ≤ j → j < 12 → (4 ≤ (j : Int)) → ¬ ((hR h v0 16) = 0)) → (∀ j : Nat, k ≤ j → j < 12 → (4 ≤ (j : Int)) → ix (j : Int) (ln h (hR h v0 16))) → (∀ j : Nat, k ≤ j → j < 12 → (¬ (4 ≤ (j : Int))) → ¬ ((hR h v0 16) = 0)) → (∀ j : Nat, k ≤ j → j < 12 → (¬ (4 ≤ (j : Int))) → ix (j : Int) (ln h (hR h v0 16))) → (¬ v1 = hR h v0 16) → f_mSeals_nonceOf_b32_lp n v0 v1 v2 v3 (k : Int) h = lx_mSeals_nonceOf_b32 v0 v1 v2 v3 (fI h (hR h v0 16) 0 k 12 (fun j => if 4 ≤ (j : Int) then ((iXor (hI h v1 ((w32 ((w32 (v2 + 64)) + (j : Int))).toNat)) (w32 (lAnd (lShr v3 (w32 (8 * (w32 (11 - (j : Int)))))) 255)))) else ((iXor (hI h v1 ((w32 ((w32 (v2 + 64)) + (j : Int))).toNat)) 0)))) := by
  induction n with
  | zero => intro k h _ hn; omega
  | succ n ih =>
    intro k h hk hn ho hc0 hc1 hc2 hc3 hc4 hc5 hd0
    show f_mSeals_nonceOf_b32 (f_mSeals_nonceOf_b32_lp n) v0 v1 v2 v3 (k : Int) h = _
    unfold f_mSeals_nonceOf_b32
    by_cases hx0 : (12 : Int) ≤ (k : Int)
    · have hx : (12 : Int) ≤ (k : Int) := by exact hx0
      have hkN : k = 12 := by omega
      subst hkN
      rw [if_pos hx0, fI_nil]
      rfl
    · have hx : ¬ (12 : Int) ≤ (k : Int) := by exact hx0
      rw [if_neg hx0]
      have e1 : w32 ((k : Int) + 1) = ((k + 1 : Nat) : Int) := by unfold w32; omega
      conv => lhs; simp only [lt1, b2, f_mSeals_nonceOf_b79, e1]
      rw [if_neg (hc0)]
      rw [if_pos (hc1 k (Nat.le_refl k) (by omega))]
      by_cases q1 : 4 ≤ (k : Int)
      · rw [if_pos q1]
        rw [if_neg (hc2 k (Nat.le_refl k) (by omega) q1)]
        rw [if_pos (hc3 k (Nat.le_refl k) (by omega) q1)]
        refine Eq.trans (ih (k + 1) _ (by omega) (by omega) ho ?_ ?_ ?_ ?_ ?_ ?_ ?_) (congrArg (lx_mSeals_nonceOf_b32 v0 v1 v2 v3) (fI_step (h := h) (P := hR h v0 16) (o := 0) (k := k) (N := 12) (E := fun j => if 4 ≤ (j : Int) then ((iXor (hI h v1 ((w32 ((w32 (v2 + 64)) + (j : Int))).toNat)) (w32 (lAnd (lShr v3 (w32 (8 * (w32 (11 - (j : Int)))))) 255)))) else ((iXor (hI h v1 ((w32 ((w32 (v2 + 64)) + (j : Int))).toNat)) 0))) (by omega) (by omega) (by simp only [if_pos q1, Int.toNat_natCast]) (fun j h1 h2 => ?_)))
        · exact hc0
        · exact fun j h1 h2 => hc1 j (by omega) h2
        · exact fun j h1 h2 => hc2 j (by omega) h2
        · exact fun j h1 h2 => hc3 j (by omega) h2
        · exact fun j h1 h2 => hc4 j (by omega) h2
        · exact fun j h1 h2 => hc5 j (by omega) h2
        · exact hd0
        · simp only [hI_sI, hJ_sJ, hI_sJ, hJ_sI, hR_sI, hR_sJ, hd0, false_and, if_false]
      · rw [if_neg q1]
        rw [if_neg (hc4 k (Nat.le_refl k) (by omega) q1)]
        rw [if_pos (hc5 k (Nat.le_refl k) (by omega) q1)]
        refine Eq.trans (ih (k + 1) _ (by omega) (by omega) ho ?_ ?_ ?_ ?_ ?_ ?_ ?_) (congrArg (lx_mSeals_nonceOf_b32 v0 v1 v2 v3) (fI_step (h := h) (P := hR h v0 16) (o := 0) (k := k) (N := 12) (E := fun j => if 4 ≤ (j : Int) then ((iXor (hI h v1 ((w32 ((w32 (v2 + 64)) + (j : Int))).toNat)) (w32 (lAnd (lShr v3 (w32 (8 * (w32 (11 - (j : Int)))))) 255)))) else ((iXor (hI h v1 ((w32 ((w32 (v2 + 64)) + (j : Int))).toNat)) 0))) (by omega) (by omega) (by simp only [if_neg q1, Int.toNat_natCast]) (fun j h1 h2 => ?_)))
        · exact hc0
        · exact fun j h1 h2 => hc1 j (by omega) h2
        · exact fun j h1 h2 => hc2 j (by omega) h2
        · exact fun j h1 h2 => hc3 j (by omega) h2
        · exact fun j h1 h2 => hc4 j (by omega) h2
        · exact fun j h1 h2 => hc5 j (by omega) h2
        · exact hd0
        · simp only [hI_sI, hJ_sJ, hI_sJ, hJ_sI, hR_sI, hR_sJ, hd0, false_and, if_false]
def lx_mSeals_nonceOf_b3 (v0 : Nat) (v1 : Nat) (v2 : Int) (v3 : Int) (h : Hp) : Option (Hp) := f_mSeals_nonceOf_b32_lp FU v0 v1 v2 v3 0 h
theorem lq_mSeals_nonceOf_b3 {v0 : Nat} {v1 : Nat} {v2 : Int} {v3 : Int} (n : Nat) : ∀ (k : Nat) (h : Hp), k ≤ 32 → 32 - k < n → 32 < 2147483648 → (¬ (v1 = 0)) → (∀ j : Nat, k ≤ j → j < 32 → ix (w32 (v2 + (j : Int))) (ln h v1)) → (¬ (hR h v0 15 = 0)) → (∀ j : Nat, k ≤ j → j < 32 → ix (j : Int) (ln h (hR h v0 15))) → (¬ v1 = hR h v0 15) → f_mSeals_nonceOf_b3_lp n v0 v1 v2 v3 (k : Int) h = lx_mSeals_nonceOf_b3 v0 v1 v2 v3 (fI h (hR h v0 15) 0 k 32 (fun j => (hI h v1 ((w32 (v2 + (j : Int))).toNat)))) := by
  induction n with
  | zero => intro k h _ hn; omega
  | succ n ih =>
    intro k h hk hn ho hc0 hc1 hc2 hc3 hd0
    show f_mSeals_nonceOf_b3 (f_mSeals_nonceOf_b3_lp n) v0 v1 v2 v3 (k : Int) h = _
    unfold f_mSeals_nonceOf_b3
    by_cases hx0 : (32 : Int) ≤ (k : Int)
    · have hx : (32 : Int) ≤ (k : Int) := by exact hx0
      have hkN : k = 32 := by omega
      subst hkN
      rw [if_pos hx0, fI_nil]
      rfl
    · have hx : ¬ (32 : Int) ≤ (k : Int) := by exact hx0
      rw [if_neg hx0]
      have e1 : w32 ((k : Int) + 1) = ((k + 1 : Nat) : Int) := by unfold w32; omega
      conv => lhs; simp only [lt1, b2, e1]
      rw [if_neg (hc0)]
      rw [if_pos (hc1 k (Nat.le_refl k) (by omega))]
      rw [if_neg (hc2)]
      rw [if_pos (hc3 k (Nat.le_refl k) (by omega))]
      refine Eq.trans (ih (k + 1) _ (by omega) (by omega) ho ?_ ?_ ?_ ?_ ?_) (congrArg (lx_mSeals_nonceOf_b3 v0 v1 v2 v3) (fI_step (h := h) (P := hR h v0 15) (o := 0) (k := k) (N := 32) (E := fun j => (hI h v1 ((w32 (v2 + (j : Int))).toNat))) (by omega) (by omega) rfl (fun j h1 h2 => ?_)))
      · exact hc0
      · exact fun j h1 h2 => hc1 j (by omega) h2
      · exact hc2
      · exact fun j h1 h2 => hc3 j (by omega) h2
      · exact hd0
      · simp only [hI_sI, hJ_sJ, hI_sJ, hJ_sI, hR_sI, hR_sJ, hd0, false_and, if_false]
def lx_mSeals_multiply_b218 (k83 : Nat → Int → Hp → Option (Hp)) (v0 : Nat) (v2 : Int) (h : Hp) : Option (Hp) := k83 v0 (w32 (v2 + 1)) h
theorem lq_mSeals_multiply_b218 {k83 : Nat → Int → Hp → Option (Hp)} {v0 : Nat} {v2 : Int} (n : Nat) : ∀ (k : Nat) (h : Hp), k ≤ 36 → 36 - k < n → 36 < 2147483648 → (¬ (hR h v0 20 = 0)) → (∀ j : Nat, k ≤ j → j < 36 → ix (j : Int) (ln h (hR h v0 20))) → (¬ (hR h v0 22 = 0)) → (∀ j : Nat, k ≤ j → j < 36 → ix (j : Int) (ln h (hR h v0 22))) → (¬ hR h v0 20 = hR h v0 22) → f_mSeals_multiply_b218_lp k83 n v0 v2 (k : Int) h = lx_mSeals_multiply_b218 k83 v0 v2 (fI h (hR h v0 22) 0 k 36 (fun j => (hI h (hR h v0 20) j))) := by
  induction n with
  | zero => intro k h _ hn; omega
  | succ n ih =>
    intro k h hk hn ho hc0 hc1 hc2 hc3 hd0
    show f_mSeals_multiply_b218 k83 (f_mSeals_multiply_b218_lp k83 n) v0 v2 (k : Int) h = _
    unfold f_mSeals_multiply_b218
    by_cases hx0 : (36 : Int) ≤ (k : Int)
    · have hx : (36 : Int) ≤ (k : Int) := by exact hx0
      have hkN : k = 36 := by omega
      subst hkN
      rw [if_pos hx0, fI_nil]
      rfl
    · have hx : ¬ (36 : Int) ≤ (k : Int) := by exact hx0
      rw [if_neg hx0]
      have e1 : w32 ((k : Int) + 1) = ((k + 1 : Nat) : Int) := by unfold w32; omega
      conv => lhs; simp only [lt1, b2, e1]
      rw [if_neg (hc0)]
      rw [if_pos (hc1 k (Nat.le_refl k) (by omega))]
      rw [if_neg (hc2)]
      rw [if_pos (hc3 k (Nat.le_refl k) (by omega))]
      refine Eq.trans (ih (k + 1) _ (by omega) (by omega) ho ?_ ?_ ?_ ?_ ?_) (congrArg (lx_mSeals_multiply_b218 k83 v0 v2) (fI_step (h := h) (P := hR h v0 22) (o := 0) (k := k) (N := 36) (E := fun j => (hI h (hR h v0 20) j)) (by omega) (by omega) rfl (fun j h1 h2 => ?_)))
      · exact hc0
      · exact fun j h1 h2 => hc1 j (by omega) h2
      · exact hc2
      · exact fun j h1 h2 => hc3 j (by omega) h2
      · exact hd0
      · simp only [hI_sI, hJ_sJ, hI_sJ, hJ_sI, hR_sI, hR_sJ, hd0, false_and, if_false]
def lx_mSeals_tallyOf_b76 (v0 : Nat) (v1 : Int) (h : Hp) : Option (Hp) := f_mSeals_tallyOf_b97_lp FU v0 v1 0 h
theorem lq_mSeals_tallyOf_b76 {v0 : Nat} {v1 : Int} (n : Nat) : ∀ (k : Nat) (h : Hp), k ≤ 40 → 40 - k < n → 40 < 2147483648 → (¬ (hR h v0 20 = 0)) → (∀ j : Nat, k ≤ j → j < 40 → ix (j : Int) (ln h (hR h v0 20))) → f_mSeals_tallyOf_b76_lp n v0 v1 (k : Int) h = lx_mSeals_tallyOf_b76 v0 v1 (fI h (hR h v0 20) 0 k 40 (fun j => 0)) := by
  induction n with
  | zero => intro k h _ hn; omega
  | succ n ih =>
    intro k h hk hn ho hc0 hc1
    show f_mSeals_tallyOf_b76 (f_mSeals_tallyOf_b76_lp n) v0 v1 (k : Int) h = _
    unfold f_mSeals_tallyOf_b76
    by_cases hx0 : (40 : Int) ≤ (k : Int)
    · have hx : (40 : Int) ≤ (k : Int) := by exact hx0
      have hkN : k = 40 := by omega
      subst hkN
      rw [if_pos hx0, fI_nil]
      rfl
    · have hx : ¬ (40 : Int) ≤ (k : Int) := by exact hx0
      rw [if_neg hx0]
      have e1 : w32 ((k : Int) + 1) = ((k + 1 : Nat) : Int) := by unfold w32; omega
      conv => lhs; simp only [lt1, b2, e1]
      rw [if_neg (hc0)]
      rw [if_pos (hc1 k (Nat.le_refl k) (by omega))]
      refine Eq.trans (ih (k + 1) _ (by omega) (by omega) ho ?_ ?_) (congrArg (lx_mSeals_tallyOf_b76 v0 v1) (fI_step (h := h) (P := hR h v0 20) (o := 0) (k := k) (N := 40) (E := fun j => 0) (by omega) (by omega) rfl (fun j h1 h2 => ?_)))
      · exact hc0
      · exact fun j h1 h2 => hc1 j (by omega) h2
      · rfl
def lx_mSeals_tagOf_b93 (v0 : Nat) (v3 : Int) (v6 : Int) (o : Nat) (h : Hp) : Option (Hp) := (b1 (f_mSeals_blockOf v0 0 h) fun h19 => (b1 (f_mSeals_tallyOf v0 (w32 ((o : Int) + 16)) h19) fun h21 => some h21))
theorem lq_mSeals_tagOf_b93 {v0 : Nat} {v3 : Int} {v6 : Int} {o : Nat} (n : Nat) : ∀ (k : Nat) (h : Hp), k ≤ 16 → 16 - k < n → o + 16 < 2147483648 → (∀ j : Nat, k ≤ j → j < 16 → ((iRem (j : Int) 8) ≤ 3) → (8 ≤ (j : Int)) → ¬ ((hR h v0 24) = 0)) → (∀ j : Nat, k ≤ j → j < 16 → ((iRem (j : Int) 8) ≤ 3) → (8 ≤ (j : Int)) → ix (w32 ((o : Int) + (j : Int))) (ln h (hR h v0 24))) → (∀ j : Nat, k ≤ j → j < 16 → ((iRem (j : Int) 8) ≤ 3) → (¬ (8 ≤ (j : Int))) → ¬ ((hR h v0 24) = 0)) → (∀ j : Nat, k ≤ j → j < 16 → ((iRem (j : Int) 8) ≤ 3) → (¬ (8 ≤ (j : Int))) → ix (w32 ((o : Int) + (j : Int))) (ln h (hR h v0 24))) → (∀ j : Nat, k ≤ j → j < 16 → (¬ ((iRem (j : Int) 8) ≤ 3)) → ¬ ((hR h v0 24) = 0)) → (∀ j : Nat, k ≤ j → j < 16 → (¬ ((iRem (j : Int) 8) ≤ 3)) → ix (w32 ((o : Int) + (j : Int))) (ln h (hR h v0 24))) → f_mSeals_tagOf_b93_lp n v0 v3 (o : Int) v6 (k : Int) h = lx_mSeals_tagOf_b93 v0 v3 v6 o (fI h (hR h v0 24) o k 16 (fun j => if (iRem (j : Int) 8) ≤ 3 then (if 8 ≤ (j : Int) then ((iAnd (iShr v6 (w32 (8 * (iRem (j : Int) 8)))) 255)) else ((iAnd (iShr v3 (w32 (8 * (iRem (j : Int) 8)))) 255))) else (0))) := by
  induction n with
  | zero => intro k h _ hn; omega
  | succ n ih =>
    intro k h hk hn ho hc0 hc1 hc2 hc3 hc4 hc5
    show f_mSeals_tagOf_b93 (f_mSeals_tagOf_b93_lp n) v0 v3 (o : Int) v6 (k : Int) h = _
    unfold f_mSeals_tagOf_b93
    by_cases hx0 : (16 : Int) ≤ (k : Int)
    · have hx : (16 : Int) ≤ (k : Int) := by exact hx0
      have hkN : k = 16 := by omega
      subst hkN
      rw [if_pos hx0, fI_nil]
      rfl
    · have hx : ¬ (16 : Int) ≤ (k : Int) := by exact hx0
      rw [if_neg hx0]
      have e1 : w32 ((k : Int) + 1) = ((k + 1 : Nat) : Int) := by unfold w32; omega
      have e0 : (w32 ((o : Int) + (k : Int))).toNat = o + k := by unfold w32; omega
      conv => lhs; simp only [lt1, b2, f_mSeals_tagOf_b135, f_mSeals_tagOf_b148, e1, e0]
      by_cases q1 : (iRem (k : Int) 8) ≤ 3
      · rw [if_pos q1]
        by_cases q2 : 8 ≤ (k : Int)
        · rw [if_pos q2]
          rw [if_neg (hc0 k (Nat.le_refl k) (by omega) q1 q2)]
          rw [if_pos (hc1 k (Nat.le_refl k) (by omega) q1 q2)]
          refine Eq.trans (ih (k + 1) _ (by omega) (by omega) ho ?_ ?_ ?_ ?_ ?_ ?_) (congrArg (lx_mSeals_tagOf_b93 v0 v3 v6 o) (fI_step (h := h) (P := hR h v0 24) (o := o) (k := k) (N := 16) (E := fun j => if (iRem (j : Int) 8) ≤ 3 then (if 8 ≤ (j : Int) then ((iAnd (iShr v6 (w32 (8 * (iRem (j : Int) 8)))) 255)) else ((iAnd (iShr v3 (w32 (8 * (iRem (j : Int) 8)))) 255))) else (0)) (by omega) (by omega) (by simp only [if_pos q1, if_pos q2, Int.toNat_natCast]) (fun j h1 h2 => ?_)))
          · exact fun j h1 h2 => hc0 j (by omega) h2
          · exact fun j h1 h2 => hc1 j (by omega) h2
          · exact fun j h1 h2 => hc2 j (by omega) h2
          · exact fun j h1 h2 => hc3 j (by omega) h2
          · exact fun j h1 h2 => hc4 j (by omega) h2
          · exact fun j h1 h2 => hc5 j (by omega) h2
          · rfl
        · rw [if_neg q2]
          rw [if_neg (hc2 k (Nat.le_refl k) (by omega) q1 q2)]
          rw [if_pos (hc3 k (Nat.le_refl k) (by omega) q1 q2)]
          refine Eq.trans (ih (k + 1) _ (by omega) (by omega) ho ?_ ?_ ?_ ?_ ?_ ?_) (congrArg (lx_mSeals_tagOf_b93 v0 v3 v6 o) (fI_step (h := h) (P := hR h v0 24) (o := o) (k := k) (N := 16) (E := fun j => if (iRem (j : Int) 8) ≤ 3 then (if 8 ≤ (j : Int) then ((iAnd (iShr v6 (w32 (8 * (iRem (j : Int) 8)))) 255)) else ((iAnd (iShr v3 (w32 (8 * (iRem (j : Int) 8)))) 255))) else (0)) (by omega) (by omega) (by simp only [if_pos q1, if_neg q2, Int.toNat_natCast]) (fun j h1 h2 => ?_)))
          · exact fun j h1 h2 => hc0 j (by omega) h2
          · exact fun j h1 h2 => hc1 j (by omega) h2
          · exact fun j h1 h2 => hc2 j (by omega) h2
          · exact fun j h1 h2 => hc3 j (by omega) h2
          · exact fun j h1 h2 => hc4 j (by omega) h2
          · exact fun j h1 h2 => hc5 j (by omega) h2
          · rfl
      · rw [if_neg q1]
        rw [if_neg (hc4 k (Nat.le_refl k) (by omega) q1)]
        rw [if_pos (hc5 k (Nat.le_refl k) (by omega) q1)]
        refine Eq.trans (ih (k + 1) _ (by omega) (by omega) ho ?_ ?_ ?_ ?_ ?_ ?_) (congrArg (lx_mSeals_tagOf_b93 v0 v3 v6 o) (fI_step (h := h) (P := hR h v0 24) (o := o) (k := k) (N := 16) (E := fun j => if (iRem (j : Int) 8) ≤ 3 then (if 8 ≤ (j : Int) then ((iAnd (iShr v6 (w32 (8 * (iRem (j : Int) 8)))) 255)) else ((iAnd (iShr v3 (w32 (8 * (iRem (j : Int) 8)))) 255))) else (0)) (by omega) (by omega) (by simp only [if_neg q1, Int.toNat_natCast]) (fun j h1 h2 => ?_)))
        · exact fun j h1 h2 => hc0 j (by omega) h2
        · exact fun j h1 h2 => hc1 j (by omega) h2
        · exact fun j h1 h2 => hc2 j (by omega) h2
        · exact fun j h1 h2 => hc3 j (by omega) h2
        · exact fun j h1 h2 => hc4 j (by omega) h2
        · exact fun j h1 h2 => hc5 j (by omega) h2
        · rfl
def lx_mWire_read_b9 (v0 : Nat) (v1 : Int) (v2 : Int) (h : Hp) : Option (Int × Hp) := (lt1 (sI h v0 6 0) fun h5 => (lt1 (sI h5 v0 7 0) fun h6 => (lt1 (sI h6 v0 8 0) fun h7 => (if v2 ≤ 30 then (if v2 < 8 then f_mWire_read_b68 v0 v1 v2 v0 h7 else (if 16 ≤ v2 then f_mWire_read_b68 v0 v1 v2 v0 h7 else f_mWire_read_b69 v0 v1 v2 v0 8 h7)) else some (2, h7)))))
theorem lq_mWire_read_b9 {v0 : Nat} {v1 : Int} {v2 : Int} (n : Nat) : ∀ (k : Nat) (h : Hp), k ≤ 4 → 4 - k < n → 4 < 2147483648 → (¬ (hR h v0 5 = 0)) → (∀ j : Nat, k ≤ j → j < 4 → ix (j : Int) (ln h (hR h v0 5))) → f_mWire_read_b9_lp n v0 v1 v2 (k : Int) h = lx_mWire_read_b9 v0 v1 v2 (fJ h (hR h v0 5) 0 k 4 (fun j => 0)) := by
  induction n with
  | zero => intro k h _ hn; omega
  | succ n ih =>
    intro k h hk hn ho hc0 hc1
    show f_mWire_read_b9 (f_mWire_read_b9_lp n) v0 v1 v2 (k : Int) h = _
    unfold f_mWire_read_b9
    by_cases hx0 : (4 : Int) ≤ (k : Int)
    · have hx : (4 : Int) ≤ (k : Int) := by exact hx0
      have hkN : k = 4 := by omega
      subst hkN
      rw [if_pos hx0, fJ_nil]
      rfl
    · have hx : ¬ (4 : Int) ≤ (k : Int) := by exact hx0
      rw [if_neg hx0]
      have e1 : w32 ((k : Int) + 1) = ((k + 1 : Nat) : Int) := by unfold w32; omega
      conv => lhs; simp only [lt1, b2, e1]
      rw [if_neg (hc0)]
      rw [if_pos (hc1 k (Nat.le_refl k) (by omega))]
      refine Eq.trans (ih (k + 1) _ (by omega) (by omega) ho ?_ ?_) (congrArg (lx_mWire_read_b9 v0 v1 v2) (fJ_step (h := h) (P := hR h v0 5) (o := 0) (k := k) (N := 4) (E := fun j => 0) (by omega) (by omega) rfl (fun j h1 h2 => ?_)))
      · exact hc0
      · exact fun j h1 h2 => hc1 j (by omega) h2
      · rfl
def lx_mSeals_digest_b34 (v0 : Nat) (v3 : Nat) (h : Hp) : Option (Hp) := some h
theorem lq_mSeals_digest_b34 {v0 : Nat} {v3 : Nat} (n : Nat) : ∀ (k : Nat) (h : Hp), k ≤ 32 → 32 - k < n → 32 < 2147483648 → (¬ (hR h v0 8 = 0)) → (∀ j : Nat, k ≤ j → j < 32 → ix (j : Int) (ln h (hR h v0 8))) → (¬ (v3 = 0)) → (∀ j : Nat, k ≤ j → j < 32 → ix (j : Int) (ln h v3)) → (¬ hR h v0 8 = v3) → f_mSeals_digest_b34_lp n v0 v3 (k : Int) h = lx_mSeals_digest_b34 v0 v3 (fI h (v3) 0 k 32 (fun j => (hI h (hR h v0 8) j))) := by
  induction n with
  | zero => intro k h _ hn; omega
  | succ n ih =>
    intro k h hk hn ho hc0 hc1 hc2 hc3 hd0
    show f_mSeals_digest_b34 (f_mSeals_digest_b34_lp n) v0 v3 (k : Int) h = _
    unfold f_mSeals_digest_b34
    by_cases hx0 : (32 : Int) ≤ (k : Int)
    · have hx : (32 : Int) ≤ (k : Int) := by exact hx0
      have hkN : k = 32 := by omega
      subst hkN
      rw [if_pos hx0, fI_nil]
      rfl
    · have hx : ¬ (32 : Int) ≤ (k : Int) := by exact hx0
      rw [if_neg hx0]
      have e1 : w32 ((k : Int) + 1) = ((k + 1 : Nat) : Int) := by unfold w32; omega
      conv => lhs; simp only [lt1, b2, e1]
      rw [if_neg (hc0)]
      rw [if_pos (hc1 k (Nat.le_refl k) (by omega))]
      rw [if_neg (hc2)]
      rw [if_pos (hc3 k (Nat.le_refl k) (by omega))]
      refine Eq.trans (ih (k + 1) _ (by omega) (by omega) ho ?_ ?_ ?_ ?_ ?_) (congrArg (lx_mSeals_digest_b34 v0 v3) (fI_step (h := h) (P := v3) (o := 0) (k := k) (N := 32) (E := fun j => (hI h (hR h v0 8) j)) (by omega) (by omega) rfl (fun j h1 h2 => ?_)))
      · exact hc0
      · exact fun j h1 h2 => hc1 j (by omega) h2
      · exact hc2
      · exact fun j h1 h2 => hc3 j (by omega) h2
      · exact hd0
      · simp only [hI_sI, hJ_sJ, hI_sJ, hJ_sI, hR_sI, hR_sJ, hd0, false_and, if_false]
def lx_mSeals_digest_b3 (v0 : Nat) (v1 : Nat) (v3 : Nat) (N : Nat) (h : Hp) : Option (Hp) := (b1 (f_mSeals_digestWork v0 (N : Int) h) fun h1 => f_mSeals_digest_b34_lp FU v0 v3 0 h1)
theorem lq_mSeals_digest_b3 {v0 : Nat} {v1 : Nat} {v3 : Nat} {N : Nat} (n : Nat) : ∀ (k : Nat) (h : Hp), k ≤ N → N - k < n → N < 2147483648 → (¬ (v1 = 0)) → (∀ j : Nat, k ≤ j → j < N → ix (j : Int) (ln h v1)) → (¬ (hR h v0 4 = 0)) → (∀ j : Nat, k ≤ j → j < N → ix (j : Int) (ln h (hR h v0 4))) → (¬ v1 = hR h v0 4) → f_mSeals_digest_b3_lp n v0 v1 (N : Int) v3 (k : Int) h = lx_mSeals_digest_b3 v0 v1 v3 N (fI h (hR h v0 4) 0 k N (fun j => (hI h v1 j))) := by
  induction n with
  | zero => intro k h _ hn; omega
  | succ n ih =>
    intro k h hk hn ho hc0 hc1 hc2 hc3 hd0
    show f_mSeals_digest_b3 (f_mSeals_digest_b3_lp n) v0 v1 (N : Int) v3 (k : Int) h = _
    unfold f_mSeals_digest_b3
    by_cases hx0 : (N : Int) ≤ (k : Int)
    · have hx : (N : Int) ≤ (k : Int) := by exact hx0
      have hkN : k = N := by omega
      subst hkN
      rw [if_pos hx0, fI_nil]
      rfl
    · have hx : ¬ (N : Int) ≤ (k : Int) := by exact hx0
      rw [if_neg hx0]
      have e1 : w32 ((k : Int) + 1) = ((k + 1 : Nat) : Int) := by unfold w32; omega
      conv => lhs; simp only [lt1, b2, e1]
      rw [if_neg (hc0)]
      rw [if_pos (hc1 k (Nat.le_refl k) (by omega))]
      rw [if_neg (hc2)]
      rw [if_pos (hc3 k (Nat.le_refl k) (by omega))]
      refine Eq.trans (ih (k + 1) _ (by omega) (by omega) ho ?_ ?_ ?_ ?_ ?_) (congrArg (lx_mSeals_digest_b3 v0 v1 v3 N) (fI_step (h := h) (P := hR h v0 4) (o := 0) (k := k) (N := N) (E := fun j => (hI h v1 j)) (by omega) (by omega) rfl (fun j h1 h2 => ?_)))
      · exact hc0
      · exact fun j h1 h2 => hc1 j (by omega) h2
      · exact hc2
      · exact fun j h1 h2 => hc3 j (by omega) h2
      · exact hd0
      · simp only [hI_sI, hJ_sJ, hI_sJ, hJ_sI, hR_sI, hR_sJ, hd0, false_and, if_false]
def lx_mGreet_keepTheirs_b7 (v0 : Nat) (v1 : Int) (N : Nat) (h : Hp) : Option (Hp) := some h
theorem lq_mGreet_keepTheirs_b7 {v0 : Nat} {v1 : Int} {N : Nat} (n : Nat) : ∀ (k : Nat) (h : Hp), k ≤ N → N - k < n → N < 2147483648 → (¬ (hR h v0 11 = 0)) → (∀ j : Nat, k ≤ j → j < N → ix (w32 (v1 + (j : Int))) (ln h (hR h v0 11))) → (¬ (hR h v0 13 = 0)) → (∀ j : Nat, k ≤ j → j < N → ix (j : Int) (ln h (hR h v0 13))) → (¬ hR h v0 11 = hR h v0 13) → f_mGreet_keepTheirs_b7_lp n v0 v1 (N : Int) (k : Int) h = lx_mGreet_keepTheirs_b7 v0 v1 N (fI h (hR h v0 13) 0 k N (fun j => (hI h (hR h v0 11) ((w32 (v1 + (j : Int))).toNat)))) := by
  induction n with
  | zero => intro k h _ hn; omega
  | succ n ih =>
    intro k h hk hn ho hc0 hc1 hc2 hc3 hd0
    show f_mGreet_keepTheirs_b7 (f_mGreet_keepTheirs_b7_lp n) v0 v1 (N : Int) (k : Int) h = _
    unfold f_mGreet_keepTheirs_b7
    by_cases hx0 : (N : Int) ≤ (k : Int)
    · have hx : (N : Int) ≤ (k : Int) := by exact hx0
      have hkN : k = N := by omega
      subst hkN
      rw [if_pos hx0, fI_nil]
      rfl
    · have hx : ¬ (N : Int) ≤ (k : Int) := by exact hx0
      rw [if_neg hx0]
      have e1 : w32 ((k : Int) + 1) = ((k + 1 : Nat) : Int) := by unfold w32; omega
      conv => lhs; simp only [lt1, b2, e1]
      rw [if_neg (hc0)]
      rw [if_pos (hc1 k (Nat.le_refl k) (by omega))]
      rw [if_neg (hc2)]
      rw [if_pos (hc3 k (Nat.le_refl k) (by omega))]
      refine Eq.trans (ih (k + 1) _ (by omega) (by omega) ho ?_ ?_ ?_ ?_ ?_) (congrArg (lx_mGreet_keepTheirs_b7 v0 v1 N) (fI_step (h := h) (P := hR h v0 13) (o := 0) (k := k) (N := N) (E := fun j => (hI h (hR h v0 11) ((w32 (v1 + (j : Int))).toNat))) (by omega) (by omega) rfl (fun j h1 h2 => ?_)))
      · exact hc0
      · exact fun j h1 h2 => hc1 j (by omega) h2
      · exact hc2
      · exact fun j h1 h2 => hc3 j (by omega) h2
      · exact hd0
      · simp only [hI_sI, hJ_sJ, hI_sJ, hJ_sI, hR_sI, hR_sJ, hd0, false_and, if_false]
def lx_mSeals_seal_b35 (v0 : Nat) (v5 : Nat) (o : Nat) (h : Hp) : Option (Hp) := some h
theorem lq_mSeals_seal_b35 {v0 : Nat} {v5 : Nat} {o : Nat} (n : Nat) : ∀ (k : Nat) (h : Hp), k ≤ 16 → 16 - k < n → o + 16 < 2147483648 → (¬ (hR h v0 23 = 0)) → (∀ j : Nat, k ≤ j → j < 16 → ix (j : Int) (ln h (hR h v0 23))) → (¬ (v5 = 0)) → (∀ j : Nat, k ≤ j → j < 16 → ix (w32 ((o : Int) + (j : Int))) (ln h v5)) → (¬ hR h v0 23 = v5) → f_mSeals_seal_b35_lp n v0 v5 (o : Int) (k : Int) h = lx_mSeals_seal_b35 v0 v5 o (fI h (v5) o k 16 (fun j => (hI h (hR h v0 23) j))) := by
  induction n with
  | zero => intro k h _ hn; omega
  | succ n ih =>
    intro k h hk hn ho hc0 hc1 hc2 hc3 hd0
    show f_mSeals_seal_b35 (f_mSeals_seal_b35_lp n) v0 v5 (o : Int) (k : Int) h = _
    unfold f_mSeals_seal_b35
    by_cases hx0 : (16 : Int) ≤ (k : Int)
    · have hx : (16 : Int) ≤ (k : Int) := by exact hx0
      have hkN : k = 16 := by omega
      subst hkN
      rw [if_pos hx0, fI_nil]
      rfl
    · have hx : ¬ (16 : Int) ≤ (k : Int) := by exact hx0
      rw [if_neg hx0]
      have e1 : w32 ((k : Int) + 1) = ((k + 1 : Nat) : Int) := by unfold w32; omega
      have e0 : (w32 ((o : Int) + (k : Int))).toNat = o + k := by unfold w32; omega
      conv => lhs; simp only [lt1, b2, e1, e0]
      rw [if_neg (hc0)]
      rw [if_pos (hc1 k (Nat.le_refl k) (by omega))]
      rw [if_neg (hc2)]
      rw [if_pos (hc3 k (Nat.le_refl k) (by omega))]
      refine Eq.trans (ih (k + 1) _ (by omega) (by omega) ho ?_ ?_ ?_ ?_ ?_) (congrArg (lx_mSeals_seal_b35 v0 v5 o) (fI_step (h := h) (P := v5) (o := o) (k := k) (N := 16) (E := fun j => (hI h (hR h v0 23) j)) (by omega) (by omega) rfl (fun j h1 h2 => ?_)))
      · exact hc0
      · exact fun j h1 h2 => hc1 j (by omega) h2
      · exact hc2
      · exact fun j h1 h2 => hc3 j (by omega) h2
      · exact hd0
      · simp only [hI_sI, hJ_sJ, hI_sJ, hJ_sI, hR_sI, hR_sJ, hd0, false_and, if_false]
