/-! writing: bytes and numbers -/
/-- byte j of n of a number, the highest first -/
def BY (v : Int) (n j : Nat) : Int := v / 2 ^ (8 * (n - 1 - j)) % 256
theorem BY_lt (v : Int) (n j : Nat) : 0 ≤ BY v n j ∧ BY v n j < 256 := ⟨Int.emod_nonneg _ (by decide), Int.emod_lt_of_pos _ (by decide)⟩
/-- n bytes C are written at a place -/
def wrC (h : Hp) (a r at_ n : Nat) (C : Nat → Int) : Hp := fI (adv h a (at_ + n) false) r at_ 0 n (fun j => i8 (C j))
section
variable {h : Hp} {a r at_ e n : Nat} {b : Bool} {C : Nat → Int}
theorem hI_wrC {x y : Nat} : hI (wrC h a r at_ n C) x y = if x = r ∧ at_ ≤ y ∧ y < at_ + n then i8 (C (y - at_)) else hI (adv h a (at_ + n) false) x y := by
  unfold wrC
  rw [hI_fI, Nat.add_zero]
theorem wrC_st (hr : r ≠ a) : sI (sI (wrC h a r at_ n C) a 1 ((at_ + n + 1 : Nat) : Int)) r (at_ + n) (i8 (C n)) = wrC h a r at_ (n + 1) C := by
  refine hp_ext rfl rfl (fun x y => ?_) (fun _ _ => rfl) (fun _ _ => rfl)
  rw [hI_sI, hI_sI, hI_wrC, hI_wrC, hI_adv, hI_adv]
  by_cases c1 : x = r
  · subst c1
    have n1 : ¬ (x = a ∧ y = 1) := by lia
    have n2 : ¬ (x = a ∧ y = 3) := by lia
    by_cases c2 : y = at_ + n
    · subst c2
      rw [if_pos ⟨rfl, rfl⟩, if_pos (by lia), show at_ + n - at_ = n by lia]
    · rw [if_neg (by lia)]
      simp only [n1, n2, if_false]
      by_cases c3 : at_ ≤ y ∧ y < at_ + n
      · rw [if_pos ⟨trivial, c3⟩, if_pos ⟨trivial, by lia, by lia⟩]
      · rw [if_neg (by lia), if_neg (by lia)]
  · simp only [c1, false_and, if_false]
    by_cases c2 : x = a ∧ y = 1
    · rw [if_pos c2, if_pos c2]; rfl
    · simp only [c2, if_false]
theorem wrC_0 : wrC h a r at_ 0 C = adv h a at_ false := by
  refine hp_ext rfl rfl (fun x y => ?_) (fun _ _ => rfl) (fun _ _ => rfl)
  rw [hI_wrC, if_neg (by lia)]; rfl
theorem by_i8 {v : Int} (hv : c64 v) {k : Nat} (hk : k < 8) : i8 (i8 (w32 (lShr v (w32 (8 * (k : Int)))))) = i8 (v / 2 ^ (8 * k) % 256) := by
  have e1 : w32 (8 * (k : Int)) = ((8 * k : Nat) : Int) := by unfold w32; lia
  rw [e1, lShr_eq hv (by lia)]
  generalize v / 2 ^ (8 * k) = z
  unfold i8 w32
  lia
theorem c_putL {v : Int} (hv : c64 v) (R : RD h a r at_ e b) (hn : n ≤ 8) (hl : at_ + n ≤ e) (f : Nat) : ∀ m, m ≤ n → n - m < f → f_cBytes_putMany_b13_lp f a v ((n : Int) - 1 - (m : Int)) (wrC h a r at_ m (BY v n)) = some (wrC h a r at_ n (BY v n)) := by
  induction f with
  | zero => intro m _ hf; lia
  | succ f ih =>
    intro m hm hf
    show f_cBytes_putMany_b13 (f_cBytes_putMany_b13_lp f) a v ((n : Int) - 1 - (m : Int)) (wrC h a r at_ m (BY v n)) = _
    unfold f_cBytes_putMany_b13
    have sm := R.sm
    have rn := R.rn
    by_cases hx : (n : Int) - 1 - (m : Int) < 0
    · have : m = n := by lia
      subst this
      rw [if_pos hx]
    · have l1 : at_ + m < e := by lia
      have a1 : hI (wrC h a r at_ m (BY v n)) a 1 = ((at_ + m : Nat) : Int) := by rw [hI_wrC, if_neg (by lia), hI_adv, if_pos ⟨rfl, rfl⟩]
      have r1 : hR (wrC h a r at_ m (BY v n)) a 0 = r := R.row
      have l2 : ∀ x k u, ln (sI (wrC h a r at_ m (BY v n)) x k u) r = ln h r := fun _ _ _ => rfl
      have ek : (n : Int) - 1 - (m : Int) = ((n - 1 - m : Nat) : Int) := by lia
      have w1 : w32 ((n : Int) - 1 - (m : Int) + (-1)) = (n : Int) - 1 - ((m + 1 : Nat) : Int) := by unfold w32; lia
      rw [if_neg hx, lt1_eq, r1, if_neg R.rz, a1, l2, if_pos (R.ix l1), lt1_eq, Int.toNat_natCast, w1, w_k1 (by lia), ek, by_i8 hv (by lia)]
      have e2 : i8 (v / 2 ^ (8 * (n - 1 - m)) % 256) = i8 (BY v n m) := rfl
      rw [e2, wrC_st rn]
      exact ih (m + 1) (by lia) (by lia)
theorem c_putMany {v : Int} (hv : c64 v) (R : RD h a r at_ e b) (hn : n ≤ 8) : f_cBytes_putMany a v (n : Int) h = some (if pB at_ e b n then adv h a at_ true else wrC h a r at_ n (BY v n)) := by
  unfold f_cBytes_putMany
  rw [c_step R (by lia), b2_some]
  by_cases g : pB at_ e b n = true
  · rw [g, if_pos rfl, if_pos rfl, if_pos rfl, adv_id R]
  · have g' : pB at_ e b n = false := by simpa using g
    obtain ⟨rfl, le⟩ := pB_inv g'
    have w1 : w32 ((n : Int) - 1) = (n : Int) - 1 - ((0 : Nat) : Int) := by unfold w32; lia
    have := c_putL hv R hn le FU 0 (by lia) (by unfold FU; lia)
    rw [wrC_0, adv_id R] at this
    rw [g']
    simp only [Bool.false_eq_true, if_false, Int.reduceEq]
    rw [lt1_eq, w1]
    exact this
theorem c_put {v : Int} (R : RD h a r at_ e b) : f_cBytes_put a v h = some (if pB at_ e b 1 then adv h a at_ true else wrC h a r at_ 1 (fun _ => v)) := by
  unfold f_cBytes_put
  have cs := c_step R (n := 1) (by decide)
  rw [show ((1 : Nat) : Int) = 1 from rfl] at cs
  rw [cs, b2_some]
  clear cs
  have sm := R.sm
  have rn := R.rn
  by_cases g : pB at_ e b 1 = true
  · rw [g, if_pos rfl, if_pos rfl, if_pos rfl, adv_id R]
  · have g' : pB at_ e b 1 = false := by simpa using g
    obtain ⟨rfl, le⟩ := pB_inv g'
    have a1 : hI (sI h a 3 (bi false)) a 1 = (at_ : Int) := by rw [hI_sI, if_neg (by lia)]; exact R.i1
    have i88 : i8 (i8 v) = i8 v := by unfold i8; lia
    have ad : sI (sI h a 3 (bi false)) a 1 ((at_ + 1 : Nat) : Int) = adv h a (at_ + 1) false := rfl
    rw [g']
    simp only [Bool.false_eq_true, if_false, Int.reduceEq]
    rw [lt1_eq, a1, w_k1 (by lia), ad, hR_sI, R.row, if_neg R.rz, ln_adv, if_pos (R.ix le), lt1_eq, Int.toNat_natCast, i88]
    have := wrC_st (h := h) (a := a) (r := r) (at_ := at_) (n := 0) (C := fun _ => v) rn
    simp only [wrC_0, Nat.add_zero, Nat.zero_add, adv_at] at this
    rw [this]
end
