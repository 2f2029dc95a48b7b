-- uses: 24b
/-! reading: bytes and numbers, by equations -/
theorem hp_ext {h g : Hp} (e0 : h.1 = g.1) (e1 : h.2.1 = g.2.1) (eI : ∀ x k, hI h x k = hI g x k) (eJ : ∀ x k, hJ h x k = hJ g x k) (eR : ∀ x k, hR h x k = hR g x k) : h = g := by
  obtain ⟨a, b, c, d, e⟩ := h
  obtain ⟨a', b', c', d', e'⟩ := g
  have h1 : c = c' := funext fun x => funext fun k => eI x k
  have h2 : d = d' := funext fun x => funext fun k => eJ x k
  have h3 : e = e' := funext fun x => funext fun k => eR x k
  have h0 : a = a' := e0
  have h4 : b = b' := e1
  subst h0 h1 h2 h3 h4
  rfl
theorem sI_ov {h : Hp} {a k : Nat} {u v : Int} : sI (sI h a k u) a k v = sI h a k v := hp_ext rfl rfl (fun x y => by simp only [hI_sI]; split <;> rfl) (fun _ _ => rfl) (fun _ _ => rfl)
theorem sI_id {h : Hp} {a k : Nat} {v : Int} (e : hI h a k = v) : sI h a k v = h := hp_ext rfl rfl (fun x y => by rw [hI_sI]; by_cases g : x = a ∧ y = k; rw [if_pos g, g.1, g.2, e]; rw [if_neg g]) (fun _ _ => rfl) (fun _ _ => rfl)
theorem sI_cm {h : Hp} {a k b l : Nat} {u v : Int} (d : a ≠ b ∨ k ≠ l) : sI (sI h a k u) b l v = sI (sI h b l v) a k u := hp_ext rfl rfl (fun x y => by simp only [hI_sI]; by_cases g : x = b ∧ y = l; rw [if_pos g, if_neg (by omega), if_pos g]; rw [if_neg g, if_neg g]) (fun _ _ => rfl) (fun _ _ => rfl)
def bi (b : Bool) : Int := if b then 1 else 0
/-- a reader at a over the row r: where it is, its end, whether it is over -/
def RD (h : Hp) (a r at_ e : Nat) (b : Bool) : Prop := (a ≠ 0 ∧ r ≠ 0 ∧ a ≠ r) ∧ hR h a 0 = r ∧ hI h a 1 = (at_ : Int) ∧ hI h a 2 = (e : Int) ∧ hI h a 3 = bi b ∧ at_ ≤ e ∧ e ≤ ln h r ∧ e < 1000000
/-- a row's bytes up to an end: of the class, of the model -/
def BRc (h : Hp) (r e : Nat) (B : Nat → Int) : Prop := ∀ j, j < e → (-128 ≤ hI h r j ∧ hI h r j < 128) ∧ hI h r j % 256 = B j
def BRm (h : Hp) (r e : Nat) (B : Nat → Int) : Prop := ∀ j, j < e → (0 ≤ B j ∧ B j < 256) ∧ hI h r j = B j
section
variable {h : Hp} {a r at_ e : Nat} {b : Bool}
theorem RD.nz (R : RD h a r at_ e b) : a ≠ 0 := R.1.1
theorem RD.rz (R : RD h a r at_ e b) : r ≠ 0 := R.1.2.1
theorem RD.ne (R : RD h a r at_ e b) : a ≠ r := R.1.2.2
theorem RD.rn (R : RD h a r at_ e b) : r ≠ a := Ne.symm R.1.2.2
theorem RD.row (R : RD h a r at_ e b) : hR h a 0 = r := R.2.1
theorem RD.i1 (R : RD h a r at_ e b) : hI h a 1 = (at_ : Int) := R.2.2.1
theorem RD.i2 (R : RD h a r at_ e b) : hI h a 2 = (e : Int) := R.2.2.2.1
theorem RD.i3 (R : RD h a r at_ e b) : hI h a 3 = bi b := R.2.2.2.2.1
theorem RD.le (R : RD h a r at_ e b) : at_ ≤ e := R.2.2.2.2.2.1
theorem RD.sm (R : RD h a r at_ e b) : e < 1000000 := R.2.2.2.2.2.2.2
theorem RD.ix (R : RD h a r at_ e b) {i : Nat} (hi : i < e) : ix (i : Int) (ln h r) := ⟨Int.natCast_nonneg _, Int.ofNat_lt.mpr (Nat.lt_of_lt_of_le hi R.2.2.2.2.2.2.1)⟩
end
def adv (h : Hp) (a at_ : Nat) (b : Bool) : Hp := sI (sI h a 3 (bi b)) a 1 (at_ : Int)
section
variable {h : Hp} {a r at_ at' e x y k : Nat} {b b' : Bool} {v : Int} {w : Nat}
theorem adv_at {c : Nat} : sI (adv h a at_ b) a 1 (c : Int) = adv h a c b := sI_ov
theorem adv_adv : adv (adv h a at_ b) a at' b' = adv h a at' b' := by
  unfold adv
  rw [sI_cm (a := a) (k := 1) (b := a) (l := 3) (by omega), sI_ov, sI_ov]
theorem adv_id (R : RD h a r at_ e b) : adv h a at_ b' = sI h a 3 (bi b') := by
  unfold adv
  rw [sI_cm (by omega), sI_id R.2.2.1]
theorem adv_id' (R : RD h a r at_ e b) : adv h a at_ b = h := by rw [adv_id R, sI_id R.2.2.2.2.1]
theorem hI_adv : hI (adv h a at_ b) x y = if x = a ∧ y = 1 then (at_ : Int) else if x = a ∧ y = 3 then bi b else hI h x y := by unfold adv; rw [hI_sI, hI_sI]
theorem hJ_adv : hJ (adv h a at_ b) x y = hJ h x y := rfl
theorem hR_adv : hR (adv h a at_ b) x y = hR h x y := rfl
theorem ln_adv : ln (adv h a at_ b) x = ln h x := rfl
theorem hN_adv : hN (adv h a at_ b) = hN h := rfl
theorem hZ_adv : hZ (adv h a at_ b) = hZ h := rfl
theorem r_adv : hR (adv h a at_ b) = hR h := rfl
theorem l_adv : ln (adv h a at_ b) = ln h := rfl
theorem RD.adv (R : RD h a r at_ e b) (h1 : at' ≤ e) : RD (adv h a at' b') a r at' e b' := by
  obtain ⟨z, r0, r1, r2, r3, r4, r5, r6⟩ := R
  refine ⟨z, r0, ?_, ?_, ?_, h1, r5, r6⟩
  · rw [hI_adv, if_pos ⟨rfl, rfl⟩]
  · rw [hI_adv, if_neg (by omega), if_neg (by omega)]; exact r2
  · rw [hI_adv, if_neg (by omega), if_pos ⟨rfl, rfl⟩]
theorem RD.sI (R : RD h a r at_ e b) (hx : x ≠ a ∨ 3 < k) : RD (sI h x k v) a r at_ e b := by
  obtain ⟨z, r0, r1, r2, r3, r4, r5, r6⟩ := R
  refine ⟨z, r0, ?_, ?_, ?_, r4, r5, r6⟩
  · rw [hI_sI, if_neg (by omega)]; exact r1
  · rw [hI_sI, if_neg (by omega)]; exact r2
  · rw [hI_sI, if_neg (by omega)]; exact r3
theorem RD.sJ (R : RD h a r at_ e b) : RD (sJ h x k v) a r at_ e b := R
theorem RD.sR (R : RD h a r at_ e b) (hx : x ≠ a ∨ k ≠ 0) : RD (sR h x k w) a r at_ e b := by
  obtain ⟨z, r0, r1, r2, r3, r4, r5, r6⟩ := R
  exact ⟨z, by rw [hR_sR, if_neg (by omega)]; exact r0, r1, r2, r3, r4, r5, r6⟩
end
/-- n bytes as a number, the highest first -/
def be (B : Nat → Int) (at_ : Nat) : Nat → Int
  | 0 => 0
  | n + 1 => be B at_ n * 256 + B (at_ + n)
def nsz (B : Nat → Int) (at_ : Nat) : Nat := if B at_ < 64 then 1 else if B at_ < 128 then 2 else if B at_ < 192 then 4 else 8
def nvl (B : Nat → Int) (at_ : Nat) : Int := w64 (be B at_ (nsz B at_)) % (if B at_ < 64 then 64 else if B at_ < 128 then 16384 else if B at_ < 192 then 1073741824 else 4611686018427387904)
/-- passing n bytes: whether it is over, where it then is -/
def pB (at_ e : Nat) (b : Bool) (n : Nat) : Bool := b || decide (e < at_ + n)
def pA (at_ e : Nat) (b : Bool) (n : Nat) : Nat := if pB at_ e b n then at_ else at_ + n
/-- a number -/
def nB (B : Nat → Int) (at_ e : Nat) (b : Bool) : Bool := b || decide (e ≤ at_) || decide (e < at_ + nsz B at_)
def nA (B : Nat → Int) (at_ e : Nat) (b : Bool) : Nat := if nB B at_ e b then at_ else at_ + nsz B at_
def nV (B : Nat → Int) (at_ e : Nat) (b : Bool) : Int := if nB B at_ e b then 0 else nvl B at_
theorem pA_le {at_ e n : Nat} {b : Bool} (h : at_ ≤ e) : pA at_ e b n ≤ e := by
  unfold pA pB
  cases b
  · by_cases g : e < at_ + n
    · simp only [g, decide_true, Bool.or_true, if_true]; exact h
    · simp only [g, decide_false, Bool.or_false, Bool.false_eq_true, if_false]; omega
  · simp only [Bool.true_or, if_true]; exact h
theorem nsz_pos (B : Nat → Int) (at_ : Nat) : 1 ≤ nsz B at_ ∧ nsz B at_ ≤ 8 := by unfold nsz; split; omega; split; omega; split <;> omega
theorem nA_le {B : Nat → Int} {at_ e : Nat} {b : Bool} (h : at_ ≤ e) : nA B at_ e b ≤ e := by
  unfold nA nB
  by_cases g : e < at_ + nsz B at_
  · simp only [g, decide_true, Bool.or_true, if_true]; exact h
  · cases b
    · by_cases g2 : e ≤ at_
      · simp only [g, g2, decide_true, Bool.or_true, Bool.true_or, if_true]; exact h
      · simp only [g, g2, decide_false, Bool.or_false, Bool.false_eq_true, if_false]; omega
    · simp only [Bool.true_or, if_true]; exact h
theorem nV_lt (B : Nat → Int) (at_ e : Nat) (b : Bool) : 0 ≤ nV B at_ e b ∧ nV B at_ e b < 4611686018427387904 := by
  unfold nV
  split
  · omega
  · unfold nvl
    generalize w64 (be B at_ (nsz B at_)) = x
    split
    · omega
    · split
      · omega
      · split <;> omega
theorem be_st {B : Nat → Int} {at_ k : Nat} {y : Int} (hy : y = B (at_ + k)) (hb : 0 ≤ y ∧ y < 256) : lOr (lShl (w64 (be B at_ k)) 8) y = w64 (be B at_ (k + 1)) := by
  have e1 : lShl (w64 (be B at_ k)) 8 = w64 (w64 (be B at_ k) * 2 ^ 8) := lShl_eq (n := 8) (by decide)
  rw [e1, lOr_add (n := 8) (by decide) (by unfold w64; omega) (by omega) (by omega)]
  show _ = w64 (be B at_ k * 256 + B (at_ + k))
  rw [← hy]
  apply w64_congr
  unfold w64
  omega
