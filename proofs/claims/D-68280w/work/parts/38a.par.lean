/-! parameters: what both read of a row of bytes -/
abbrev PSt : Type := (Nat → Int) × (Nat → Int) × (Nat → Int)
def pByt (k : Nat) : Bool := decide (k = 0 ∨ k = 2 ∨ k = 13 ∨ k = 15 ∨ k = 16)
def pAln (k : Nat) : Bool := decide (k = 0 ∨ k = 2 ∨ k = 13 ∨ k = 16)
def pRng (k : Nat) (v : Int) : Bool := if k = 3 then decide (1200 ≤ v) else if k = 8 ∨ k = 9 then decide (v ≤ 1152921504606846976) else if k = 10 then decide (v ≤ 20) else if k = 11 then decide (v < 16384) else if k = 14 then decide (2 ≤ v) else true
def pOk (T : Nat → Int) (k n a : Nat) : Bool := if k = 12 then decide (n = 0) else if k = 2 then decide (n = 16) else if k = 13 then decide (41 ≤ n ∧ n ≤ 61) else if pByt k then decide (n ≤ 20) else decide (n = nsz T a) && pRng k (nvl T a)
def pVal (T : Nat → Int) (k n a : Nat) : Int := if pByt k then (n : Int) else if k = 12 then 1 else nvl T a
def pUp (s : PSt) (k : Nat) (v a : Int) : PSt := (up1 s.1 k 1, up1 s.2.1 k v, up1 s.2.2 k a)
/-- a row T of N bytes, with those parameters that only an answer has, or not -/
def pRun (T : Nat → Int) (N : Nat) (ans : Bool) : Nat → Nat → PSt → Option PSt
  | 0, _, _ => none
  | f + 1, at_, s =>
    if N ≤ at_ then some s
    else if nB T (nA T at_ N false) N (nB T at_ N false) = true ∨ ((N - nA T (nA T at_ N false) N (nB T at_ N false) : Nat) : Int) < nV T (nA T at_ N false) N (nB T at_ N false) then none
    else if 17 ≤ nV T at_ N false then pRun T N ans f (nA T (nA T at_ N false) N (nB T at_ N false) + (nV T (nA T at_ N false) N (nB T at_ N false)).toNat) s
    else if s.1 (nV T at_ N false).toNat ≠ 0 ∨ (pAln (nV T at_ N false).toNat = true ∧ ans = false) ∨ pOk T (nV T at_ N false).toNat (nV T (nA T at_ N false) N (nB T at_ N false)).toNat (nA T (nA T at_ N false) N (nB T at_ N false)) = false then none
    else pRun T N ans f (nA T (nA T at_ N false) N (nB T at_ N false) + (nV T (nA T at_ N false) N (nB T at_ N false)).toNat) (pUp s (nV T at_ N false).toNat (pVal T (nV T at_ N false).toNat (nV T (nA T at_ N false) N (nB T at_ N false)).toNat (nA T (nA T at_ N false) N (nB T at_ N false))) (nA T (nA T at_ N false) N (nB T at_ N false) : Nat))
/-- the ids whose numbers matter -/
def pRel (k : Nat) : Prop := k = 0 ∨ k = 1 ∨ (4 ≤ k ∧ k ≤ 9) ∨ k = 15
section
variable {h : Hp} {P a r N at_ : Nat} {T : Nat → Int} {s : PSt}
/-- the class's parameters: flags, numbers, places -/
def PaC (h : Hp) (P : Nat) (s : PSt) : Prop := LPar h P ∧ (∀ k, k < 17 → hI h (P + 2) k = s.1 k ∧ (s.1 k = 0 ∨ s.1 k = 1)) ∧ (∀ k, pRel k → hJ h (P + 1) k = s.2.1 k) ∧ ∀ k, k < 17 → s.1 k ≠ 0 → hI h (P + 3) k = s.2.2 k
/-- the reader lies apart -/
def PaA (P a r : Nat) : Prop := (a < P ∨ P + 3 < a) ∧ (r < P ∨ P + 3 < r)
theorem c_pisBytes {k : Nat} (hk : k < 17) : f_cParameters_isBytes (k : Int) h = some (if pByt k then 1 else 0, h) := by
  have : ∀ k : Nat, k < 17 → ∀ h : Hp, f_cParameters_isBytes (k : Int) h = some (if pByt k then 1 else 0, h) := by
    intro k hk h
    rcases (show k = 0 ∨ k = 1 ∨ k = 2 ∨ k = 3 ∨ k = 4 ∨ k = 5 ∨ k = 6 ∨ k = 7 ∨ k = 8 ∨ k = 9 ∨ k = 10 ∨ k = 11 ∨ k = 12 ∨ k = 13 ∨ k = 14 ∨ k = 15 ∨ k = 16 by lia) with q | q | q | q | q | q | q | q | q | q | q | q | q | q | q | q | q <;> subst q <;> rfl
  exact this k hk h
theorem c_pisAnswer {k : Nat} (hk : k < 17) : f_cParameters_isAnswer (k : Int) h = some (if pAln k then 1 else 0, h) := by
  have : ∀ k : Nat, k < 17 → ∀ h : Hp, f_cParameters_isAnswer (k : Int) h = some (if pAln k then 1 else 0, h) := by
    intro k hk h
    rcases (show k = 0 ∨ k = 1 ∨ k = 2 ∨ k = 3 ∨ k = 4 ∨ k = 5 ∨ k = 6 ∨ k = 7 ∨ k = 8 ∨ k = 9 ∨ k = 10 ∨ k = 11 ∨ k = 12 ∨ k = 13 ∨ k = 14 ∨ k = 15 ∨ k = 16 by lia) with q | q | q | q | q | q | q | q | q | q | q | q | q | q | q | q | q <;> subst q <;> rfl
  exact this k hk h
theorem m_phasBytes {k : Nat} (hk : k < 17) : f_mSide_hasBytes (k : Int) h = some (if pByt k then 1 else 0, h) := by
  have : ∀ k : Nat, k < 17 → ∀ h : Hp, f_mSide_hasBytes (k : Int) h = some (if pByt k then 1 else 0, h) := by
    intro k hk h
    rcases (show k = 0 ∨ k = 1 ∨ k = 2 ∨ k = 3 ∨ k = 4 ∨ k = 5 ∨ k = 6 ∨ k = 7 ∨ k = 8 ∨ k = 9 ∨ k = 10 ∨ k = 11 ∨ k = 12 ∨ k = 13 ∨ k = 14 ∨ k = 15 ∨ k = 16 by lia) with q | q | q | q | q | q | q | q | q | q | q | q | q | q | q | q | q <;> subst q <;> rfl
  exact this k hk h
theorem c_pfits {k : Nat} {v : Int} (hk : k < 17) : f_cParameters_fits (k : Int) v h = some (if pRng k v then 1 else 0, h) := by
  have e : ∀ (c : Prop) [Decidable c] (d : Prop) [Decidable d], (c ↔ ¬ d) → (if c then some ((0 : Int), h) else some (1, h)) = some ((if decide d = true then (1 : Int) else 0), h) := fun c _ d _ q => by
    by_cases z : d
    · rw [if_neg (by rw [q]; exact fun y => y z), if_pos (decide_eq_true z)]
    · rw [if_pos (q.2 z), if_neg (by rw [decide_eq_true_iff]; exact z)]
  rcases (show k = 0 ∨ k = 1 ∨ k = 2 ∨ k = 3 ∨ k = 4 ∨ k = 5 ∨ k = 6 ∨ k = 7 ∨ k = 8 ∨ k = 9 ∨ k = 10 ∨ k = 11 ∨ k = 12 ∨ k = 13 ∨ k = 14 ∨ k = 15 ∨ k = 16 by lia) with q | q | q | q | q | q | q | q | q | q | q | q | q | q | q | q | q <;> subst q
  all_goals first | rfl | skip
  · exact e (v < 1200) (1200 ≤ v) (by lia)
  · exact e (1152921504606846976 < v) (v ≤ 1152921504606846976) (by lia)
  · exact e (1152921504606846976 < v) (v ≤ 1152921504606846976) (by lia)
  · exact e (20 < v) (v ≤ 20) (by lia)
  · exact e (16384 ≤ v) (v < 16384) (by lia)
  · exact e (v < 2) (2 ≤ v) (by lia)
end
