/-! the book: packets of a space; counts; marks -/
/-- only int slots differ -/
def OnI (h h' : Hp) : Prop := h'.1 = h.1 ∧ h'.2.1 = h.2.1 ∧ h'.2.2.2 = h.2.2.2
section
variable {h h' h'' : Hp} {a k : Nat} {v : Int}
theorem OnI.j (O : OnI h h') : hJ h' = hJ h := by unfold hJ; rw [O.2.2]
theorem OnI.r (O : OnI h h') : hR h' = hR h := by unfold hR; rw [O.2.2]
theorem OnI.l (O : OnI h h') : ln h' = ln h := by unfold ln; rw [O.2.1]
theorem OnI.kk (O : OnI h h') : kd h' = kd h := by unfold kd; rw [O.2.1]
theorem OnI.n (O : OnI h h') : hN h' = hN h := by unfold hN; rw [O.1]
theorem OnI.z (O : OnI h h') : hZ h' = hZ h := by unfold hZ; rw [O.1]
theorem OnI.refl : OnI h h := ⟨rfl, rfl, rfl⟩
theorem OnI.trans (O : OnI h h') (P : OnI h' h'') : OnI h h'' := ⟨P.1.trans O.1, P.2.1.trans O.2.1, P.2.2.trans O.2.2⟩
theorem OnI.s (O : OnI h h') : OnI h (sI h' a k v) := ⟨O.1, O.2.1, O.2.2⟩
end
/-- how many packets are out; are out and eliciting; bytes in flight -/
def ctO (mk : Nat → Int) : Nat → Int
  | 0 => 0
  | n + 1 => ctO mk n + if mk n % 4 = 0 then 1 else 0
def ctE (mk : Nat → Int) : Nat → Int
  | 0 => 0
  | n + 1 => ctE mk n + if mk n % 8 = 4 then 1 else 0
def ctF (mk sz : Nat → Int) : Nat → Int
  | 0 => 0
  | n + 1 => ctF mk sz n + if mk n % 4 = 0 ∧ mk n / 8 % 2 = 1 then sz n else 0
/-- no packet below fo is out, and fo is, if it was sent -/
def FoP (n : Nat) (mk : Nat → Int) (fo : Nat) : Prop := fo ≤ n ∧ (∀ j, j < fo → mk j % 4 ≠ 0) ∧ (fo < n → mk fo % 4 = 0)
theorem FoP_uniq {n fo fo' : Nat} {mk : Nat → Int} (A : FoP n mk fo) (B : FoP n mk fo') : fo = fo' := by
  obtain ⟨a1, a2, a3⟩ := A
  obtain ⟨b1, b2, b3⟩ := B
  by_cases c : fo < fo'
  · exact absurd (a3 (by lia)) (b2 fo c)
  · by_cases d : fo' < fo
    · exact absurd (b3 (by lia)) (a2 fo' d)
    · lia
theorem ctO_up {mk : Nat → Int} {k : Nat} {v : Int} (h0 : mk k % 4 = 0) (h1 : v % 4 ≠ 0) : ∀ n, ctO (up1 mk k v) n = ctO mk n - if k < n then 1 else 0 := by
  intro n
  induction n with
  | zero => rfl
  | succ n ih =>
    show ctO (up1 mk k v) n + _ = ctO mk n + _ - _
    rw [ih]
    by_cases e : n = k
    · subst e
      have : up1 mk n v n = v := by unfold up1; rw [if_pos rfl]
      rw [this, if_neg h1, if_neg (by lia), if_pos h0, if_pos (by lia)]; lia
    · have : up1 mk k v n = mk n := by unfold up1; rw [if_neg e]
      rw [this]
      by_cases c : k < n
      · rw [if_pos c, if_pos (show k < n + 1 by lia)]; lia
      · rw [if_neg c, if_neg (show ¬ k < n + 1 by lia)]; lia
theorem ctE_up {mk : Nat → Int} {k : Nat} {v : Int} (h0 : mk k % 4 = 0) (h1 : v % 4 ≠ 0) : ∀ n, ctE (up1 mk k v) n = ctE mk n - if k < n ∧ mk k / 4 % 2 = 1 then 1 else 0 := by
  intro n
  induction n with
  | zero => rfl
  | succ n ih =>
    show ctE (up1 mk k v) n + _ = ctE mk n + _ - _
    rw [ih]
    by_cases e : n = k
    · subst e
      have : up1 mk n v n = v := by unfold up1; rw [if_pos rfl]
      rw [this, if_neg (by lia), if_neg (by lia)]
      by_cases c : mk n / 4 % 2 = 1
      · rw [if_pos (by lia), if_pos ⟨by lia, c⟩]; lia
      · rw [if_neg (by lia), if_neg (by lia)]; lia
    · have : up1 mk k v n = mk n := by unfold up1; rw [if_neg e]
      rw [this]
      by_cases c : k < n ∧ mk k / 4 % 2 = 1
      · rw [if_pos c, if_pos (show k < n + 1 ∧ mk k / 4 % 2 = 1 from ⟨by lia, c.2⟩)]; lia
      · rw [if_neg c, if_neg (show ¬ (k < n + 1 ∧ mk k / 4 % 2 = 1) by lia)]; lia
theorem ctF_up {mk sz : Nat → Int} {k : Nat} {v : Int} (h0 : mk k % 4 = 0) (h1 : v % 4 ≠ 0) : ∀ n, ctF (up1 mk k v) sz n = ctF mk sz n - if k < n ∧ mk k / 8 % 2 = 1 then sz k else 0 := by
  intro n
  induction n with
  | zero => rfl
  | succ n ih =>
    show ctF (up1 mk k v) sz n + _ = ctF mk sz n + _ - _
    rw [ih]
    by_cases e : n = k
    · subst e
      have : up1 mk n v n = v := by unfold up1; rw [if_pos rfl]
      rw [this, if_neg (by lia), if_neg (by lia)]
      by_cases c : mk n / 8 % 2 = 1
      · rw [if_pos ⟨h0, c⟩, if_pos ⟨by lia, c⟩]; lia
      · rw [if_neg (by lia), if_neg (by lia)]; lia
    · have : up1 mk k v n = mk n := by unfold up1; rw [if_neg e]
      rw [this]
      by_cases c : k < n ∧ mk k / 8 % 2 = 1
      · rw [if_pos c, if_pos (show k < n + 1 ∧ mk k / 8 % 2 = 1 from ⟨by lia, c.2⟩)]; lia
      · rw [if_neg c, if_neg (show ¬ (k < n + 1 ∧ mk k / 8 % 2 = 1) by lia)]; lia
theorem ctO_0 (mk : Nat → Int) : ∀ n, 0 ≤ ctO mk n ∧ ctO mk n ≤ n := by
  intro n
  induction n with
  | zero => exact ⟨Int.le_refl 0, Int.le_refl 0⟩
  | succ n ih => show 0 ≤ ctO mk n + _ ∧ ctO mk n + _ ≤ _; split <;> lia
theorem ctE_0 (mk : Nat → Int) : ∀ n, 0 ≤ ctE mk n ∧ ctE mk n ≤ n := by
  intro n
  induction n with
  | zero => exact ⟨Int.le_refl 0, Int.le_refl 0⟩
  | succ n ih => show 0 ≤ ctE mk n + _ ∧ ctE mk n + _ ≤ _; split <;> lia
theorem ctF_0 {mk sz : Nat → Int} : ∀ {n}, (∀ k, k < n → 0 ≤ sz k ∧ sz k < 32768) → 0 ≤ ctF mk sz n ∧ ctF mk sz n ≤ 32768 * n := by
  intro n
  induction n with
  | zero => intro _; exact ⟨Int.le_refl 0, Int.le_refl 0⟩
  | succ n ih =>
    intro hs
    have := ih (fun k hk => hs k (by lia))
    have := hs n (by lia)
    show 0 ≤ ctF mk sz n + _ ∧ ctF mk sz n + _ ≤ _
    split <;> lia
/-- bits of a mark -/
theorem mk_and {v : Int} (h : 0 ≤ v ∧ v < 32) : iAnd v 3 = v % 4 ∧ (iAnd v 4 = 0 ↔ v / 4 % 2 = 0) ∧ (iAnd v 8 = 0 ↔ v / 8 % 2 = 0) ∧ (iAnd v 16 = 0 ↔ v / 16 % 2 = 0) ∧ (v % 4 = 0 → i8 (i8 (iOr (iAnd v (-4)) 1)) = v + 1 ∧ i8 (i8 (iOr (iAnd v (-4)) 2)) = v + 2) := by
  obtain ⟨m, rfl⟩ : ∃ m : Nat, v = m := ⟨v.toNat, by lia⟩
  have hm : m < 32 := by lia
  have key : ∀ m : Nat, m < 32 → (iAnd (m : Int) 3 = (m : Int) % 4 ∧ (iAnd (m : Int) 4 = 0 ↔ (m : Int) / 4 % 2 = 0) ∧ (iAnd (m : Int) 8 = 0 ↔ (m : Int) / 8 % 2 = 0) ∧ (iAnd (m : Int) 16 = 0 ↔ (m : Int) / 16 % 2 = 0) ∧ ((m : Int) % 4 = 0 → i8 (i8 (iOr (iAnd (m : Int) (-4)) 1)) = (m : Int) + 1 ∧ i8 (i8 (iOr (iAnd (m : Int) (-4)) 2)) = (m : Int) + 2)) := by decide
  exact key m hm
