/-! the book: a packet is found, in class and model -/
theorem ctO_pos {mk : Nat → Int} {k n : Nat} (hk : k < n) (h0 : mk k % 4 = 0) : 1 ≤ ctO mk n := by
  have := ctO_up (v := mk k + 1) h0 (by lia) n
  rw [if_pos hk] at this
  have := ctO_0 (up1 mk k (mk k + 1)) n
  lia
theorem ctD_up {mk sz : Nat → Int} {k : Nat} {v : Int} (h0 : mk k % 4 = 0) : ∀ n, ctD (up1 mk k v) sz n = ctD mk sz n + if k < n ∧ v % 4 = 1 then sz k else 0 := by
  intro n
  induction n with
  | zero => rfl
  | succ n ih =>
    show ctD (up1 mk k v) sz n + _ = ctD mk sz n + _ + _
    rw [ih]
    by_cases e : n = k
    · subst e
      have : up1 mk n v n = v := by unfold up1; rw [if_pos rfl]
      rw [this, if_neg (show ¬ mk n % 4 = 1 by lia), if_neg (by lia)]
      by_cases c : v % 4 = 1
      · rw [if_pos c, if_pos ⟨by lia, c⟩]
      · rw [if_neg c, if_neg (by lia)]
    · have : up1 mk k v n = mk n := by unfold up1; rw [if_neg e]
      rw [this]
      by_cases c : k < n ∧ v % 4 = 1
      · rw [if_pos c, if_pos (show k < n + 1 ∧ v % 4 = 1 from ⟨by lia, c.2⟩)]; lia
      · rw [if_neg c, if_neg (show ¬ (k < n + 1 ∧ v % 4 = 1) by lia)]; lia
/-- room that the arrays of the book may still take -/
def bps (h : Hp) (p : Nat) : Nat := (8192 - ln h (hR h (p + 4) 0)) + (8192 - ln h (hR h (p + 6) 0)) + 3 * (8192 - ln h (hR h p 0))
def bpot (h : Hp) (a : Nat) : Nat := bps h (a + 6 + 11 * 0) + bps h (a + 6 + 11 * 1) + bps h (a + 6 + 11 * 2)
/-- what a step in space s leaves of the class, of the map of the cells -/
def WE (w w' : Nat → Nat) (hc : Hp) (s : Nat) : Prop := ∀ x, x < hN hc → w' x = w x ∨ (w x / 10 = s + 1 ∧ w' x = 0)
def CFs (w : Nat → Nat) (a s : Nat) (x : Nat) : Prop := w x / 10 = s + 1 ∨ x = a + 3
/-- what came is as it was -/
def CmF (a : Nat) (h h' : Hp) : Prop := ∀ s, s < 3 → (∀ y, 14 ≤ y → hI h' (a + 6 + 11 * s) y = hI h (a + 6 + 11 * s) y) ∧ ∀ i y, 8 ≤ i → i ≤ 10 → hI h' (a + 6 + 11 * s + i) y = hI h (a + 6 + 11 * s + i) y ∧ hJ h' (a + 6 + 11 * s + i) y = hJ h (a + 6 + 11 * s + i) y
theorem CmF.rf {a : Nat} {h : Hp} : CmF a h h := fun _ _ => ⟨fun _ _ => rfl, fun _ _ _ _ => ⟨rfl, rfl⟩⟩
theorem CmF.tr {a : Nat} {h h' h'' : Hp} (A : CmF a h h') (B : CmF a h' h'') : CmF a h h'' := fun s hs => ⟨fun y hy => ((B s hs).1 y hy).trans ((A s hs).1 y hy), fun i y h1 h2 => ⟨((B s hs).2 i y h1 h2).1.trans ((A s hs).2 i y h1 h2).1, ((B s hs).2 i y h1 h2).2.trans ((A s hs).2 i y h1 h2).2⟩⟩
theorem CmF.of {a : Nat} {h h' : Hp} (O : OnI h h') (e : ∀ x y, (a + 6 ≤ x → x ≤ a + 38 → 14 ≤ y ∨ (x ≠ a + 6 ∧ x ≠ a + 17 ∧ x ≠ a + 28) → hI h' x y = hI h x y)) : CmF a h h' := fun s hs => ⟨fun y hy => e _ _ (by lia) (by lia) (Or.inl hy), fun i y h1 h2 => ⟨e _ _ (by lia) (by lia) (Or.inr (by lia)), by rw [O.j]⟩⟩
section
variable {hc hc' h2 h3 hm hm1 hm' : Hp} {a m s n fo fo' k b f e : Nat} {tm sz mk V : Nat → Int} {w : Nat → Nat} {W r st : Int}
theorem LBk.frx (L : LBk hc a) (e1 : ∀ x y, (x = 0 ∨ x = 1 ∨ x = 6 ∨ x = 14 ∨ x = 17 ∨ x = 25 ∨ x = 28 ∨ x = 36) → (x = 6 ∨ x = 17 ∨ x = 28 → 11 ≤ y) → hR hc' (a + x) y = hR hc (a + x) y) (e2 : ∀ x, (x = 1 ∨ x = 4 ∨ x = 5 ∨ x = 15 ∨ x = 16 ∨ x = 26 ∨ x = 27 ∨ x = 37 ∨ x = 38) → ln hc' (a + x) = ln hc (a + x)) : LBk hc' a := by
  refine ⟨L.1, fun q hq => ?_, fun q hq => ?_⟩
  · have t := (by decide +kernel : ∀ q ∈ LBkR, (q.1 = 0 ∨ q.1 = 1 ∨ q.1 = 6 ∨ q.1 = 14 ∨ q.1 = 17 ∨ q.1 = 25 ∨ q.1 = 28 ∨ q.1 = 36) ∧ (q.1 = 6 ∨ q.1 = 17 ∨ q.1 = 28 → 11 ≤ q.2.1)) q hq
    rw [e1 q.1 q.2.1 t.1 t.2]
    exact L.2.1 q hq
  · have t := (by decide +kernel : ∀ q ∈ LBkU, (q.1 = 1 ∨ q.1 = 4 ∨ q.1 = 5 ∨ q.1 = 15 ∨ q.1 = 16 ∨ q.1 = 26 ∨ q.1 = 27 ∨ q.1 = 37 ∨ q.1 = 38)) q hq
    rw [e2 q.1 t]
    exact L.2.2 q hq
theorem BkR.ws (B : BkR hc a w hm m) {s : Nat} (hs : s < 3) : SpW hc (a + 6 + 11 * s) s w := by
  obtain ⟨n, tm, sz, mk, fo, W, _⟩ := B.2.2.2.1 s hs
  exact W
/-- the codes of the book's own cells, and of those of the ranges -/
theorem BkR.wx (B : BkR hc a w hm m) {x : Nat} (hx : x = 0 ∨ x = 1 ∨ x = 4 ∨ x = 5 ∨ x = 6 ∨ x = 14 ∨ x = 15 ∨ x = 16 ∨ x = 17 ∨ x = 25 ∨ x = 26 ∨ x = 27 ∨ x = 28 ∨ x = 36 ∨ x = 37 ∨ x = 38) : (50 ≤ w (a + x) ∧ w (a + x) ≤ 55) ∨ ∃ s, s < 3 ∧ (w (a + x) = 10 * s + 11 ∨ w (a + x) = 10 * s + 19) := by
  have g := B.2.2.1
  have W := fun s hs => B.ws (s := s) hs
  rcases hx with rfl | rfl | rfl | rfl | rfl | rfl | rfl | rfl | rfl | rfl | rfl | rfl | rfl | rfl | rfl | rfl
  · left; rw [Nat.add_zero, g.1]; decide
  · left; rw [g.2.1]; decide
  · left; rw [g.2.2.2.2.1]; decide
  · left; rw [g.2.2.2.2.2]; decide
  · right; exact ⟨0, by decide, Or.inl (W 0 (by decide)).1⟩
  · right; exact ⟨0, by decide, Or.inr (W 0 (by decide)).2.2.2.2.2.2.2.2.1⟩
  · right; exact ⟨0, by decide, Or.inr (W 0 (by decide)).2.2.2.2.2.2.2.2.2.1⟩
  · right; exact ⟨0, by decide, Or.inr (W 0 (by decide)).2.2.2.2.2.2.2.2.2.2.1⟩
  · right; exact ⟨1, by decide, Or.inl (W 1 (by decide)).1⟩
  · right; exact ⟨1, by decide, Or.inr (W 1 (by decide)).2.2.2.2.2.2.2.2.1⟩
  · right; exact ⟨1, by decide, Or.inr (W 1 (by decide)).2.2.2.2.2.2.2.2.2.1⟩
  · right; exact ⟨1, by decide, Or.inr (W 1 (by decide)).2.2.2.2.2.2.2.2.2.2.1⟩
  · right; exact ⟨2, by decide, Or.inl (W 2 (by decide)).1⟩
  · right; exact ⟨2, by decide, Or.inr (W 2 (by decide)).2.2.2.2.2.2.2.2.1⟩
  · right; exact ⟨2, by decide, Or.inr (W 2 (by decide)).2.2.2.2.2.2.2.2.2.1⟩
  · right; exact ⟨2, by decide, Or.inr (W 2 (by decide)).2.2.2.2.2.2.2.2.2.2.1⟩
end
