/-! the book: losses, the parts of class and model -/
theorem fu1 {α : Type} {x : Nat → α} {y : α} (h : ∀ F, 99999999 < F → x F = y) : x FU = y := h FU (by unfold FU; decide)
section
variable {hc hm : Hp} {a m p s n fo : Nat} {tm sz mk : Nat → Int} {w : Nat → Nat}
theorem c_perL (W : SpW hc p s w) (K : PkC hc p n tm sz mk fo) (d : hI hc p 10 = 0) {f l : Nat} (hl : l < n) (F : Nat) : ∀ (k : Nat) (v : Int), f ≤ k → k ≤ l → l - k < F → (v = 0 ∨ v = 1) → (v = 1 ↔ ∀ i, f ≤ i → i < k → mk i % 4 ≠ 1) → wp (f_cBook_persists_b34_lp F a p (l : Int) v (k : Int) hc) (fun o => o.2 = hc ∧ (o.1 = 0 ∨ o.1 = 1) ∧ (o.1 = 1 ↔ ∀ i, f ≤ i → i < l → mk i % 4 ≠ 1)) := by
  induction F with
  | zero => intro k v _ _ hf; lia
  | succ F ih =>
    intro k v hfk hkl hf v01 V
    show wp (f_cBook_persists_b34 (f_cBook_persists_b34_lp F) a p (l : Int) v (k : Int) hc) _
    unfold f_cBook_persists_b34 f_cBook_persists_b59 f_cBook_persists_b60
    by_cases c : (l : Int) ≤ k
    · have : k = l := by lia
      rw [if_pos c]
      exact wp_01 v01 ⟨rfl, v01, by rw [← this]; exact V⟩
    · have p0 : p ≠ 0 := wne (w := w) (by rw [W.1, W.2.2.2.2.2.2.2.2.2.2.2]; lia)
      rw [if_neg c, if_neg p0, w_k1 (by have := K.2.2.1; lia), c_state W K (by lia) d, b2_some]
      have st : ∀ v' : Int, (v' = 1 ↔ v = 1 ∧ mk k % 4 ≠ 1) → (v' = 1 ↔ ∀ i, f ≤ i → i < k + 1 → mk i % 4 ≠ 1) := fun v' h => by
        rw [h, V]
        constructor
        · rintro ⟨h1, h2⟩ i hi1 hi2
          by_cases e : i = k
          · rw [e]; exact h2
          · exact h1 i hi1 (by lia)
        · intro h1
          exact ⟨fun i h2 h3 => h1 i h2 (by lia), h1 k hfk (by lia)⟩
      by_cases cv : v = 0
      · rw [if_pos cv]
        exact ih (k + 1) 0 (by lia) (by lia) (by lia) (Or.inl rfl) (st 0 (by lia))
      · rw [if_neg cv]
        by_cases cm : mk k % 4 = 1
        · rw [if_pos cm]
          exact ih (k + 1) 0 (by lia) (by lia) (by lia) (Or.inl rfl) (st 0 (by lia))
        · rw [if_neg cm]
          exact ih (k + 1) 1 (by lia) (by lia) (by lia) (Or.inr rfl) (st 1 (by lia))
theorem c_per (L : LBk hc a) (W : SpW hc p s w) (K : PkC hc p n tm sz mk fo) (d : hI hc p 10 = 0) {f l : Nat} (hfl : f ≤ l) (hl : l < n) : wp (f_cBook_persists a p (f : Int) (l : Int) hc) (fun o => o.2 = hc ∧ (o.1 = 0 ∨ o.1 = 1) ∧ (o.1 = 1 ↔ w32 (3 * patV (hI hc (a + 2) 0) (hI hc (a + 2) 1) 1) < w32 (tm l - tm f) ∧ ∀ i, f ≤ i → i < l → mk i % 4 ≠ 1)) := by
  have p0 : p ≠ 0 := wne (w := w) (by rw [W.1, W.2.2.2.2.2.2.2.2.2.2.2]; lia)
  have z1 : hR hc p 0 ≠ 0 := wne (w := w) (by rw [W.2.1, W.2.2.2.2.2.2.2.2.2.2.2]; lia)
  have z2 : ¬ (a + 2 = 0) := by lia
  have kl := K.2.2.2.2.1.1
  have x1 : ix (f : Int) (ln hc (hR hc p 0)) := ⟨by lia, by lia⟩
  have x2 : ix (l : Int) (ln hc (hR hc p 0)) := ⟨by lia, by lia⟩
  unfold f_cBook_persists
  rw [if_neg p0, if_neg z1, if_pos x2, if_pos x1, L.r0_1, if_neg z2, c_tpat, b2_some]
  simp only [Int.toNat_natCast, (K.2.2.2.2.2.1 f (by lia)).1, (K.2.2.2.2.2.1 l hl).1]
  by_cases c : w32 (3 * patV (hI hc (a + 2) 0) (hI hc (a + 2) 1) 1) < w32 (tm l - tm f)
  · rw [if_pos c]
    have := K.2.2.1
    refine wp_of (c_perL (a := a) W K d (f := f) hl FU f 1 (Nat.le_refl _) hfl (by unfold FU; lia) (Or.inr rfl) ⟨fun _ i h1 h2 => by lia, fun _ => rfl⟩) (fun o _ q => ⟨q.1, q.2.1, ?_⟩)
    rw [q.2.2]
    exact ⟨fun h => ⟨c, h⟩, fun h => h.2⟩
  · rw [if_neg c, wp_some]
    exact ⟨rfl, Or.inl rfl, fun z => absurd (show (0 : Int) = 1 from z) (by decide), fun z => absurd z.1 c⟩
theorem m_perL {R : Hp → Prop} (K : PkM hm m s n tm sz mk fo) {f l : Nat} (hfl : f ≤ l) (hl : l < n) (K0 : ¬ (w32 (3 * patV (hI hm m 18) (hI hm m 19) 1) < w32 (tm l - tm f) ∧ ∀ i, f ≤ i → i < l → mk i % 4 ≠ 1) → R hm) (K1 : (w32 (3 * patV (hI hm m 18) (hI hm m 19) 1) < w32 (tm l - tm f) ∧ ∀ i, f ≤ i → i < l → mk i % 4 ≠ 1) → R (sI (sI hm m 24 2400) m 26 (-1))) (F : Nat) : ∀ (k : Nat) (v : Int), f ≤ k → k ≤ l → l - k < F → (v = 0 ∨ v = 1) → (v = 0 ↔ ∀ i, f ≤ i → i < k → mk i % 4 ≠ 1) → wp (f_mBook_persists_b120_lp F m (s : Int) (f : Int) (l : Int) v (k : Int) hm) R := by
  induction F with
  | zero => intro k v _ _ hf; lia
  | succ F ih =>
    intro k v hfk hkl hf v01 V
    show wp (f_mBook_persists_b120 (f_mBook_persists_b120_lp F) m (s : Int) (f : Int) (l : Int) v (k : Int) hm) R
    unfold f_mBook_persists_b120 f_mBook_persists_b149 f_mBook_persists_b154
    obtain ⟨⟨L, g0⟩, k1, k2, k3, k4, k5, k6⟩ := K
    have a0 := L.1
    have z1 : ¬ (m + 3 = 0) := by lia
    have z2 : ¬ (m + 4 = 0) := by lia
    simp only [L.r0_5, L.r0_6, L.l3, L.l4, if_neg z1, if_neg z2]
    by_cases c : (l : Int) ≤ k
    · have e : k = l := by lia
      rw [if_pos c]
      by_cases cv : v = 0
      · rw [if_neg (fun z => z cv), w4s g0 (by lia), w4s g0 (by lia), if_pos ⟨by lia, by lia⟩, if_pos ⟨by lia, by lia⟩, m_pat, b2_some, Int.toNat_natCast, Int.toNat_natCast, (k5 f (by lia)).2.1, (k5 l hl).2.1]
        have Vl := V.mp cv
        rw [e] at Vl
        by_cases cd : w32 (3 * patV (hI hm m 18) (hI hm m 19) 1) < w32 (tm l - tm f)
        · rw [if_pos cd, wp_lt1, wp_lt1, wp_some]; exact K1 ⟨cd, Vl⟩
        · rw [if_neg cd, wp_some]; exact K0 (fun z => cd z.1)
      · rw [if_pos cv, wp_some]
        exact K0 (fun z => cv (V.mpr (by rw [e]; exact z.2)))
    · have st : ∀ v' : Int, (v' = 0 ↔ v = 0 ∧ mk k % 4 ≠ 1) → (v' = 0 ↔ ∀ i, f ≤ i → i < k + 1 → mk i % 4 ≠ 1) := fun v' h => by
        rw [h, V]
        constructor
        · rintro ⟨h1, h2⟩ i hi1 hi2
          by_cases e : i = k
          · rw [e]; exact h2
          · exact h1 i hi1 (by lia)
        · intro h1
          exact ⟨fun i h2 h3 => h1 i h2 (by lia), h1 k hfk (by lia)⟩
      rw [if_neg c, w_k1 (by lia)]
      by_cases cv : v = 0
      · rw [if_neg (fun z => z cv), w4s g0 (by lia), if_pos ⟨by lia, by lia⟩, Int.toNat_natCast, (k5 k (by lia)).2.2.1]
        by_cases cm : mk k % 4 = 1
        · rw [if_neg (fun z => z cm)]
          exact ih (k + 1) 1 (by lia) (by lia) (by lia) (Or.inr rfl) (st 1 (by lia))
        · rw [if_pos cm]
          exact ih (k + 1) 0 (by lia) (by lia) (by lia) (Or.inl rfl) (st 0 (by lia))
      · rw [if_pos cv]
        exact ih (k + 1) 1 (by lia) (by lia) (by lia) (Or.inr rfl) (st 1 (by lia))
end
/-! what was found lost since a place -/
def lsE (hm : Hp) (m s fr j : Nat) : Int := hI hm (m + 12) (4096 * (2 * s + 1) + (fr + j))
def lsT (hm : Hp) (m s : Nat) (v : Int) : Int := hI hm (m + 3) (4096 * s + v.toNat)
def lsC (hm : Hp) (m s : Nat) (v : Int) : Int := hI hm (m + 6) (4096 * s + v.toNat)
def lsX (hm : Hp) (m s : Nat) (v : Int) : Bool := decide (0 ≤ hI hm m 22 ∧ hI hm (m + 5) (4096 * s + v.toNat) ≠ 0 ∧ hI hm m 22 < lsT hm m s v)
def flp (E : Nat → Int) (cs : Int → Bool) : Nat → Int × Int
  | 0 => (-1, -1)
  | i + 1 => if cs (E i) then (if (flp E cs i).1 < 0 then E i else (flp E cs i).1, E i) else flp E cs i
section
variable {hm : Hp} {m s n fo fr c : Nat} {tm sz mk : Nat → Int} {R : Hp → Prop}
theorem flp_b {E : Nat → Int} {cs : Int → Bool} (h : ∀ j, j < c → 0 ≤ E j ∧ E j < n) (hi : ∀ i j, i < j → j < c → E i < E j) : ∀ i, i ≤ c → (flp E cs i = (-1, -1) ∨ (0 ≤ (flp E cs i).1 ∧ (flp E cs i).1 ≤ (flp E cs i).2 ∧ ∃ j, j < i ∧ (flp E cs i).2 = E j)) := by
  intro i
  induction i with
  | zero => intro _; exact Or.inl rfl
  | succ i ih =>
    intro hic
    have b := h i (by lia)
    show (if cs (E i) then (if (flp E cs i).1 < 0 then E i else (flp E cs i).1, E i) else flp E cs i) = (-1, -1) ∨ _
    by_cases q : cs (E i) = true
    · right
      have e : flp E cs (i + 1) = (if (flp E cs i).1 < 0 then E i else (flp E cs i).1, E i) := by
        show (if cs (E i) then (if (flp E cs i).1 < 0 then E i else (flp E cs i).1, E i) else flp E cs i) = _
        rw [if_pos q]
      rw [e]
      refine ⟨?_, ?_, i, by lia, rfl⟩
      · show 0 ≤ if (flp E cs i).1 < 0 then E i else (flp E cs i).1
        split <;> lia
      · show (if (flp E cs i).1 < 0 then E i else (flp E cs i).1) ≤ E i
        split
        · lia
        · rcases ih (by lia) with z | ⟨z1, z2, j, z3, z4⟩
          · rw [z] at *; lia
          · have := hi j i z3 (by lia); lia
    · have e : flp E cs (i + 1) = flp E cs i := by
        show (if cs (E i) then (if (flp E cs i).1 < 0 then E i else (flp E cs i).1, E i) else flp E cs i) = _
        rw [if_neg q]
      rw [if_neg q]
      rcases ih (by lia) with z | ⟨z1, z2, j, z3, z4⟩
      · exact Or.inl z
      · right
        rw [e]
        exact ⟨z1, z2, j, by lia, z4⟩
theorem m_ps8L (K : PkM hm m s n tm sz mk fo) (hf : fr + c ≤ 4096) (g : hI hm (m + 13) (2 * s + 1) = ((fr + c : Nat) : Int)) (hE : ∀ j, j < c → 0 ≤ lsE hm m s fr j ∧ lsE hm m s fr j < n) (K0 : (flp (lsE hm m s fr) (lsX hm m s) c).1 < 0 → R hm) (K1 : 0 ≤ (flp (lsE hm m s fr) (lsX hm m s) c).1 → wp (f_mBook_persists_b120_lp FU m (s : Int) (flp (lsE hm m s fr) (lsX hm m s) c).1 (flp (lsE hm m s fr) (lsX hm m s) c).2 0 (flp (lsE hm m s fr) (lsX hm m s) c).1 hm) R) (F : Nat) : ∀ j, j ≤ c → c - j < F → wp (f_mBook_persists_b8_lp F m (s : Int) (flp (lsE hm m s fr) (lsX hm m s) j).1 (flp (lsE hm m s fr) (lsX hm m s) j).2 ((fr + j : Nat) : Int) hm) R := by
  induction F with
  | zero => intro j _ hf; lia
  | succ F ih =>
    intro j hj hf'
    show wp (f_mBook_persists_b8 (f_mBook_persists_b8_lp F) m (s : Int) (flp (lsE hm m s fr) (lsX hm m s) j).1 (flp (lsE hm m s fr) (lsX hm m s) j).2 ((fr + j : Nat) : Int) hm) R
    unfold f_mBook_persists_b8 f_mBook_persists_b103 f_mBook_persists_b98 f_mBook_persists_b103
    obtain ⟨⟨L, g0⟩, k1, k2, k3, k4, k5, k6⟩ := K
    have a0 := L.1
    have z1 : ¬ (m + 13 = 0) := by lia
    have z2 : ¬ (m + 12 = 0) := by lia
    have z3 : ¬ (m + 5 = 0) := by lia
    have z4 : ¬ (m + 3 = 0) := by lia
    have w1 : w32 (w32 (2 * (s : Int)) + 1) = ((2 * s + 1 : Nat) : Int) := by unfold w32; lia
    have x1 : ix ((2 * s + 1 : Nat) : Int) 6 := ⟨by lia, by lia⟩
    simp only [L.r0_16, L.r0_15, L.r0_7, L.r0_5, L.l13, L.l12, L.l5, L.l3, if_neg z1, if_neg z2, if_neg z3, if_neg z4, w1, if_pos x1, Int.toNat_natCast, g, lt1_eq]
    by_cases cc : ((fr + c : Nat) : Int) ≤ ((fr + j : Nat) : Int)
    · have e : j = c := by lia
      subst e
      rw [if_pos cc]
      by_cases cf : 0 ≤ (flp (lsE hm m s fr) (lsX hm m s) j).1
      · rw [if_pos cf]; exact K1 cf
      · rw [if_neg cf, wp_some]; exact K0 (by lia)
    · have w2 : w32 (w32 (4096 * ((2 * s + 1 : Nat) : Int)) + ((fr + j : Nat) : Int)) = ((4096 * (2 * s + 1) + (fr + j) : Nat) : Int) := by unfold w32; lia
      have x2 : ix ((4096 * (2 * s + 1) + (fr + j) : Nat) : Int) 24576 := ⟨by lia, by lia⟩
      have b := hE j (by lia)
      obtain ⟨v, hv⟩ : ∃ v : Nat, lsE hm m s fr j = (v : Int) := ⟨(lsE hm m s fr j).toNat, by lia⟩
      have hv' : hI hm (m + 12) (4096 * (2 * s + 1) + (fr + j)) = (v : Int) := hv
      have w3 : w32 (w32 (4096 * (s : Int)) + (v : Int)) = ((4096 * s + v : Nat) : Int) := w4s g0 (by lia)
      have x3 : ix ((4096 * s + v : Nat) : Int) 12288 := ⟨by lia, by lia⟩
      have eT : lsT hm m s (v : Int) = hI hm (m + 3) (4096 * s + v) := by unfold lsT; rw [Int.toNat_natCast]
      have es : flp (lsE hm m s fr) (lsX hm m s) (j + 1) = if lsX hm m s (v : Int) then (if (flp (lsE hm m s fr) (lsX hm m s) j).1 < 0 then (v : Int) else (flp (lsE hm m s fr) (lsX hm m s) j).1, (v : Int)) else flp (lsE hm m s fr) (lsX hm m s) j := by
        rw [← hv]; rfl
      have w5 : w32 (((fr + j : Nat) : Int) + 1) = ((fr + (j + 1) : Nat) : Int) := w_k1 (by lia)
      have nxt := ih (j + 1) (by lia) (by lia)
      rw [if_neg cc]
      simp only [w2, if_pos x2, Int.toNat_natCast, hv', w3, if_pos x3, w5]
      have skip : lsX hm m s (v : Int) = false → wp (f_mBook_persists_b8_lp F m (s : Int) (flp (lsE hm m s fr) (lsX hm m s) j).1 (flp (lsE hm m s fr) (lsX hm m s) j).2 ((fr + (j + 1) : Nat) : Int) hm) R := fun q => by
        rw [es, q] at nxt
        exact nxt
      by_cases c1 : hI hm m 22 < 0
      · rw [if_pos c1]
        exact skip (by unfold lsX; exact decide_eq_false (by lia))
      · rw [if_neg c1]
        by_cases c2 : hI hm (m + 5) (4096 * s + v) = 0
        · rw [if_pos c2]
          exact skip (by unfold lsX; rw [Int.toNat_natCast]; exact decide_eq_false (by lia))
        · rw [if_neg c2]
          by_cases c3 : hI hm m 22 < hI hm (m + 3) (4096 * s + v)
          · have q : lsX hm m s (v : Int) = true := by unfold lsX; rw [Int.toNat_natCast, eT]; exact decide_eq_true ⟨by lia, c2, c3⟩
            rw [es, q] at nxt
            simp only [if_true] at nxt
            rw [if_pos c3]
            by_cases c4 : 0 ≤ (flp (lsE hm m s fr) (lsX hm m s) j).1
            · rw [if_neg (by lia)] at nxt
              rw [if_pos c4]; exact nxt
            · rw [if_pos (by lia)] at nxt
              rw [if_neg c4]; exact nxt
          · rw [if_neg c3]
            exact skip (by unfold lsX; rw [eT]; exact decide_eq_false (by lia))
theorem m_fall (K : PkM hm m s n tm sz mk fo) (hf : fr + c ≤ 4096) (g : hI hm (m + 13) (2 * s + 1) = ((fr + c : Nat) : Int)) (hE : ∀ j, j < c → 0 ≤ lsE hm m s fr j ∧ lsE hm m s fr j < n) (K0 : ¬ (∃ j, j < c ∧ lsC hm m s (lsE hm m s fr j) ≠ 0 ∧ (hI hm m 26 < 0 ∨ hI hm m 26 < lsT hm m s (lsE hm m s fr j))) → wp (f_mBook_losses_b268 m (s : Int) (fr : Int) hm) R) (K1 : (∃ j, j < c ∧ lsC hm m s (lsE hm m s fr j) ≠ 0 ∧ (hI hm m 26 < 0 ∨ hI hm m 26 < lsT hm m s (lsE hm m s fr j))) → wp (f_mBook_losses_b268 m (s : Int) (fr : Int) (sI (sI (sI hm m 26 (hI hm m 0)) m 25 (iDiv (hI hm m 24) 2)) m 24 (max (iDiv (hI hm m 24) 2) 2400))) R) (F : Nat) : ∀ (j : Nat) (v : Int), j ≤ c → c - j < F → (v = 0 ∨ v = 1) → (v = 1 ↔ ∃ i, i < j ∧ lsC hm m s (lsE hm m s fr i) ≠ 0 ∧ (hI hm m 26 < 0 ∨ hI hm m 26 < lsT hm m s (lsE hm m s fr i))) → wp (f_mBook_losses_b154_lp F m (s : Int) (fr : Int) v ((fr + j : Nat) : Int) hm) R := by
  induction F with
  | zero => intro j v _ hf; lia
  | succ F ih =>
    intro j v hj hf' v01 V
    show wp (f_mBook_losses_b154 (f_mBook_losses_b154_lp F) m (s : Int) (fr : Int) v ((fr + j : Nat) : Int) hm) R
    unfold f_mBook_losses_b154 f_mBook_losses_b222 f_mBook_losses_b218 f_mBook_losses_b223
    obtain ⟨⟨L, g0⟩, k1, k2, k3, k4, k5, k6⟩ := K
    have a0 := L.1
    have z1 : ¬ (m + 13 = 0) := by lia
    have z2 : ¬ (m + 12 = 0) := by lia
    have z3 : ¬ (m + 6 = 0) := by lia
    have z4 : ¬ (m + 3 = 0) := by lia
    have w1 : w32 (w32 (2 * (s : Int)) + 1) = ((2 * s + 1 : Nat) : Int) := by unfold w32; lia
    have x1 : ix ((2 * s + 1 : Nat) : Int) 6 := ⟨by lia, by lia⟩
    simp only [L.r0_16, L.r0_15, L.r0_8, L.l13, L.l12, L.l6, if_neg z1, if_neg z2, if_neg z3, w1, if_pos x1, Int.toNat_natCast, g]
    by_cases cc : ((fr + c : Nat) : Int) ≤ ((fr + j : Nat) : Int)
    · have e : j = c := by lia
      subst e
      rw [if_pos cc]
      by_cases cv : v = 0
      · rw [if_pos cv]
        exact K0 (fun z => by have := V.mpr z; lia)
      · rw [if_neg cv, wp_lt1, wp_lt1]
        have r24 : hI (sI hm m 26 (hI hm m 0)) m 24 = hI hm m 24 := by rw [hI_sI, if_neg (by lia)]
        have r25 : ∀ u, hI (sI (sI hm m 26 (hI hm m 0)) m 25 u) m 25 = u := fun u => by rw [hI_sI, if_pos ⟨rfl, rfl⟩]
        rw [r24, r25, m_greaterB, b2_some, wp_lt1]
        exact K1 (V.mp (by lia))
    · have w2 : w32 (w32 (4096 * ((2 * s + 1 : Nat) : Int)) + ((fr + j : Nat) : Int)) = ((4096 * (2 * s + 1) + (fr + j) : Nat) : Int) := by unfold w32; lia
      have x2 : ix ((4096 * (2 * s + 1) + (fr + j) : Nat) : Int) 24576 := ⟨by lia, by lia⟩
      have b := hE j (by lia)
      obtain ⟨u, hu⟩ : ∃ u : Nat, lsE hm m s fr j = (u : Int) := ⟨(lsE hm m s fr j).toNat, by lia⟩
      have hu' : hI hm (m + 12) (4096 * (2 * s + 1) + (fr + j)) = (u : Int) := hu
      have w3 : w32 (w32 (4096 * (s : Int)) + (u : Int)) = ((4096 * s + u : Nat) : Int) := w4s g0 (by lia)
      have x3 : ix ((4096 * s + u : Nat) : Int) 12288 := ⟨by lia, by lia⟩
      have eT : lsT hm m s (u : Int) = hI hm (m + 3) (4096 * s + u) := by unfold lsT; rw [Int.toNat_natCast]
      have eC : lsC hm m s (u : Int) = hI hm (m + 6) (4096 * s + u) := by unfold lsC; rw [Int.toNat_natCast]
      have w5 : w32 (((fr + j : Nat) : Int) + 1) = ((fr + (j + 1) : Nat) : Int) := w_k1 (by lia)
      have beh : f_mBook_isBehindRecovery m ((4096 * s + u : Nat) : Int) hm = some (if hI hm m 26 < 0 ∨ hI hm m 26 < hI hm (m + 3) (4096 * s + u) then 1 else 0, hm) := by
        unfold f_mBook_isBehindRecovery f_mBook_isBehindRecovery_b20
        simp only [L.r0_5, L.l3, if_neg z4, if_pos x3, Int.toNat_natCast]
        by_cases q : hI hm m 26 < 0
        · rw [if_pos q, if_pos (Or.inl q)]
        · rw [if_neg q]
          by_cases r : hI hm (m + 3) (4096 * s + u) ≤ hI hm m 26
          · rw [if_pos r, if_neg (by lia)]
          · rw [if_neg r, if_pos (by lia)]
      rw [if_neg cc]
      simp only [w2, if_pos x2, Int.toNat_natCast, hu', w3, if_pos x3, w5, lt1_eq, beh, b2_some]
      have st : ∀ v' : Int, (v' = 1 ↔ v = 1 ∨ (lsC hm m s (u : Int) ≠ 0 ∧ (hI hm m 26 < 0 ∨ hI hm m 26 < lsT hm m s (u : Int)))) → (v' = 1 ↔ ∃ i, i < j + 1 ∧ lsC hm m s (lsE hm m s fr i) ≠ 0 ∧ (hI hm m 26 < 0 ∨ hI hm m 26 < lsT hm m s (lsE hm m s fr i))) := fun v' h => by
        rw [h, V]
        constructor
        · rintro (⟨i, h1, h2⟩ | h2)
          · exact ⟨i, by lia, h2⟩
          · exact ⟨j, by lia, by rw [hu]; exact h2⟩
        · rintro ⟨i, h1, h2⟩
          by_cases e : i = j
          · rw [e, hu] at h2; exact Or.inr h2
          · exact Or.inl ⟨i, by lia, h2⟩
      by_cases cv : v = 0
      · rw [if_neg (fun z => z cv)]
        by_cases c1 : hI hm (m + 6) (4096 * s + u) = 0
        · rw [if_pos c1]
          exact ih (j + 1) 0 (by lia) (by lia) (Or.inl rfl) (st 0 ⟨fun z => absurd z (by decide), fun z => by rcases z with z | z; lia; rw [eC] at z; exact absurd c1 z.1⟩)
        · rw [if_neg c1]
          by_cases c2 : hI hm m 26 < 0 ∨ hI hm m 26 < hI hm (m + 3) (4096 * s + u)
          · rw [if_pos c2, if_neg (by decide)]
            exact ih (j + 1) 1 (by lia) (by lia) (Or.inr rfl) (st 1 ⟨fun _ => Or.inr ⟨by rw [eC]; exact c1, by rw [eT]; exact c2⟩, fun _ => rfl⟩)
          · rw [if_neg c2, if_pos rfl]
            exact ih (j + 1) 0 (by lia) (by lia) (Or.inl rfl) (st 0 ⟨fun z => absurd z (by decide), fun z => by rcases z with z | z; lia; rw [eT] at z; exact absurd z.2 c2⟩)
      · rw [if_pos cv]
        exact ih (j + 1) 1 (by lia) (by lia) (Or.inr rfl) (st 1 ⟨fun _ => Or.inl (by lia), fun _ => rfl⟩)
end
