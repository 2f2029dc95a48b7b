/-! ranges of the model: the same n ranges, by rising numbers -/
def RGm (h : Hp) (m s n : Nat) (lo hi : Nat → Int) (fl : Int) : Prop := MBk h m ∧ s < 3 ∧ hI h (m + 17) s = (n : Int) ∧ n ≤ 64 ∧ hJ h (m + 20) s = fl ∧ ∀ i, i < n → hJ h (m + 18) (65 * s + i) = lo (n - 1 - i) ∧ hJ h (m + 19) (65 * s + i) = hi (n - 1 - i)
section
variable {h : Hp} {m s n : Nat} {lo hi : Nat → Int} {fl x : Int}
theorem m_isOldL (G : RGm h m s n lo hi fl) (f : Nat) : ∀ (j : Nat) (v : Int), j ≤ n → n - j < f → (v = 0 ∨ v = 1) → (v = 1 ↔ x < fl ∨ ∃ i, i < j ∧ lo (n - 1 - i) ≤ x ∧ x ≤ hi (n - 1 - i)) → wp (f_mBook_isOld_b24_lp f m (s : Int) x v ((65 * s + j : Nat) : Int) h) (fun o => o.2 = h ∧ (o.1 = 0 ∨ o.1 = 1) ∧ (o.1 = 1 ↔ x < fl ∨ ∃ i, i < n ∧ lo (n - 1 - i) ≤ x ∧ x ≤ hi (n - 1 - i))) := by
  induction f with
  | zero => intro j v _ hf; lia
  | succ f ih =>
    intro j v hj hf v01 V
    show wp (f_mBook_isOld_b24 (f_mBook_isOld_b24_lp f) m (s : Int) x v ((65 * s + j : Nat) : Int) h) _
    unfold f_mBook_isOld_b24 f_mBook_isOld_b69 f_mBook_isOld_b73 f_mBook_isOld_b74
    obtain ⟨L, g0, g1, g2, g3, g4⟩ := G
    have a0 := L.1
    have z1 : ¬ (m + 17 = 0) := by lia
    have z2 : ¬ (m + 18 = 0) := by lia
    have z3 : ¬ (m + 19 = 0) := by lia
    have x1 : ix (s : Int) 3 := ⟨by lia, by lia⟩
    have w1 : w32 (65 * (s : Int)) = ((65 * s : Nat) : Int) := by unfold w32; lia
    have w2 : w32 (((65 * s : Nat) : Int) + (n : Int)) = ((65 * s + n : Nat) : Int) := w_ck (by lia)
    have w3 : w32 (((65 * s + j : Nat) : Int) + 1) = ((65 * s + (j + 1) : Nat) : Int) := w_k1 (by lia)
    simp only [L.r0_30, L.r0_31, L.r0_32, L.l17, L.l18, L.l19, if_neg z1, if_neg z2, if_neg z3, if_pos x1, Int.toNat_natCast, g1, w1, w2, w3]
    by_cases c : ((65 * s + n : Nat) : Int) ≤ ((65 * s + j : Nat) : Int)
    · have : j = n := by lia
      subst this
      rw [if_pos c]
      exact wp_01 v01 ⟨rfl, v01, V⟩
    · have x2 : ix ((65 * s + j : Nat) : Int) 195 := ⟨by lia, by lia⟩
      rw [if_neg c]
      simp only [if_pos x2]
      have gj := g4 j (by lia)
      rw [gj.1, gj.2]
      have st : (∃ i, i < j + 1 ∧ lo (n - 1 - i) ≤ x ∧ x ≤ hi (n - 1 - i)) ↔ (∃ i, i < j ∧ lo (n - 1 - i) ≤ x ∧ x ≤ hi (n - 1 - i)) ∨ (lo (n - 1 - j) ≤ x ∧ x ≤ hi (n - 1 - j)) := by
        constructor
        · rintro ⟨i, i1, i2, i3⟩
          by_cases e : i = j
          · rw [e] at i2 i3; exact Or.inr ⟨i2, i3⟩
          · exact Or.inl ⟨i, by lia, i2, i3⟩
        · rintro (⟨i, i1, i2, i3⟩ | ⟨i2, i3⟩)
          · exact ⟨i, by lia, i2, i3⟩
          · exact ⟨j, by lia, i2, i3⟩
      by_cases c0 : v ≠ 0
      · rw [if_pos c0]
        refine ih (j + 1) 1 (by lia) (by lia) (Or.inr rfl) ⟨fun _ => ?_, fun _ => rfl⟩
        rw [st]
        rcases V.mp (by lia) with z | z
        · exact Or.inl z
        · exact Or.inr (Or.inl z)
      · have nv : ¬ (x < fl ∨ ∃ i, i < j ∧ lo (n - 1 - i) ≤ x ∧ x ≤ hi (n - 1 - i)) := fun z => by have := V.mpr z; lia
        rw [if_neg c0]
        by_cases c1 : x < lo (n - 1 - j)
        · rw [if_pos c1]
          refine ih (j + 1) 0 (by lia) (by lia) (Or.inl rfl) ⟨fun z => absurd z (by decide), fun z => ?_⟩
          rw [st] at z
          rcases z with z | z | z
          · exact absurd (Or.inl z) nv
          · exact absurd (Or.inr z) nv
          · lia
        · rw [if_neg c1]
          by_cases c2 : hi (n - 1 - j) < x
          · rw [if_pos c2]
            refine ih (j + 1) 0 (by lia) (by lia) (Or.inl rfl) ⟨fun z => absurd z (by decide), fun z => ?_⟩
            rw [st] at z
            rcases z with z | z | z
            · exact absurd (Or.inl z) nv
            · exact absurd (Or.inr z) nv
            · lia
          · rw [if_neg c2]
            refine ih (j + 1) 1 (by lia) (by lia) (Or.inr rfl) ⟨fun _ => ?_, fun _ => rfl⟩
            rw [st]
            exact Or.inr (Or.inr ⟨by lia, by lia⟩)
theorem m_isOld (G : RGm h m s n lo hi fl) : wp (f_mBook_isOld m (s : Int) x h) (fun o => o.2 = h ∧ (o.1 = 0 ∨ o.1 = 1) ∧ (o.1 = 1 ↔ x < fl ∨ ∃ i, i < n ∧ lo i ≤ x ∧ x ≤ hi i)) := by
  have L := G.1
  have a0 := L.1
  have g0 := G.2.1
  have g2 := G.2.2.2.1
  have z1 : ¬ (m + 20 = 0) := by lia
  have x1 : ix (s : Int) 3 := ⟨by lia, by lia⟩
  have w1 : w32 (65 * (s : Int)) = ((65 * s + 0 : Nat) : Int) := by unfold w32; lia
  have cv : (∃ i, i < n ∧ lo (n - 1 - i) ≤ x ∧ x ≤ hi (n - 1 - i)) ↔ ∃ i, i < n ∧ lo i ≤ x ∧ x ≤ hi i := by
    constructor
    · rintro ⟨i, i1, i2, i3⟩; exact ⟨n - 1 - i, by lia, i2, i3⟩
    · rintro ⟨i, i1, i2, i3⟩; exact ⟨n - 1 - i, by lia, by rw [show n - 1 - (n - 1 - i) = i by lia]; exact i2, by rw [show n - 1 - (n - 1 - i) = i by lia]; exact i3⟩
  unfold f_mBook_isOld f_mBook_isOld_b16
  rw [L.r0_33, if_neg z1, L.l20, if_pos x1, Int.toNat_natCast, G.2.2.2.2.1]
  simp only [lt1_eq, w1]
  rw [← cv]
  by_cases c : fl ≤ x
  · rw [if_pos c]
    exact m_isOldL G FU 0 0 (by lia) (by unfold FU; lia) (Or.inl rfl) ⟨fun z => absurd z (by decide), fun z => by rcases z with z | ⟨i, i1, _⟩ <;> lia⟩
  · rw [if_neg c]
    exact m_isOldL G FU 0 1 (by lia) (by unfold FU; lia) (Or.inr rfl) ⟨fun _ => Or.inl (by lia), fun _ => rfl⟩
theorem m_greatest (G : RGm h m s n lo hi fl) : f_mBook_greatest m (s : Int) h = some (if n = 0 then -1 else hi 0, h) := by
  obtain ⟨L, g0, g1, g2, g3, g4⟩ := G
  have a0 := L.1
  have z1 : ¬ (m + 17 = 0) := by lia
  have z3 : ¬ (m + 19 = 0) := by lia
  have x1 : ix (s : Int) 3 := ⟨by lia, by lia⟩
  unfold f_mBook_greatest
  simp only [L.r0_30, L.r0_32, L.l17, L.l19, if_neg z1, if_neg z3, if_pos x1, Int.toNat_natCast, g1]
  by_cases c : n = 0
  · rw [if_neg (by lia), if_pos c]
  · have w1 : w32 (65 * (s : Int)) = ((65 * s : Nat) : Int) := by unfold w32; lia
    have w2 : w32 (((65 * s : Nat) : Int) + (n : Int)) = ((65 * s + n : Nat) : Int) := w_ck (by lia)
    have w3 : w32 (((65 * s + n : Nat) : Int) - 1) = ((65 * s + (n - 1) : Nat) : Int) := by unfold w32; lia
    have x2 : ix ((65 * s + (n - 1) : Nat) : Int) 195 := ⟨by lia, by lia⟩
    have v := (g4 (n - 1) (by lia)).2
    rw [show n - 1 - (n - 1) = 0 by lia] at v
    rw [if_pos (by lia), w1, w2, w3, if_pos x2, Int.toNat_natCast, v, if_neg c]
end
