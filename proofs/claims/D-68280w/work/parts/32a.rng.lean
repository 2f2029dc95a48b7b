/-! ranges of the class -/
/-- n ranges, the greatest first, and a floor -/
def RGc (h : Hp) (a n : Nat) (lo hi : Nat → Int) (fl : Int) : Prop := LRan h a ∧ hI h a 2 = (n : Int) ∧ n ≤ 64 ∧ hJ h a 3 = fl ∧ ∀ i, i < n → hJ h (a + 1) i = lo i ∧ hJ h (a + 2) i = hi i
/-- ranges with gaps between -/
def RGd (n : Nat) (lo hi : Nat → Int) : Prop := (∀ i, i < n → lo i ≤ hi i) ∧ ∀ i, i + 1 < n → hi (i + 1) + 1 < lo i
section
variable {h : Hp} {a n : Nat} {lo hi : Nat → Int} {fl x : Int}
theorem c_placeL (G : RGc h a n lo hi fl) (f : Nat) : ∀ k : Nat, k ≤ n → n - k < f → (∀ i, i < k → x < lo i) → wp (f_cRanges_place_b2_lp f a x (k : Int) h) (fun o => ∃ k : Nat, o = ((k : Int), h) ∧ k ≤ n ∧ (∀ i, i < k → x < lo i) ∧ (k < n → lo k ≤ x)) := by
  induction f with
  | zero => intro k _ hf; lia
  | succ f ih =>
    intro k hk hf V
    show wp (f_cRanges_place_b2 (f_cRanges_place_b2_lp f) a x (k : Int) h) _
    unfold f_cRanges_place_b2
    obtain ⟨L, g1, g2, g3, g4⟩ := G
    have a0 := L.1
    rw [g1]
    by_cases c : (n : Int) ≤ k
    · rw [if_pos c, wp_some]
      exact ⟨k, rfl, hk, V, fun z => by lia⟩
    · rw [if_neg c, L.r0_0, wp_cn]
      refine ⟨by lia, ?_⟩
      rw [L.l1, wp_ck]
      refine ⟨⟨by lia, by lia⟩, ?_⟩
      rw [Int.toNat_natCast, (g4 k (by lia)).1]
      by_cases c2 : lo k ≤ x
      · rw [if_pos c2, wp_some]
        exact ⟨k, rfl, hk, V, fun _ => c2⟩
      · rw [if_neg c2, w_k1 (by lia)]
        refine ih (k + 1) (by lia) (by lia) (fun i hi => ?_)
        by_cases e : i = k
        · rw [e]; lia
        · exact V i (by lia)
theorem c_place (G : RGc h a n lo hi fl) : wp (f_cRanges_place a x h) (fun o => ∃ k : Nat, o = ((k : Int), h) ∧ k ≤ n ∧ (∀ i, i < k → x < lo i) ∧ (k < n → lo k ≤ x)) :=
  c_placeL G FU 0 (by lia) (by have := G.2.2.1; unfold FU; lia) (fun i hi => absurd hi (Nat.not_lt_zero i))
theorem RGd_lt (D : RGd n lo hi) : ∀ (i j : Nat), i < j → j < n → hi j + 1 < lo i := by
  intro i j hij hj
  obtain ⟨m, rfl⟩ : ∃ m, j = i + 1 + m := ⟨j - i - 1, by lia⟩
  induction m with
  | zero => exact D.2 i (by lia)
  | succ m ih =>
    have h1 := ih (by lia) (by lia)
    have h2 := D.2 (i + 1 + m) (by lia)
    have h3 := D.1 (i + 1 + m) (by lia)
    rw [show i + 1 + (m + 1) = i + 1 + m + 1 by lia]
    lia
theorem c_has (G : RGc h a n lo hi fl) (D : RGd n lo hi) : wp (f_cRanges_has a x h) (fun o => o.2 = h ∧ (o.1 = 0 ∨ o.1 = 1) ∧ (o.1 = 1 ↔ x < fl ∨ ∃ i, i < n ∧ lo i ≤ x ∧ x ≤ hi i)) := by
  unfold f_cRanges_has f_cRanges_has_b34
  refine wp_b2o (c_place G) (fun kk h1 _ q => ?_)
  obtain ⟨k, e, k1, k2, k3⟩ := q
  obtain ⟨rfl, rfl⟩ : kk = (k : Int) ∧ h1 = h := by
    have e1 := congrArg Prod.fst e
    have e2 := congrArg Prod.snd e
    exact ⟨e1, e2⟩
  obtain ⟨L, g1, g2, g3, g4⟩ := G
  have a0 := L.1
  rw [g3, g1]
  by_cases c : x < fl
  · rw [if_pos c, wp_some]
    exact ⟨rfl, Or.inr rfl, fun _ => Or.inl c, fun _ => rfl⟩
  · rw [if_neg c]
    by_cases c2 : (n : Int) ≤ k
    · rw [if_pos c2, wp_some]
      refine ⟨rfl, Or.inl rfl, fun z => absurd (show (0 : Int) = 1 from z) (by decide), fun z => ?_⟩
      rcases z with z | ⟨i, i1, i2, i3⟩
      · exact absurd z c
      · have := k2 i (by lia); lia
    · rw [if_neg c2, L.r0_1, wp_cn]
      refine ⟨by lia, ?_⟩
      rw [L.l2, wp_ck]
      refine ⟨⟨by lia, by lia⟩, ?_⟩
      rw [Int.toNat_natCast, (g4 k (by lia)).2]
      by_cases c3 : hi k < x
      · rw [if_pos c3, wp_some]
        refine ⟨rfl, Or.inl rfl, fun z => absurd (show (0 : Int) = 1 from z) (by decide), fun z => ?_⟩
        rcases z with z | ⟨i, i1, i2, i3⟩
        · exact absurd z c
        · by_cases c4 : i < k
          · have := k2 i c4; lia
          · by_cases c5 : i = k
            · rw [c5] at i3; lia
            · have t1 := RGd_lt D k i (by lia) i1
              have t2 := D.1 k (by lia)
              lia
      · rw [if_neg c3, wp_some]
        exact ⟨rfl, Or.inr rfl, fun _ => Or.inr ⟨k, by lia, k3 (by lia), by lia⟩, fun _ => rfl⟩
end
