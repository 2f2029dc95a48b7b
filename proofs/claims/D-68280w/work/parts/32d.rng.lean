/-! ranges of the class: adding -/
def up1 (f : Nat → Int) (i : Nat) (v : Int) (j : Nat) : Int := if j = i then v else f j
/-- what adding x at the place k makes of the ranges -/
def adQ (h' : Hp) (a n : Nat) (lo hi : Nat → Int) (fl x : Int) (k : Nat) : Prop :=
  if 0 < k ∧ lo (k - 1) = x + 1 then
    if k < n ∧ hi k = x - 1 then RG0 h' a (n - 1) (rmF (up1 lo (k - 1) (lo k)) k) (rmF hi k) fl
    else RG0 h' a n (up1 lo (k - 1) x) hi fl
  else
    if k < n ∧ hi k = x - 1 then RG0 h' a n lo (up1 hi k x) fl
    else if n < 64 then RG0 h' a (n + 1) (inF lo k x) (inF hi k x) fl
    else RG0 h' a 64 (inF lo k x) (inF hi k x) (inF hi k x 64 + 1)
section
variable {h : Hp} {a n : Nat} {lo hi : Nat → Int} {fl x : Int}
theorem RG0.sl {i : Nat} {v : Int} (G : RG0 h a n lo hi fl) : RG0 (sJ h (a + 1) i v) a n (up1 lo i v) hi fl := by
  obtain ⟨L, g1, g2, g3, g4⟩ := G
  have a0 := L.1
  refine ⟨L, g1, g2, by rw [hJ_sJ, if_neg (by lia)]; exact g3, fun j hj => ?_⟩
  have := g4 j hj
  have q1 : ¬ (a + 2 = a + 1) := by lia
  simp only [hJ_sJ, q1, false_and, if_false, true_and]
  unfold up1
  by_cases e : j = i
  · simp only [e, if_true]; rw [e] at this; exact ⟨trivial, this.2⟩
  · simp only [e, if_false]; exact this
theorem RG0.sh {i : Nat} {v : Int} (G : RG0 h a n lo hi fl) : RG0 (sJ h (a + 2) i v) a n lo (up1 hi i v) fl := by
  obtain ⟨L, g1, g2, g3, g4⟩ := G
  have a0 := L.1
  refine ⟨L, g1, g2, by rw [hJ_sJ, if_neg (by lia)]; exact g3, fun j hj => ?_⟩
  have := g4 j hj
  have q1 : ¬ (a + 1 = a + 2) := by lia
  simp only [hJ_sJ, q1, false_and, if_false, true_and]
  unfold up1
  by_cases e : j = i
  · simp only [e, if_true]; rw [e] at this; exact ⟨this.1, trivial⟩
  · simp only [e, if_false]; exact this
theorem c_ad58 {k : Nat} {ab bl : Int} (G : RG0 h a n lo hi fl) (hn : n ≤ 64) (hk : k ≤ n) (h1 : ab = if 0 < k ∧ lo (k - 1) = x + 1 then 1 else 0) (h2 : bl = if k < n ∧ hi k = x - 1 then 1 else 0) (hx : 0 ≤ x ∧ x < 4611686018427387904) (hb : ∀ j, j < n → 0 ≤ hi j ∧ hi j < 4611686018427387904) : wp (f_cRanges_add_b58 a x (k : Int) ab bl h) (fun o => adQ o a n lo hi fl x k) := by
  have L := G.1
  have a0 := L.1
  have z1 : ¬ (a + 1 = 0) := by lia
  have z2 : ¬ (a + 2 = 0) := by lia
  unfold f_cRanges_add_b58 f_cRanges_add_b92 adQ
  by_cases cA : 0 < k ∧ lo (k - 1) = x + 1
  · rw [if_pos cA] at h1
    subst h1
    have w1 : w32 ((k : Int) - 1) = ((k - 1 : Nat) : Int) := by unfold w32; lia
    have x1 : ix ((k - 1 : Nat) : Int) 65 := ⟨by lia, by lia⟩
    rw [if_neg (by decide)]
    simp only [if_pos cA]
    by_cases cB : k < n ∧ hi k = x - 1
    · rw [if_pos cB] at h2
      subst h2
      have x2 : ix (k : Int) 65 := ⟨by lia, by lia⟩
      rw [if_neg (by decide)]
      simp only [if_pos cB, L.r0_0, L.l1, if_neg z1, if_pos x2, w1, if_pos x1, wp_lt1, Int.toNat_natCast]
      rw [(G.2.2.2.2 k cB.1).1]
      refine wp_b1o (c_remove (G.sl (i := k - 1) (v := lo k)) cB.1) (fun h3 _ q => ?_)
      rw [wp_some]; exact q
    · rw [if_neg cB] at h2
      subst h2
      rw [if_pos rfl, if_neg (by decide)]
      simp only [if_neg cB, L.r0_0, L.l1, if_neg z1, w1, if_pos x1, wp_lt1, Int.toNat_natCast, wp_some]
      exact G.sl
  · rw [if_neg cA] at h1
    subst h1
    rw [if_pos rfl, if_pos rfl]
    simp only [if_neg cA]
    by_cases cB : k < n ∧ hi k = x - 1
    · rw [if_pos cB] at h2
      subst h2
      have x2 : ix (k : Int) 65 := ⟨by lia, by lia⟩
      rw [if_neg (by decide)]
      simp only [if_pos cB, L.r0_1, L.l2, if_neg z2, if_pos x2, wp_lt1, Int.toNat_natCast, wp_some]
      exact G.sh
    · rw [if_neg cB] at h2
      subst h2
      rw [if_pos rfl]
      simp only [if_neg cB]
      refine wp_b1o (c_insert G hn hk) (fun h3 _ q => ?_)
      obtain ⟨L3, g1, g2, g3, g4⟩ := q
      rw [g1]
      by_cases c64 : n < 64
      · rw [if_pos (by lia), wp_some]
        simp only [if_pos c64]
        exact ⟨L3, g1, g2, g3, g4⟩
      · have e : n = 64 := by lia
        subst e
        rw [if_neg (by decide)]
        simp only [if_neg c64]
        have w2 : w32 (((64 + 1 : Nat) : Int) - 1) = 64 := by decide
        have i2 : ∀ v, hI (sI h3 a 2 v) a 2 = v := fun v => by rw [hI_sI, if_pos ⟨rfl, rfl⟩]
        have x3 : ix (64 : Int) 65 := by decide
        have tn : Int.toNat 64 = 64 := rfl
        simp only [wp_lt1, w2, i2, hR_sI, L3.r0_1, ln_sI, L3.l2, if_neg z2, if_pos x3, wp_some, hJ_sI, tn]
        have v := (g4 64 (by decide)).2
        have iv : inF hi k x 64 < 4611686018427387904 ∧ 0 ≤ inF hi k x 64 := by
          unfold inF
          by_cases c1 : 64 < k
          · lia
          · rw [if_neg c1]
            by_cases c2 : 64 = k
            · rw [if_pos c2]; lia
            · rw [if_neg c2]; have := hb 63 (by decide); exact ⟨this.2, this.1⟩
        rw [v, w64_id ⟨by lia, by lia⟩]
        refine ⟨L3, by rw [hI_sJ, hI_sI, if_pos ⟨rfl, rfl⟩]; rfl, by decide, by rw [hJ_sJ, if_pos ⟨rfl, rfl⟩], fun j hj => ?_⟩
        rw [hJ_sJ, if_neg (by lia), hJ_sI, hJ_sJ, if_neg (by lia), hJ_sI]
        exact g4 j (by lia)
theorem c_rgAdd (G : RGc h a n lo hi fl) (hx : 0 ≤ x ∧ x < 4611686018427387904) (hb : ∀ j, j < n → 0 ≤ hi j ∧ hi j < 4611686018427387904) : wp (f_cRanges_add a x h) (fun o => ∃ k : Nat, k ≤ n ∧ (∀ i, i < k → x < lo i) ∧ (k < n → lo k ≤ x) ∧ adQ o a n lo hi fl x k) := by
  unfold f_cRanges_add f_cRanges_add_b29
  refine wp_b2o (c_place G) (fun kk h1 _ q => ?_)
  obtain ⟨k, e, k1, k2, k3⟩ := q
  obtain ⟨rfl, rfl⟩ : kk = (k : Int) ∧ h1 = h := by
    have e1 := congrArg Prod.fst e
    have e2 := congrArg Prod.snd e
    exact ⟨e1, e2⟩
  obtain ⟨L, g1, g2, g3, g4⟩ := G
  have a0 := L.1
  have G0 : RG0 h1 a n lo hi fl := ⟨L, g1, by lia, g3, g4⟩
  have z1 : ¬ (a + 1 = 0) := by lia
  have z2 : ¬ (a + 2 = 0) := by lia
  have we : w64 (x + 1) = x + 1 := w64_id ⟨by lia, by lia⟩
  have wd : w64 (x - 1) = x - 1 := w64_id ⟨by lia, by lia⟩
  have go : ∀ ab : Int, ab = (if 0 < k ∧ lo (k - 1) = x + 1 then 1 else 0) → wp (f_cRanges_add_b30 a x (k : Int) ab h1) (fun o => ∃ k : Nat, k ≤ n ∧ (∀ i, i < k → x < lo i) ∧ (k < n → lo k ≤ x) ∧ adQ o a n lo hi fl x k) := fun ab hab => by
    unfold f_cRanges_add_b30 f_cRanges_add_b57
    rw [g1]
    by_cases c : (n : Int) ≤ k
    · rw [if_pos c]
      exact wp_of (c_ad58 G0 g2 k1 hab (show (0 : Int) = _ by rw [if_neg (by lia)]) hx hb) (fun o _ q => ⟨k, k1, k2, k3, q⟩)
    · have x2 : ix (k : Int) 65 := ⟨by lia, by lia⟩
      rw [if_neg c, L.r0_1, if_neg z2, L.l2, if_pos x2, Int.toNat_natCast, (g4 k (by lia)).2, wd]
      by_cases c2 : hi k = x - 1
      · rw [if_neg (fun z => z c2)]
        exact wp_of (c_ad58 G0 g2 k1 hab (show (1 : Int) = _ by rw [if_pos ⟨by lia, c2⟩]) hx hb) (fun o _ q => ⟨k, k1, k2, k3, q⟩)
      · rw [if_pos c2]
        exact wp_of (c_ad58 G0 g2 k1 hab (show (0 : Int) = _ by rw [if_neg (fun z => c2 z.2)]) hx hb) (fun o _ q => ⟨k, k1, k2, k3, q⟩)
  by_cases c : (k : Int) ≤ 0
  · rw [if_pos c]
    exact go 0 (by rw [if_neg (by lia)])
  · have w1 : w32 ((k : Int) - 1) = ((k - 1 : Nat) : Int) := by unfold w32; lia
    have x1 : ix ((k - 1 : Nat) : Int) 65 := ⟨by lia, by lia⟩
    rw [if_neg c, L.r0_0, if_neg z1, w1, L.l1, if_pos x1, Int.toNat_natCast, (g4 (k - 1) (by lia)).1, we]
    by_cases c2 : lo (k - 1) = x + 1
    · rw [if_neg (fun z => z c2)]
      exact go 1 (by rw [if_pos ⟨by lia, c2⟩])
    · rw [if_pos c2]
      exact go 0 (by rw [if_neg (fun z => c2 z.2)])
end
