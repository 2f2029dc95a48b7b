/-! the book: a packet comes -/
section
variable {hc hc' hm hm' : Hp} {a m p s n k : Nat} {w : Nat → Nat} {T x el : Int} {lo hi : Nat → Int} {fl : Int}
theorem RGc.on {q : Nat} (G : RGc hc q n lo hi fl) (r : hR hc' = hR hc) (l : ln hc' = ln hc) (j : hJ hc' = hJ hc) (e : hI hc' q 2 = hI hc q 2) : RGc hc' q n lo hi fl := by
  obtain ⟨L, g1, g2, g3, g4⟩ := G
  exact ⟨L.of r l, by rw [e]; exact g1, g2, by rw [j]; exact g3, fun i hi' => by rw [j]; exact g4 i hi'⟩
/-- the class's flags when a packet comes -/
def tkC (hc : Hp) (p : Nat) (T x el nx : Int) : Hp :=
  let h1 := if x < nx then hc else sI hc p 16 T
  if el = 0 then h1 else
    let h2 := sI h1 p 17 (if hI h1 p 17 ≠ 0 then 1 else if x = nx then 0 else 1)
    let h3 := if hI h2 p 14 ≠ 0 then h2 else sI h2 p 15 T
    sI h3 p 14 (w32 (hI h3 p 14 + 1))
theorem tkC_on (T x el nx : Int) : OnI hc (tkC hc p T x el nx) ∧ ∀ y k, ¬ (y = p ∧ 14 ≤ k) → hI (tkC hc p T x el nx) y k = hI hc y k := by
  have h1 : OnI hc (if x < nx then hc else sI hc p 16 T) ∧ ∀ y k, ¬ (y = p ∧ 14 ≤ k) → hI (if x < nx then hc else sI hc p 16 T) y k = hI hc y k := by
    split
    · exact ⟨OnI.refl, fun _ _ _ => rfl⟩
    · exact ⟨OnI.refl.s, fun y k h => by rw [hI_sI, if_neg (by lia)]⟩
  unfold tkC
  generalize (if x < nx then hc else sI hc p 16 T) = g1 at h1
  simp only []
  split
  · exact h1
  · generalize (if hI g1 p 17 ≠ 0 then (1 : Int) else if x = nx then 0 else 1) = v
    have h2 : OnI hc (sI g1 p 17 v) ∧ ∀ y k, ¬ (y = p ∧ 14 ≤ k) → hI (sI g1 p 17 v) y k = hI hc y k := ⟨h1.1.s, fun y k h => by rw [hI_sI, if_neg (by lia)]; exact h1.2 y k h⟩
    generalize sI g1 p 17 v = g2 at h2
    split
    · exact ⟨h2.1.s, fun y k h => by rw [hI_sI, if_neg (by lia)]; exact h2.2 y k h⟩
    · exact ⟨h2.1.s.s, fun y k h => by rw [hI_sI, if_neg (by lia), hI_sI, if_neg (by lia)]; exact h2.2 y k h⟩
theorem tkC_v (T x el nx : Int) : hI (tkC hc p T x el nx) p 16 = (if x < nx then hI hc p 16 else T) ∧ hI (tkC hc p T x el nx) p 17 = (if el = 0 then hI hc p 17 else if hI hc p 17 ≠ 0 then 1 else if x = nx then 0 else 1) ∧ hI (tkC hc p T x el nx) p 15 = (if el = 0 then hI hc p 15 else if hI hc p 14 ≠ 0 then hI hc p 15 else T) ∧ hI (tkC hc p T x el nx) p 14 = (if el = 0 then hI hc p 14 else w32 (hI hc p 14 + 1)) := by
  obtain ⟨g1, e1⟩ : ∃ g1, g1 = if x < nx then hc else sI hc p 16 T := ⟨_, rfl⟩
  have a16 : hI g1 p 16 = if x < nx then hI hc p 16 else T := by
    rw [e1]
    by_cases c : x < nx
    · rw [if_pos c, if_pos c]
    · rw [if_neg c, if_neg c, hI_sI, if_pos ⟨rfl, rfl⟩]
  have aO : ∀ k, k ≠ 16 → hI g1 p k = hI hc p k := fun k hk => by
    rw [e1]
    by_cases c : x < nx
    · rw [if_pos c]
    · rw [if_neg c, hI_sI, if_neg (by lia)]
  unfold tkC
  simp only [← e1]
  by_cases c : el = 0
  · simp only [if_pos c]
    exact ⟨a16, aO 17 (by decide), aO 15 (by decide), aO 14 (by decide)⟩
  · simp only [if_neg c]
    obtain ⟨v, ev⟩ : ∃ v, v = (if hI g1 p 17 ≠ 0 then (1 : Int) else if x = nx then 0 else 1) := ⟨_, rfl⟩
    rw [← ev]
    have b : ∀ k, hI (sI g1 p 17 v) p k = if k = 17 then v else hI g1 p k := fun k => by
      rw [hI_sI]
      by_cases e : k = 17
      · rw [if_pos ⟨rfl, e⟩, if_pos e]
      · rw [if_neg (by lia), if_neg e]
    have b14 : hI (sI g1 p 17 v) p 14 = hI hc p 14 := by rw [b, if_neg (by decide)]; exact aO 14 (by decide)
    have ev' : v = (if hI hc p 17 ≠ 0 then (1 : Int) else if x = nx then 0 else 1) := by rw [ev, aO 17 (by decide)]
    rw [b14]
    by_cases d : hI hc p 14 = 0
    · simp only [if_neg (show ¬ (hI hc p 14 ≠ 0) from fun z => z d)]
      have b2 : ∀ k, k ≠ 15 → hI (sI (sI g1 p 17 v) p 15 T) p k = hI (sI g1 p 17 v) p k := fun k hk => by rw [hI_sI, if_neg (by lia)]
      have b3 : ∀ u k, k ≠ 14 → hI (sI (sI (sI g1 p 17 v) p 15 T) p 14 u) p k = hI (sI (sI g1 p 17 v) p 15 T) p k := fun u k hk => by rw [hI_sI, if_neg (by lia)]
      refine ⟨?_, ?_, ?_, ?_⟩
      · rw [b3 _ _ (by decide), b2 _ (by decide), b, if_neg (by decide)]; exact a16
      · rw [b3 _ _ (by decide), b2 _ (by decide), b, if_pos rfl]; exact ev'
      · rw [b3 _ _ (by decide), hI_sI, if_pos ⟨rfl, rfl⟩]
      · rw [hI_sI, if_pos ⟨rfl, rfl⟩, b2 _ (by decide), b14]
    · simp only [if_pos (show hI hc p 14 ≠ 0 from d)]
      have b3 : ∀ u k, k ≠ 14 → hI (sI (sI g1 p 17 v) p 14 u) p k = hI (sI g1 p 17 v) p k := fun u k hk => by rw [hI_sI, if_neg (by lia)]
      refine ⟨?_, ?_, ?_, ?_⟩
      · rw [b3 _ _ (by decide), b, if_neg (by decide)]; exact a16
      · rw [b3 _ _ (by decide), b, if_pos rfl]; exact ev'
      · rw [b3 _ _ (by decide), b, if_neg (by decide)]; exact aO 15 (by decide)
      · rw [hI_sI, if_pos ⟨rfl, rfl⟩, b14]
theorem c_takes (G : RGc hc (p + 8) n lo hi fl) (D : RGd n lo hi) (bd : ∀ i, i < n → 0 ≤ lo i ∧ hi i < 4611686018427387904) (r13 : hR hc p 13 = p + 8) (p0 : p ≠ 0) (hx : 0 ≤ x ∧ x < 4611686018427387904) : wp (f_cSpace_takes p T x el hc) (fun o => (((x < fl ∨ ∃ i, i < n ∧ lo i ≤ x ∧ x ≤ hi i) → o.2 = hc) ∧ (¬ (x < fl ∨ ∃ i, i < n ∧ lo i ≤ x ∧ x ≤ hi i) → ∃ k, k ≤ n ∧ (∀ i, i < k → x < lo i) ∧ (k < n → lo k ≤ x) ∧ RGc o.2 (p + 8) (adN n lo hi x k) (adL n lo hi x k) (adH n lo hi x k) (adF n lo hi fl x k) ∧ ∀ y, 14 ≤ y → hI o.2 p y = hI (tkC hc p T x el (if n = 0 then 0 else hi 0 + 1)) p y))) := by
  have z8 : ¬ (p + 8 = 0) := by lia
  have z10 : ¬ (p + 8 + 2 = 0) := by lia
  unfold f_cSpace_takes
  rw [r13, if_neg z8]
  refine wp_b2o (c_has G D) (fun v h1 _ q => ?_)
  obtain ⟨q1, q2, q3⟩ := q
  dsimp only at q1 q2 q3
  subst q1
  by_cases c : x < fl ∨ ∃ i, i < n ∧ lo i ≤ x ∧ x ≤ hi i
  · rw [if_neg (by have := q3.mpr c; lia), wp_some]
    exact ⟨fun _ => rfl, fun z => absurd c z⟩
  · have v0 : v = 0 := by
      by_cases e : v = 1
      · exact absurd (q3.mp e) c
      · lia
    rw [if_pos v0]
    have L := G.1
    have fin : ∀ h, h = tkC h1 p T x el (if n = 0 then 0 else hi 0 + 1) → wp (f_cSpace_takes_b102 p x h) (fun o => (((x < fl ∨ ∃ i, i < n ∧ lo i ≤ x ∧ x ≤ hi i) → o.2 = h1) ∧ (¬ (x < fl ∨ ∃ i, i < n ∧ lo i ≤ x ∧ x ≤ hi i) → ∃ k, k ≤ n ∧ (∀ i, i < k → x < lo i) ∧ (k < n → lo k ≤ x) ∧ RGc o.2 (p + 8) (adN n lo hi x k) (adL n lo hi x k) (adH n lo hi x k) (adF n lo hi fl x k) ∧ ∀ y, 14 ≤ y → hI o.2 p y = hI (tkC h1 p T x el (if n = 0 then 0 else hi 0 + 1)) p y))) := fun h eh => by
      have O := tkC_on (hc := h1) (p := p) T x el (if n = 0 then 0 else hi 0 + 1)
      rw [← eh] at O
      have Gh : RGc h (p + 8) n lo hi fl := G.on O.1.r O.1.l O.1.j (O.2 _ _ (by lia))
      unfold f_cSpace_takes_b102
      rw [O.1.r, r13, if_neg z8]
      refine wp_b1o (c_rgAdd Gh hx (fun j hj => ⟨by have := bd j hj; have := D.1 j hj; lia, (bd j hj).2⟩)) (fun h2 e2 q => ?_)
      obtain ⟨k, k1, k2, k3, k4⟩ := q
      rw [wp_some]
      refine ⟨fun z => absurd z c, fun _ => ⟨k, k1, k2, k3, adQ_RG G.2.2.1 k4, fun y hy => ?_⟩⟩
      have F := fe_cRanges_add (p + 8) x h h2 e2
      show hI h2 p y = _
      rw [← eh]
      exact F.I (fun z => by unfold wI_cRanges_add at z; lia)
    have go : ∀ nx : Int, nx = (if n = 0 then 0 else hi 0 + 1) → wp (f_cSpace_takes_b38 p T x el nx h1) (fun o => (((x < fl ∨ ∃ i, i < n ∧ lo i ≤ x ∧ x ≤ hi i) → o.2 = h1) ∧ (¬ (x < fl ∨ ∃ i, i < n ∧ lo i ≤ x ∧ x ≤ hi i) → ∃ k, k ≤ n ∧ (∀ i, i < k → x < lo i) ∧ (k < n → lo k ≤ x) ∧ RGc o.2 (p + 8) (adN n lo hi x k) (adL n lo hi x k) (adH n lo hi x k) (adF n lo hi fl x k) ∧ ∀ y, 14 ≤ y → hI o.2 p y = hI (tkC h1 p T x el (if n = 0 then 0 else hi 0 + 1)) p y))) := fun nx hnx => by
      rw [← hnx] at fin ⊢
      have st52 : ∀ g1, g1 = (if x < nx then h1 else sI h1 p 16 T) → wp (f_cSpace_takes_b52 p T x el nx g1) (fun o => (((x < fl ∨ ∃ i, i < n ∧ lo i ≤ x ∧ x ≤ hi i) → o.2 = h1) ∧ (¬ (x < fl ∨ ∃ i, i < n ∧ lo i ≤ x ∧ x ≤ hi i) → ∃ k, k ≤ n ∧ (∀ i, i < k → x < lo i) ∧ (k < n → lo k ≤ x) ∧ RGc o.2 (p + 8) (adN n lo hi x k) (adL n lo hi x k) (adH n lo hi x k) (adF n lo hi fl x k) ∧ ∀ y, 14 ≤ y → hI o.2 p y = hI (tkC h1 p T x el nx) p y))) := fun g1 eg1 => by
        unfold f_cSpace_takes_b52 f_cSpace_takes_b72
        by_cases ce : el = 0
        · rw [if_pos ce]
          exact fin g1 (by unfold tkC; simp only [← eg1, if_pos ce])
        · rw [if_neg ce]
          have st77 : ∀ v : Int, v = (if hI g1 p 17 ≠ 0 then (1 : Int) else if x = nx then 0 else 1) → wp (f_cSpace_takes_b77 p T x p v g1) (fun o => (((x < fl ∨ ∃ i, i < n ∧ lo i ≤ x ∧ x ≤ hi i) → o.2 = h1) ∧ (¬ (x < fl ∨ ∃ i, i < n ∧ lo i ≤ x ∧ x ≤ hi i) → ∃ k, k ≤ n ∧ (∀ i, i < k → x < lo i) ∧ (k < n → lo k ≤ x) ∧ RGc o.2 (p + 8) (adN n lo hi x k) (adL n lo hi x k) (adH n lo hi x k) (adF n lo hi fl x k) ∧ ∀ y, 14 ≤ y → hI o.2 p y = hI (tkC h1 p T x el nx) p y))) := fun v ev => by
            unfold f_cSpace_takes_b77 f_cSpace_takes_b92
            have v01 : ¬ ¬ (v = 0 ∨ v = 1) := by rw [ev]; (repeat' split) <;> lia
            rw [if_neg p0, if_neg v01, wp_lt1]
            by_cases cp : hI (sI g1 p 17 v) p 14 = 0
            · rw [if_neg (fun z => z cp), wp_lt1, wp_lt1]
              exact fin _ (by unfold tkC; simp only [← eg1, if_neg ce, ← ev, if_neg (show ¬ (hI (sI g1 p 17 v) p 14 ≠ 0) from fun z => z cp)])
            · rw [if_pos cp, wp_lt1]
              exact fin _ (by unfold tkC; simp only [← eg1, if_neg ce, ← ev, if_pos (show hI (sI g1 p 17 v) p 14 ≠ 0 from cp)])
          by_cases c17 : hI g1 p 17 = 0
          · rw [if_neg (fun z => z c17)]
            by_cases cx : x = nx
            · rw [if_pos cx]; exact st77 0 (by rw [if_neg (fun z => z c17), if_pos cx])
            · rw [if_neg cx]; exact st77 1 (by rw [if_neg (fun z => z c17), if_neg cx])
          · rw [if_pos c17]; exact st77 1 (by rw [if_pos c17])
      unfold f_cSpace_takes_b38
      by_cases cn : x < nx
      · rw [if_pos cn]; exact st52 h1 (by rw [if_pos cn])
      · rw [if_neg cn, wp_lt1]; exact st52 _ (by rw [if_neg cn])
    rw [r13, if_neg z8, G.2.1]
    by_cases cn : n = 0
    · rw [if_neg (by lia)]
      exact go 0 (by rw [if_pos cn])
    · have b0 := bd 0 (by lia)
      have d0 := D.1 0 (by lia)
      rw [if_pos (by lia), L.r0_1, if_neg z10, L.l2, if_pos (by decide), tn0, (G.2.2.2.2 0 (by lia)).2, w64_id ⟨by lia, by lia⟩]
      exact go _ (by rw [if_neg cn])
end
