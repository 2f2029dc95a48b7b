/-! the book: a packet comes, class and model -/
section
variable {hc hc' hm hm' : Hp} {a m p s n k : Nat} {w : Nat → Nat} {T x el : Int} {lo hi : Nat → Int} {fl : Int}
/-- only what came of space s changes in the model -/
def McF (hm hm' : Hp) (m s : Nat) : Prop := hR hm' = hR hm ∧ ln hm' = ln hm ∧ hm'.1 = hm.1 ∧ (∀ y k, ¬ ((y = m + 17 ∨ (m + 21 ≤ y ∧ y ≤ m + 24)) ∧ k = s) → hI hm' y k = hI hm y k) ∧ ∀ y k, (y ≠ m + 18 ∧ y ≠ m + 19 ∧ (y ≠ m + 20 ∨ k ≠ s)) ∨ ((y = m + 18 ∨ y = m + 19) ∧ (k < 65 * s ∨ 65 * s + 65 ≤ k)) → hJ hm' y k = hJ hm y k
theorem m_came (G : RGm hm m s n lo hi fl) (hk : k ≤ n) (K1 : ∀ i, i < k → x < lo i) (K2 : k < n → lo k ≤ x) (hx : 0 ≤ x ∧ x < 4611686018427387904) (hb : ∀ i, i < n → 0 ≤ hi i ∧ hi i < 4611686018427387904) (eT : hI hm m 0 = T) (nold : ¬ (x < fl ∨ ∃ i, i < n ∧ lo i ≤ x ∧ x ≤ hi i)) : wp (f_mBook_came m (s : Int) x el hm) (fun o => McF hm o m s ∧ RGm o m s (adN n lo hi x k) (adL n lo hi x k) (adH n lo hi x k) (adF n lo hi fl x k) ∧ hI o (m + 21) s = (if x < (if n = 0 then 0 else hi 0 + 1) then hI hm (m + 21) s else T) ∧ hI o (m + 24) s = (if el = 0 then hI hm (m + 24) s else if hI hm (m + 24) s ≠ 0 then 1 else if x = (if n = 0 then 0 else hi 0 + 1) then 0 else 1) ∧ hI o (m + 23) s = (if el = 0 then hI hm (m + 23) s else if hI hm (m + 22) s ≠ 0 then hI hm (m + 23) s else T) ∧ hI o (m + 22) s = (if el = 0 then hI hm (m + 22) s else w32 (hI hm (m + 22) s + 1))) := by
  have L := G.1
  have m0 := L.1
  have g0 := G.2.1
  have xs : ix (s : Int) 3 := ⟨by lia, by lia⟩
  have z21 : ¬ (m + 21 = 0) := by lia
  have z22 : ¬ (m + 22 = 0) := by lia
  have z23 : ¬ (m + 23 = 0) := by lia
  have z24 : ¬ (m + 24 = 0) := by lia
  obtain ⟨nx, hnx⟩ : ∃ nx, nx = (if n = 0 then (0 : Int) else hi 0 + 1) := ⟨_, rfl⟩
  rw [← hnx]
  have gr : (if n = 0 then (-1 : Int) else hi 0) = nx - 1 := by
    rw [hnx]; split <;> lia
  have bx : 0 ≤ nx ∧ nx ≤ 4611686018427387904 := by
    rw [hnx]
    by_cases c : n = 0
    · rw [if_pos c]; lia
    · rw [if_neg c]; have := hb 0 (by lia); lia
  obtain ⟨⟨v, h1⟩, e1, q1, q2, q3⟩ := m_isOld (x := x) G
  dsimp only at q1 q2 q3
  subst q1
  have v0 : v = 0 := by
    by_cases e : v = 1
    · exact absurd (q3.mp e) nold
    · lia
  unfold f_mBook_came
  rw [e1, b2_some, if_pos v0, m_greatest G, b2_some, gr]
  -- behind the time of the greatest
  have go : ∀ g1, g1 = (if x < nx then h1 else sI h1 (m + 21) s T) → wp (f_mBook_came_b34 m (s : Int) x el (nx - 1) g1) (fun o => McF h1 o m s ∧ RGm o m s (adN n lo hi x k) (adL n lo hi x k) (adH n lo hi x k) (adF n lo hi fl x k) ∧ hI o (m + 21) s = (if x < nx then hI h1 (m + 21) s else T) ∧ hI o (m + 24) s = (if el = 0 then hI h1 (m + 24) s else if hI h1 (m + 24) s ≠ 0 then 1 else if x = nx then 0 else 1) ∧ hI o (m + 23) s = (if el = 0 then hI h1 (m + 23) s else if hI h1 (m + 22) s ≠ 0 then hI h1 (m + 23) s else T) ∧ hI o (m + 22) s = (if el = 0 then hI h1 (m + 22) s else w32 (hI h1 (m + 22) s + 1))) := fun g1 eg => by
    have O1 : OnI h1 g1 := by rw [eg]; split; exact OnI.refl; exact OnI.refl.s
    have I1 : ∀ y k, ¬ (y = m + 21 ∧ k = s) → hI g1 y k = hI h1 y k := fun y k h => by
      rw [eg]; split
      · rfl
      · rw [hI_sI, if_neg h]
    have V1 : hI g1 (m + 21) s = if x < nx then hI h1 (m + 21) s else T := by
      rw [eg]
      by_cases c : x < nx
      · rw [if_pos c, if_pos c]
      · rw [if_neg c, if_neg c, hI_sI, if_pos ⟨rfl, rfl⟩]
    have G1 : RGm g1 m s n lo hi fl := by
      obtain ⟨_, _, k3, k4, k5, k6⟩ := G
      exact ⟨L.of O1.r O1.l, g0, by rw [I1 _ _ (by lia)]; exact k3, k4, by rw [O1.j]; exact k5, fun i hi' => by rw [O1.j]; exact k6 i hi'⟩
    unfold f_mBook_came_b34 f_mBook_came_b65 f_mBook_came_b98 f_mBook_came_b103
    refine wp_b1o (m_comeIn G1 hk K1 K2 hx hb) (fun g2 e2 q => ?_)
    obtain ⟨G2, F2⟩ := q
    have FE := fe_mBook_comeIn m (s : Int) x g1 g2 e2
    have L2 := G2.1
    have r2 : hR g2 = hR h1 := FE.r.trans O1.r
    have l2 : ln g2 = ln h1 := FE.l.trans O1.l
    have n2 : g2.1 = h1.1 := FE.1.1.trans O1.1
    have I2 : ∀ y k, ¬ (y = m + 17 ∧ k = s) → hI g2 y k = hI g1 y k := fun y k h => F2.2 y k (by lia)
    have F1 : McF h1 g2 m s := ⟨r2, l2, n2, fun y k h => by rw [I2 _ _ (by lia), I1 _ _ (by lia)], fun y k h => by rw [F2.1 y k h, O1.j]⟩
    -- sets of int slots keep the ranges
    have RS : ∀ {g : Hp} {y u}, y ≠ m + 17 → RGm g m s (adN n lo hi x k) (adL n lo hi x k) (adH n lo hi x k) (adF n lo hi fl x k) → RGm (sI g y s u) m s (adN n lo hi x k) (adL n lo hi x k) (adH n lo hi x k) (adF n lo hi fl x k) := fun {g y u} hy R => by
      obtain ⟨k1, k2, k3, k4, k5, k6⟩ := R
      exact ⟨k1, k2, by rw [hI_sI, if_neg (by lia)]; exact k3, k4, k5, k6⟩
    have MS : ∀ {g : Hp} {y u}, m + 21 ≤ y → y ≤ m + 24 → McF h1 g m s → McF h1 (sI g y s u) m s := fun {g y u} hy1 hy2 R => by
      obtain ⟨k1, k2, k3, k4, k5⟩ := R
      exact ⟨k1, k2, k3, fun z k h => by rw [hI_sI, if_neg (by lia)]; exact k4 z k h, k5⟩
    have v21 : hI g2 (m + 21) s = if x < nx then hI h1 (m + 21) s else T := by rw [I2 _ _ (by lia)]; exact V1
    have vO : ∀ i, 22 ≤ i → i ≤ 24 → hI g2 (m + i) s = hI h1 (m + i) s := fun i h h' => by rw [I2 _ _ (by lia), I1 _ _ (by lia)]
    have eT2 : hI g2 m 0 = T := by rw [I2 _ _ (by lia), I1 _ _ (by lia)]; exact eT
    by_cases ce : el = 0
    · rw [if_neg (fun z => z ce), wp_some]
      simp only [if_pos ce]
      exact ⟨F1, G2, v21, vO 24 (by decide) (by decide), vO 23 (by decide) (by decide), vO 22 (by decide) (by decide)⟩
    · rw [if_pos ce]
      simp only [if_neg ce]
      have wn : w64 (nx - 1 + 1) = nx := by rw [w64_id ⟨by lia, by lia⟩]; lia
      -- the rest, from a heap on whose time since is known
      have fin : ∀ g3, McF h1 g3 m s → RGm g3 m s (adN n lo hi x k) (adL n lo hi x k) (adH n lo hi x k) (adF n lo hi fl x k) → hI g3 (m + 21) s = (if x < nx then hI h1 (m + 21) s else T) → hI g3 (m + 24) s = hI h1 (m + 24) s → hI g3 (m + 22) s = hI h1 (m + 22) s → hI g3 (m + 23) s = (if hI h1 (m + 22) s ≠ 0 then hI h1 (m + 23) s else T) → wp (if hR g3 m 35 = 0 then none else if ix (s : Int) (ln g3 (hR g3 m 35)) then if ix (s : Int) (ln g3 (hR g3 m 35)) then lt1 (sI g3 (hR g3 m 35) (s : Int).toNat (w32 ((hI g3 (hR g3 m 35) (s : Int).toNat) + 1))) fun h20 => if hR h20 m 37 = 0 then none else if ix (s : Int) (ln h20 (hR h20 m 37)) then if (hI h20 (hR h20 m 37) (s : Int).toNat) ≠ 0 then (if hR h20 m 37 = 0 then none else if ix (s : Int) (ln h20 (hR h20 m 37)) then if ¬ ((1 : Int) = 0 ∨ (1 : Int) = 1) then none else lt1 (sI h20 (hR h20 m 37) (s : Int).toNat 1) fun h25 => some h25 else none) else if x = (w64 (nx - 1 + 1)) then (if hR h20 m 37 = 0 then none else if ix (s : Int) (ln h20 (hR h20 m 37)) then if ¬ ((0 : Int) = 0 ∨ (0 : Int) = 1) then none else lt1 (sI h20 (hR h20 m 37) (s : Int).toNat 0) fun h25 => some h25 else none) else (if hR h20 m 37 = 0 then none else if ix (s : Int) (ln h20 (hR h20 m 37)) then if ¬ ((1 : Int) = 0 ∨ (1 : Int) = 1) then none else lt1 (sI h20 (hR h20 m 37) (s : Int).toNat 1) fun h25 => some h25 else none) else none else none else none) (fun o => McF h1 o m s ∧ RGm o m s (adN n lo hi x k) (adL n lo hi x k) (adH n lo hi x k) (adF n lo hi fl x k) ∧ hI o (m + 21) s = (if x < nx then hI h1 (m + 21) s else T) ∧ hI o (m + 24) s = (if hI h1 (m + 24) s ≠ 0 then 1 else if x = nx then 0 else 1) ∧ hI o (m + 23) s = (if hI h1 (m + 22) s ≠ 0 then hI h1 (m + 23) s else T) ∧ hI o (m + 22) s = w32 (hI h1 (m + 22) s + 1)) := fun g3 F3 R3 u1 u2 u3 u4 => by
        have L3 : MBk g3 m := R3.1
        simp only [hR_sI, ln_sI, L3.r0_35, L3.r0_37, L3.l22, L3.l24, if_neg z22, if_neg z24, if_pos xs, Int.toNat_natCast, lt1_eq, u3, wn, if_neg (show ¬ ¬ ((1 : Int) = 0 ∨ (1 : Int) = 1) by decide), if_neg (show ¬ ¬ ((0 : Int) = 0 ∨ (0 : Int) = 1) by decide)]
        obtain ⟨g4, e4⟩ : ∃ g4, g4 = sI g3 (m + 22) s (w32 (hI h1 (m + 22) s + 1)) := ⟨_, rfl⟩
        rw [← e4]
        have F4 : McF h1 g4 m s := by rw [e4]; exact MS (by lia) (by lia) F3
        have R4 := RS (y := m + 22) (u := w32 (hI h1 (m + 22) s + 1)) (by lia) R3
        rw [← e4] at R4
        have b24 : hI g4 (m + 24) s = hI h1 (m + 24) s := by rw [e4, hI_sI, if_neg (by lia)]; exact u2
        have out : ∀ v : Int, v = (if hI h1 (m + 24) s ≠ 0 then 1 else if x = nx then 0 else 1) → wp (some (sI g4 (m + 24) s v)) (fun o => McF h1 o m s ∧ RGm o m s (adN n lo hi x k) (adL n lo hi x k) (adH n lo hi x k) (adF n lo hi fl x k) ∧ hI o (m + 21) s = (if x < nx then hI h1 (m + 21) s else T) ∧ hI o (m + 24) s = (if hI h1 (m + 24) s ≠ 0 then 1 else if x = nx then 0 else 1) ∧ hI o (m + 23) s = (if hI h1 (m + 22) s ≠ 0 then hI h1 (m + 23) s else T) ∧ hI o (m + 22) s = w32 (hI h1 (m + 22) s + 1)) := fun v hv => by
          rw [wp_some, ← hv]
          refine ⟨MS (by lia) (by lia) F4, RS (by lia) R4, ?_, ?_, ?_, ?_⟩
          · rw [hI_sI, if_neg (by lia), e4, hI_sI, if_neg (by lia)]; exact u1
          · rw [hI_sI, if_pos ⟨rfl, rfl⟩]
          · rw [hI_sI, if_neg (by lia), e4, hI_sI, if_neg (by lia)]; exact u4
          · rw [hI_sI, if_neg (by lia), e4, hI_sI, if_pos ⟨rfl, rfl⟩]
        rw [b24]
        by_cases c24 : hI h1 (m + 24) s = 0
        · rw [if_neg (fun z => z c24)]
          by_cases cx : x = nx
          · rw [if_pos cx]; exact out 0 (by rw [if_neg (fun z => z c24), if_pos cx])
          · rw [if_neg cx]; exact out 1 (by rw [if_neg (fun z => z c24), if_neg cx])
        · rw [if_pos c24]; exact out 1 (by rw [if_pos c24])
      rw [L2.r0_35, if_neg z22, L2.l22, if_pos xs, Int.toNat_natCast, vO 22 (by decide) (by decide)]
      by_cases c22 : hI h1 (m + 22) s = 0
      · rw [if_neg (fun z => z c22), L2.r0_36, if_neg z23, L2.l23, if_pos xs, eT2, lt1_eq]
        have t := fin (sI g2 (m + 23) s T) (MS (by lia) (by lia) F1) (RS (by lia) G2) (by rw [hI_sI, if_neg (by lia)]; exact v21) (by rw [hI_sI, if_neg (by lia)]; exact vO 24 (by decide) (by decide)) (by rw [hI_sI, if_neg (by lia)]; exact vO 22 (by decide) (by decide)) (by rw [hI_sI, if_pos ⟨rfl, rfl⟩, if_neg (fun z => z c22)])
        rw [Int.toNat_natCast] at t
        exact t
      · rw [if_pos c22]
        have t := fin g2 F1 G2 v21 (vO 24 (by decide) (by decide)) (vO 22 (by decide) (by decide)) (by rw [if_pos c22]; exact vO 23 (by decide) (by decide))
        simp only [L2.r0_35, if_neg z22, L2.l22, if_pos xs, Int.toNat_natCast, vO 22 (by decide) (by decide)] at t ⊢
        exact t
  by_cases cx : x < nx
  · rw [if_pos (by lia)]
    exact go h1 (by rw [if_pos cx])
  · rw [if_neg (by lia), L.r0_34, if_neg z21, L.l21, if_pos xs, lt1_eq, Int.toNat_natCast, eT]
    exact go _ (by rw [if_neg cx])
end
