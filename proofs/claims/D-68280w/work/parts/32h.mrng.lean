/-! ranges of the model: putting in -/
theorem fcg {f : Nat → Int} {a b : Nat} (e : a = b) : f a = f b := by rw [e]
section
variable {ho h : Hp} {m s n : Nat} {P Q lo hi : Nat → Int} {fl x : Int} {p : Nat} {R : Hp → Prop}
theorem m_ci13L (n2 : n ≤ 64) (hp : p ≤ n) (hP1 : ∀ i, p ≤ i → i < n → x < P i) (hP2 : 0 < p → P (p - 1) ≤ x) (K : ∀ h, MBk h m → s < 3 → hI h (m + 17) s = (n : Int) → hJ h (m + 20) s = fl → (∀ j, j < n + 1 → (j < p → hJ h (m + 18) (65 * s + j) = P j ∧ hJ h (m + 19) (65 * s + j) = Q j) ∧ (p < j → hJ h (m + 18) (65 * s + j) = P (j - 1) ∧ hJ h (m + 19) (65 * s + j) = Q (j - 1))) → (∀ y k, (y ≠ m + 18 ∧ y ≠ m + 19 ∧ (y ≠ m + 20 ∨ k ≠ s)) ∨ ((y = m + 18 ∨ y = m + 19) ∧ (k < 65 * s ∨ 65 * s + 65 ≤ k)) → hJ h y k = hJ ho y k) → (∀ y k, (y ≠ m + 17 ∨ k ≠ s) → hI h y k = hI ho y k) → wp (f_mBook_comeIn_b74 m (s : Int) x ((65 * s + p : Nat) : Int) h) R) (f : Nat) : ∀ (i : Nat) (h : Hp), p ≤ i → i ≤ n → i - p < f → MBk h m → s < 3 → hI h (m + 17) s = (n : Int) → hJ h (m + 20) s = fl → (∀ j, j < n + 1 → (j < n → j ≤ i → hJ h (m + 18) (65 * s + j) = P j ∧ hJ h (m + 19) (65 * s + j) = Q j) ∧ (i < j → hJ h (m + 18) (65 * s + j) = P (j - 1) ∧ hJ h (m + 19) (65 * s + j) = Q (j - 1))) → (∀ y k, (y ≠ m + 18 ∧ y ≠ m + 19 ∧ (y ≠ m + 20 ∨ k ≠ s)) ∨ ((y = m + 18 ∨ y = m + 19) ∧ (k < 65 * s ∨ 65 * s + 65 ≤ k)) → hJ h y k = hJ ho y k) → (∀ y k, (y ≠ m + 17 ∨ k ≠ s) → hI h y k = hI ho y k) → wp (f_mBook_comeIn_b13_lp f m (s : Int) x ((65 * s + i : Nat) : Int) h) R := by
  induction f with
  | zero => intro i h _ _ hf; lia
  | succ f ih =>
    intro i h hpi hin hf L g0 g1 g3 V g5 g6
    show wp (f_mBook_comeIn_b13 (f_mBook_comeIn_b13_lp f) m (s : Int) x ((65 * s + i : Nat) : Int) h) R
    unfold f_mBook_comeIn_b13
    have a0 := L.1
    have z2 : ¬ (m + 18 = 0) := by lia
    have z3 : ¬ (m + 19 = 0) := by lia
    have w1 : w32 (65 * (s : Int)) = ((65 * s : Nat) : Int) := by unfold w32; lia
    have go : i = p → wp (f_mBook_comeIn_b74 m (s : Int) x ((65 * s + p : Nat) : Int) h) R := fun e => by
      subst e
      exact K h L g0 g1 g3 (fun j hj => ⟨fun z => (V j hj).1 (by lia) (by lia), fun z => (V j hj).2 z⟩) g5 g6
    rw [w1]
    by_cases c0 : i = 0
    · rw [if_pos (by lia)]
      have : i = p := by lia
      rw [this]; exact go this
    · have w2 : w32 (((65 * s + i : Nat) : Int) - 1) = ((65 * s + (i - 1) : Nat) : Int) := by unfold w32; lia
      have w3 : w32 (((65 * s + i : Nat) : Int) + (-1)) = ((65 * s + (i - 1) : Nat) : Int) := by unfold w32; lia
      have x2 : ix ((65 * s + (i - 1) : Nat) : Int) 195 := ⟨by lia, by lia⟩
      have x3 : ix ((65 * s + i : Nat) : Int) 195 := ⟨by lia, by lia⟩
      have v := (V (i - 1) (by lia)).1 (by lia) (by lia)
      rw [if_neg (by lia)]
      simp only [L.r0_31, L.r0_32, L.l18, L.l19, hR_sJ, ln_sJ, if_neg z2, if_neg z3, if_pos x2, if_pos x3, Int.toNat_natCast, w2, w3, lt1_eq, v.1]
      by_cases c1 : P (i - 1) ≤ x
      · have : i = p := by
          by_cases e : p ≤ i - 1
          · have := hP1 (i - 1) e (by lia); lia
          · lia
        rw [if_pos c1, this]; exact go this
      · have lp : p ≤ i - 1 := by
          by_cases e : i = p
          · have := hP2 (by lia); rw [← e] at this; lia
          · lia
        rw [if_neg c1]
        have q1 : ¬ (m + 19 = m + 18) := by lia
        have q2 : ¬ (m + 18 = m + 19) := by lia
        refine ih (i - 1) _ lp (by lia) (by lia) L g0 g1 ?_ (fun j hj => ?_) (fun y k hy => ?_) g6
        · rw [hJ_sJ, if_neg (by lia), hJ_sJ, if_neg (by lia)]; exact g3
        · have vj := V j hj
          simp only [hJ_sJ, q1, q2, false_and, if_false, true_and, v.2]
          by_cases e : j = i
          · subst e
            rw [if_pos rfl, if_pos rfl]
            exact ⟨fun _ z => by lia, fun _ => ⟨rfl, rfl⟩⟩
          · rw [if_neg (by lia), if_neg (by lia)]
            exact ⟨fun z1 z2 => vj.1 z1 (by lia), fun z => vj.2 (by lia)⟩
        · rw [hJ_sJ, if_neg (by lia), hJ_sJ, if_neg (by lia)]; exact g5 y k hy
/-- only the ranges of a space of the model change -/
def RGfr (m s : Nat) (ho h : Hp) : Prop := (∀ y k, (y ≠ m + 18 ∧ y ≠ m + 19 ∧ (y ≠ m + 20 ∨ k ≠ s)) ∨ ((y = m + 18 ∨ y = m + 19) ∧ (k < 65 * s ∨ 65 * s + 65 ≤ k)) → hJ h y k = hJ ho y k) ∧ ∀ y k, (y ≠ m + 17 ∨ k ≠ s) → hI h y k = hI ho y k
theorem m_ciJ {k N : Nat} {P1 Q1 : Nat → Int} {o : Hp} (g0 : s < 3) (g2 : n ≤ 64) (hk : k ≤ n) (L1 : MBk o m) (q1 : hI o (m + 17) s = (N : Int)) (q3 : hJ o (m + 20) s = (if (n - k < n ∧ lo (n - 1 - (n - k)) = x + 1) ∨ (0 < n - k ∧ hi (n - 1 - (n - k - 1)) = x - 1) ∨ n < 64 then fl else inF (fun i => hi (n - 1 - i)) (n - k) x 0 + 1)) (q4 : ∀ i, i < N → hJ o (m + 18) (65 * s + i) = P1 i ∧ hJ o (m + 19) (65 * s + i) = Q1 i)
    (E : if n - k < n ∧ lo (n - 1 - (n - k)) = x + 1 then (if 0 < n - k ∧ hi (n - 1 - (n - k - 1)) = x - 1 then N = n - 1 ∧ (∀ i, i < n - 1 → P1 i = (if i < n - k then lo (n - 1 - i) else lo (n - 1 - (i + 1))) ∧ Q1 i = if i < n - k - 1 then hi (n - 1 - i) else hi (n - 1 - (i + 1))) else N = n ∧ (∀ i, i < n → P1 i = (if i = n - k then x else lo (n - 1 - i)) ∧ Q1 i = hi (n - 1 - i))) else (if 0 < n - k ∧ hi (n - 1 - (n - k - 1)) = x - 1 then N = n ∧ (∀ i, i < n → P1 i = lo (n - 1 - i) ∧ Q1 i = if i = n - k - 1 then x else hi (n - 1 - i)) else if n < 64 then N = n + 1 ∧ P1 = inF (fun i => lo (n - 1 - i)) (n - k) x ∧ Q1 = inF (fun i => hi (n - 1 - i)) (n - k) x else N = 64 ∧ P1 = rmF (inF (fun i => lo (n - 1 - i)) (n - k) x) 0 ∧ Q1 = rmF (inF (fun i => hi (n - 1 - i)) (n - k) x) 0)) : RGm o m s (adN n lo hi x k) (adL n lo hi x k) (adH n lo hi x k) (adF n lo hi fl x k) := by
  have up : (n - k < n ∧ lo (n - 1 - (n - k)) = x + 1) ↔ adU lo x k := by
    unfold adU
    constructor
    · rintro ⟨h1, h2⟩; exact ⟨by lia, by rw [← h2]; exact fcg (by lia)⟩
    · rintro ⟨h1, h2⟩; exact ⟨by lia, by rw [← h2]; exact fcg (by lia)⟩
  have dn : (0 < n - k ∧ hi (n - 1 - (n - k - 1)) = x - 1) ↔ adD n hi x k := by
    unfold adD
    constructor
    · rintro ⟨h1, h2⟩; exact ⟨by lia, by rw [← h2]; exact fcg (by lia)⟩
    · rintro ⟨h1, h2⟩; exact ⟨by lia, by rw [← h2]; exact fcg (by lia)⟩
  have fl3 : hJ o (m + 20) s = if adU lo x k ∨ adD n hi x k ∨ n < 64 then fl else inF (fun i => hi (n - 1 - i)) (n - k) x 0 + 1 := by
    rw [q3]
    by_cases c : adU lo x k ∨ adD n hi x k ∨ n < 64
    · rw [if_pos c, if_pos]
      rcases c with c | c | c
      · exact Or.inl (up.mpr c)
      · exact Or.inr (Or.inl (dn.mpr c))
      · exact Or.inr (Or.inr c)
    · rw [if_neg c, if_neg]
      rintro (z | z | z)
      · exact c (Or.inl (up.mp z))
      · exact c (Or.inr (Or.inl (dn.mp z)))
      · exact c (Or.inr (Or.inr z))
  unfold adN adL adH adF
  by_cases c1 : adU lo x k
  · have c3 : adU lo x k ∨ adD n hi x k ∨ n < 64 := Or.inl c1
    rw [if_pos (up.mpr c1)] at E
    rw [if_pos c3] at fl3
    by_cases c2 : adD n hi x k
    · rw [if_pos (dn.mpr c2)] at E
      simp only [if_pos c1, if_pos c2, if_pos c3]
      obtain ⟨rfl, E⟩ := E
      refine ⟨L1, g0, q1, by lia, fl3, fun i hi' => ?_⟩
      rw [(q4 i hi').1, (q4 i hi').2, (E i hi').1, (E i hi').2]
      unfold rmF up1
      have := c1.1
      have := c2.1
      by_cases e1 : i < n - k
      · rw [if_pos e1]
        by_cases e2 : i < n - k - 1
        · rw [if_pos e2, if_neg (by lia), if_neg (by lia), if_neg (by lia)]
          exact ⟨fcg (by lia), fcg (by lia)⟩
        · rw [if_neg e2, if_pos (by lia), if_pos (by lia), if_pos (by lia)]
          exact ⟨fcg (by lia), fcg (by lia)⟩
      · rw [if_neg e1, if_pos (by lia), if_neg (by lia), if_neg (by lia), if_pos (by lia)]
        exact ⟨fcg (by lia), fcg (by lia)⟩
    · rw [if_neg (fun z => c2 (dn.mp z))] at E
      simp only [if_pos c1, if_neg c2, if_pos c3]
      obtain ⟨rfl, E⟩ := E
      refine ⟨L1, g0, q1, g2, fl3, fun i hi' => ?_⟩
      rw [(q4 i hi').1, (q4 i hi').2, (E i hi').1, (E i hi').2]
      unfold up1
      have := c1.1
      by_cases e1 : i = N - k
      · rw [if_pos e1, if_pos (by lia)]; exact ⟨rfl, rfl⟩
      · rw [if_neg e1, if_neg (by lia)]; exact ⟨rfl, rfl⟩
  · rw [if_neg (fun z => c1 (up.mp z))] at E
    by_cases c2 : adD n hi x k
    · have c3 : adU lo x k ∨ adD n hi x k ∨ n < 64 := Or.inr (Or.inl c2)
      rw [if_pos c3] at fl3
      rw [if_pos (dn.mpr c2)] at E
      simp only [if_neg c1, if_pos c2, if_pos c3]
      obtain ⟨rfl, E⟩ := E
      refine ⟨L1, g0, q1, g2, fl3, fun i hi' => ?_⟩
      rw [(q4 i hi').1, (q4 i hi').2, (E i hi').1, (E i hi').2]
      unfold up1
      have := c2.1
      by_cases e1 : i = N - k - 1
      · rw [if_pos e1, if_pos (by lia)]; exact ⟨rfl, rfl⟩
      · rw [if_neg e1, if_neg (by lia)]; exact ⟨rfl, rfl⟩
    · rw [if_neg (fun z => c2 (dn.mp z))] at E
      have inE : ∀ (F : Nat → Int) (i : Nat), i < n + 1 → inF (fun i => F (n - 1 - i)) (n - k) x i = inF F k x (n - i) := fun F i hi' => by
        unfold inF
        by_cases e1 : i < n - k
        · rw [if_pos e1, if_neg (by lia), if_neg (by lia)]; exact fcg (by lia)
        · rw [if_neg e1]
          by_cases e2 : i = n - k
          · rw [if_pos e2, if_neg (by lia), if_pos (by lia)]
          · rw [if_neg e2, if_pos (by lia)]; exact fcg (by lia)
      by_cases c4 : n < 64
      · have c3 : adU lo x k ∨ adD n hi x k ∨ n < 64 := Or.inr (Or.inr c4)
        rw [if_pos c3] at fl3
        rw [if_pos c4] at E
        simp only [if_neg c1, if_neg c2, if_pos c4, if_pos c3]
        obtain ⟨rfl, rfl, rfl⟩ := E
        refine ⟨L1, g0, q1, by lia, fl3, fun i hi' => ?_⟩
        rw [(q4 i hi').1, (q4 i hi').2, inE lo i (by lia), inE hi i (by lia), show n + 1 - 1 - i = n - i by lia]
        exact ⟨rfl, rfl⟩
      · have c3 : ¬ (adU lo x k ∨ adD n hi x k ∨ n < 64) := by rintro (z | z | z); exact c1 z; exact c2 z; exact c4 z
        rw [if_neg c3] at fl3
        rw [if_neg c4] at E
        simp only [if_neg c1, if_neg c2, if_neg c4, if_neg c3]
        obtain ⟨rfl, rfl, rfl⟩ := E
        have e64 : n = 64 := by lia
        refine ⟨L1, g0, q1, by decide, ?_, fun i hi' => ?_⟩
        · rw [fl3, inE hi 0 (by lia), show n - 0 = 64 by lia]
        · rw [(q4 i hi').1, (q4 i hi').2]
          have r0 : ∀ F : Nat → Int, rmF F 0 i = F (i + 1) := fun F => by unfold rmF; rw [if_neg (by lia)]
          rw [r0, r0, inE lo (i + 1) (by lia), inE hi (i + 1) (by lia), show n - (i + 1) = 64 - 1 - i by lia]
          exact ⟨rfl, rfl⟩
theorem m_ciK {k N : Nat} {P Q : Nat → Int} (hP : P = fun i => lo (n - 1 - i)) (hQ : Q = fun i => hi (n - 1 - i)) {P1 Q1 : Nat → Int} {o : Hp} (g0 : s < 3) (g2 : n ≤ 64) (hk : k ≤ n) (L1 : MBk o m) (q1 : hI o (m + 17) s = (N : Int)) (q3 : hJ o (m + 20) s = (if (n - k < n ∧ P (n - k) = x + 1) ∨ (0 < n - k ∧ Q (n - k - 1) = x - 1) ∨ n < 64 then fl else inF Q (n - k) x 0 + 1)) (q4 : ∀ i, i < N → hJ o (m + 18) (65 * s + i) = P1 i ∧ hJ o (m + 19) (65 * s + i) = Q1 i)
    (E : if n - k < n ∧ P (n - k) = x + 1 then (if 0 < n - k ∧ Q (n - k - 1) = x - 1 then N = n - 1 ∧ (∀ i, i < n - 1 → P1 i = (if i < n - k then P (i) else P (i + 1)) ∧ Q1 i = if i < n - k - 1 then Q (i) else Q (i + 1)) else N = n ∧ (∀ i, i < n → P1 i = (if i = n - k then x else P (i)) ∧ Q1 i = Q (i))) else (if 0 < n - k ∧ Q (n - k - 1) = x - 1 then N = n ∧ (∀ i, i < n → P1 i = P (i) ∧ Q1 i = if i = n - k - 1 then x else Q (i)) else if n < 64 then N = n + 1 ∧ P1 = inF P (n - k) x ∧ Q1 = inF Q (n - k) x else N = 64 ∧ P1 = rmF (inF P (n - k) x) 0 ∧ Q1 = rmF (inF Q (n - k) x) 0)) : RGm o m s (adN n lo hi x k) (adL n lo hi x k) (adH n lo hi x k) (adF n lo hi fl x k) := by
  subst hP hQ
  exact m_ciJ g0 g2 hk L1 q1 q3 q4 E
theorem m_comeIn {k : Nat} (G : RGm h m s n lo hi fl) (hk : k ≤ n) (K1 : ∀ i, i < k → x < lo i) (K2 : k < n → lo k ≤ x) (hx : 0 ≤ x ∧ x < 4611686018427387904) (hb : ∀ i, i < n → 0 ≤ hi i ∧ hi i < 4611686018427387904) : wp (f_mBook_comeIn m (s : Int) x h) (fun o => RGm o m s (adN n lo hi x k) (adL n lo hi x k) (adH n lo hi x k) (adF n lo hi fl x k) ∧ RGfr m s h o) := by
  obtain ⟨L, g0, g1, g2, g3, g4⟩ := G
  have a0 := L.1
  have z1 : ¬ (m + 17 = 0) := by lia
  have x1 : ix (s : Int) 3 := ⟨by lia, by lia⟩
  have w1 : w32 (65 * (s : Int)) = ((65 * s : Nat) : Int) := by unfold w32; lia
  have w2 : w32 (((65 * s : Nat) : Int) + (n : Int)) = ((65 * s + n : Nat) : Int) := w_ck (by lia)
  obtain ⟨P, hP⟩ : ∃ P : Nat → Int, P = fun i => lo (n - 1 - i) := ⟨_, rfl⟩
  obtain ⟨Q, hQ⟩ : ∃ Q : Nat → Int, Q = fun i => hi (n - 1 - i) := ⟨_, rfl⟩
  have eP : ∀ i, P i = lo (n - 1 - i) := fun i => by rw [hP]
  have eQ : ∀ i, Q i = hi (n - 1 - i) := fun i => by rw [hQ]
  have e : f_mBook_comeIn m (s : Int) x h = f_mBook_comeIn_b13_lp FU m (s : Int) x ((65 * s + n : Nat) : Int) h := by
    unfold f_mBook_comeIn
    rw [L.r0_30, if_neg z1, L.l17, if_pos x1, lt1_eq, Int.toNat_natCast, g1, w1, w2]
  rw [e]
  obtain ⟨F, hF⟩ : ∃ F, F = FU := ⟨_, rfl⟩
  have hF2 : n < F := by rw [hF]; unfold FU; lia
  rw [← hF]
  clear hF e
  refine m_ci13L (ho := h) (P := P) (Q := Q) (p := n - k) (fl := fl) g2 (by lia) (fun i h1 h2 => by rw [eP]; exact K1 _ (by lia)) (fun z => ?_) (fun h' L' g0' g1' g3' V' g5' g6' => ?_) F n h (by lia) (Nat.le_refl _) (by lia) L g0 g1 g3 (fun j hj => ⟨fun z _ => by rw [eP, eQ]; exact g4 j z, fun z => by lia⟩) (fun _ _ _ => rfl) (fun _ _ _ => rfl)
  · rw [eP, show n - 1 - (n - k - 1) = k by lia]; exact K2 (by lia)
  · refine wp_of (m_ci74 (ho := h) L' g0' g1' g2 g3' (by lia) V' g5' g6' hx (fun i hi' => by rw [eQ]; exact hb _ (by lia))) (fun o _ q => ?_)
    obtain ⟨N, P1, Q1, G, E⟩ := q
    exact ⟨m_ciK hP hQ g0 g2 hk G.1 G.2.2.1 G.2.2.2.2.1 G.2.2.2.2.2.1 E, G.2.2.2.2.2.2.1, G.2.2.2.2.2.2.2⟩
end
theorem fu_ex : ∃ F, F = FU ∧ 99999999 < F := ⟨FU, rfl, by unfold FU; decide⟩
