/-! ranges: what adding makes of them, as functions; the model's comeIn against them -/
abbrev adU (lo : Nat → Int) (x : Int) (k : Nat) : Prop := 0 < k ∧ lo (k - 1) = x + 1
abbrev adD (n : Nat) (hi : Nat → Int) (x : Int) (k : Nat) : Prop := k < n ∧ hi k = x - 1
def adN (n : Nat) (lo hi : Nat → Int) (x : Int) (k : Nat) : Nat := if adU lo x k then (if adD n hi x k then n - 1 else n) else if adD n hi x k then n else if n < 64 then n + 1 else 64
def adL (n : Nat) (lo hi : Nat → Int) (x : Int) (k : Nat) : Nat → Int := if adU lo x k then (if adD n hi x k then rmF (up1 lo (k - 1) (lo k)) k else up1 lo (k - 1) x) else if adD n hi x k then lo else inF lo k x
def adH (n : Nat) (lo hi : Nat → Int) (x : Int) (k : Nat) : Nat → Int := if adU lo x k then (if adD n hi x k then rmF hi k else hi) else if adD n hi x k then up1 hi k x else inF hi k x
def adF (n : Nat) (lo hi : Nat → Int) (fl x : Int) (k : Nat) : Int := if adU lo x k ∨ adD n hi x k ∨ n < 64 then fl else inF hi k x 64 + 1
theorem adQ_RG {h' : Hp} {a n : Nat} {lo hi : Nat → Int} {fl x : Int} {k : Nat} (hn : n ≤ 64) (q : adQ h' a n lo hi fl x k) : RGc h' a (adN n lo hi x k) (adL n lo hi x k) (adH n lo hi x k) (adF n lo hi fl x k) := by
  unfold adQ at q
  unfold adN adL adH adF
  by_cases c1 : adU lo x k
  · have c3 : adU lo x k ∨ adD n hi x k ∨ n < 64 := Or.inl c1
    by_cases c2 : adD n hi x k
    · simp only [if_pos c1, if_pos c2] at q
      simp only [if_pos c1, if_pos c2, if_pos c3]
      obtain ⟨q1, q2, q3, q4, q5⟩ := q
      exact ⟨q1, q2, by lia, q4, q5⟩
    · simp only [if_pos c1, if_neg c2] at q
      simp only [if_pos c1, if_neg c2, if_pos c3]
      obtain ⟨q1, q2, q3, q4, q5⟩ := q
      exact ⟨q1, q2, by lia, q4, q5⟩
  · by_cases c2 : adD n hi x k
    · have c3 : adU lo x k ∨ adD n hi x k ∨ n < 64 := Or.inr (Or.inl c2)
      simp only [if_neg c1, if_pos c2] at q
      simp only [if_neg c1, if_pos c2, if_pos c3]
      obtain ⟨q1, q2, q3, q4, q5⟩ := q
      exact ⟨q1, q2, by lia, q4, q5⟩
    · by_cases c4 : n < 64
      · have c3 : adU lo x k ∨ adD n hi x k ∨ n < 64 := Or.inr (Or.inr c4)
        simp only [if_neg c1, if_neg c2, if_pos c4] at q
        simp only [if_neg c1, if_neg c2, if_pos c4, if_pos c3]
        obtain ⟨q1, q2, q3, q4, q5⟩ := q
        exact ⟨q1, q2, by lia, q4, q5⟩
      · have c3 : ¬ (adU lo x k ∨ adD n hi x k ∨ n < 64) := by rintro (z | z | z); exact c1 z; exact c2 z; exact c4 z
        simp only [if_neg c1, if_neg c2, if_neg c4] at q
        simp only [if_neg c1, if_neg c2, if_neg c4, if_neg c3]
        obtain ⟨q1, q2, q3, q4, q5⟩ := q
        exact ⟨q1, q2, by lia, q4, q5⟩
section
variable {ho h : Hp} {m s n : Nat} {P Q lo hi : Nat → Int} {fl x : Int}
theorem m_ci207 (G : RGa ho h m s n P Q fl) (hq : -1000 ≤ Q 0 ∧ Q 0 < 4611686018427387904) : wp (f_mBook_comeIn_b207 m (s : Int) h) (fun o => if n ≤ 64 then o = h else RGa ho o m s 64 (rmF P 0) (rmF Q 0) (Q 0 + 1)) := by
  have L := G.1
  have a0 := L.1
  obtain ⟨_, g0, g1, g2, g3, g4, g5, g6⟩ := G
  unfold f_mBook_comeIn_b207
  have z1 : ¬ (m + 17 = 0) := by lia
  have z2 : ¬ (m + 19 = 0) := by lia
  have z3 : ¬ (m + 20 = 0) := by lia
  have x1 : ix (s : Int) 3 := ⟨by lia, by lia⟩
  have w1 : w32 (65 * (s : Int)) = ((65 * s : Nat) : Int) := by unfold w32; lia
  have x2 : ix ((65 * s : Nat) : Int) 195 := ⟨by lia, by lia⟩
  simp only [L.r0_30, L.r0_32, L.r0_33, L.l17, L.l19, L.l20, if_neg z1, if_neg z2, if_neg z3, if_pos x1, lt1_eq, Int.toNat_natCast, g1, w1, if_pos x2]
  by_cases c : n ≤ 64
  · rw [if_pos (by lia), wp_some, if_pos c]
  · rw [if_neg (by lia)]
    simp only [if_neg c]
    have e : n = 65 := by lia
    subst e
    have v : hJ h (m + 19) (65 * s) = Q 0 := (g4 0 (by lia)).2
    rw [v, w64_id ⟨by lia, by lia⟩]
    have G2 : RGa ho (sJ h (m + 20) s (Q 0 + 1)) m s 65 P Q (Q 0 + 1) := by
      refine ⟨L, g0, g1, g2, by rw [hJ_sJ, if_pos ⟨rfl, rfl⟩], fun i hi => ?_, fun y k hy => ?_, g6⟩
      · rw [hJ_sJ, if_neg (by lia), hJ_sJ, if_neg (by lia)]; exact g4 i hi
      · rw [hJ_sJ, if_neg (by lia)]; exact g5 y k hy
    have t := m_takeOut (k := 0) G2 (by decide)
    rw [Nat.add_zero] at t
    exact wp_b1o t (fun h3 _ q => by rw [wp_some]; exact q)
theorem m_ci159 {p : Nat} (G : RGa ho h m s n P Q fl) (hp : p < n) (hx : 0 ≤ x ∧ x < 4611686018427387904) (hb : ∀ i, i < n → 0 ≤ Q i ∧ Q i < 4611686018427387904) : wp (f_mBook_comeIn_b159 m (s : Int) x ((65 * s + p : Nat) : Int) h) (fun o => if 0 < p ∧ Q (p - 1) = x - 1 then RGa ho o m s (n - 1) (rmF P p) (rmF (up1 Q (p - 1) (Q p)) p) fl else if n ≤ 64 then RGa ho o m s n P Q fl else RGa ho o m s 64 (rmF P 0) (rmF Q 0) (Q 0 + 1)) := by
  have L := G.1
  have a0 := L.1
  have g0 := G.2.1
  have g2 := G.2.2.2.1
  have g4 := G.2.2.2.2.2.1
  unfold f_mBook_comeIn_b159
  have z2 : ¬ (m + 19 = 0) := by lia
  have w1 : w32 (65 * (s : Int)) = ((65 * s : Nat) : Int) := by unfold w32; lia
  have wx : w64 (x - 1) = x - 1 := w64_id ⟨by lia, by lia⟩
  have fin : wp (f_mBook_comeIn_b207 m (s : Int) h) (fun o => if n ≤ 64 then RGa ho o m s n P Q fl else RGa ho o m s 64 (rmF P 0) (rmF Q 0) (Q 0 + 1)) := by
    have b0 := hb 0 (by lia)
    refine wp_of (m_ci207 G ⟨by lia, b0.2⟩) (fun o _ q => ?_)
    by_cases c : n ≤ 64
    · rw [if_pos c] at q ⊢; rw [q]; exact G
    · rw [if_neg c] at q ⊢; exact q
  rw [w1]
  by_cases c : p = 0
  · rw [if_pos (by lia)]
    have : ¬ (0 < p ∧ Q (p - 1) = x - 1) := by lia
    simp only [this, if_false]
    exact fin
  · have w2 : w32 (((65 * s + p : Nat) : Int) - 1) = ((65 * s + (p - 1) : Nat) : Int) := by unfold w32; lia
    have x2 : ix ((65 * s + (p - 1) : Nat) : Int) 195 := ⟨by lia, by lia⟩
    have x3 : ix ((65 * s + p : Nat) : Int) 195 := ⟨by lia, by lia⟩
    rw [if_neg (by lia), w2, wx]
    simp only [L.r0_32, L.l19, if_neg z2, if_pos x2, if_pos x3, Int.toNat_natCast, lt1_eq]
    rw [(g4 (p - 1) (by lia)).2, (g4 p hp).2]
    by_cases c2 : Q (p - 1) = x - 1
    · rw [if_neg (fun z => z c2)]
      have : 0 < p ∧ Q (p - 1) = x - 1 := ⟨by lia, c2⟩
      simp only [this, if_true, and_self]
      have G2 : RGa ho (sJ h (m + 19) (65 * s + (p - 1)) (Q p)) m s n P (up1 Q (p - 1) (Q p)) fl := by
        obtain ⟨_, _, g1, _, g3, _, g5, g6⟩ := G
        refine ⟨L, g0, g1, g2, by rw [hJ_sJ, if_neg (by lia)]; exact g3, fun i hi => ?_, fun y k hy => ?_, g6⟩
        · rw [hJ_sJ, if_neg (by lia), hJ_sJ]
          unfold up1
          by_cases e : i = p - 1
          · rw [if_pos ⟨rfl, by lia⟩, if_pos e]; exact ⟨(g4 i hi).1, rfl⟩
          · rw [if_neg (by lia), if_neg e]; exact g4 i hi
        · rw [hJ_sJ, if_neg (by lia)]; exact g5 y k hy
      refine wp_b1o (m_takeOut (k := p) G2 hp) (fun h3 _ q => ?_)
      have b0 : 0 ≤ rmF (up1 Q (p - 1) (Q p)) p 0 ∧ rmF (up1 Q (p - 1) (Q p)) p 0 < 4611686018427387904 := by
        unfold rmF up1
        rw [if_pos (by lia)]
        by_cases e : 0 = p - 1
        · rw [if_pos e]; exact hb p hp
        · rw [if_neg e]; exact hb 0 (by lia)
      refine wp_of (m_ci207 q ⟨by lia, b0.2⟩) (fun o _ q2 => ?_)
      rw [if_pos (by lia)] at q2
      rw [q2]; exact q
    · rw [if_pos c2]
      have : ¬ (0 < p ∧ Q (p - 1) = x - 1) := fun z => c2 z.2
      simp only [this, if_false]
      exact fin
theorem m_ci74 {p : Nat} (L : MBk h m) (g0 : s < 3) (g1 : hI h (m + 17) s = (n : Int)) (g2 : n ≤ 64) (g3 : hJ h (m + 20) s = fl) (hp : p ≤ n) (V : ∀ j, j < n + 1 → (j < p → hJ h (m + 18) (65 * s + j) = P j ∧ hJ h (m + 19) (65 * s + j) = Q j) ∧ (p < j → hJ h (m + 18) (65 * s + j) = P (j - 1) ∧ hJ h (m + 19) (65 * s + j) = Q (j - 1))) (g5 : ∀ y k, (y ≠ m + 18 ∧ y ≠ m + 19 ∧ (y ≠ m + 20 ∨ k ≠ s)) ∨ ((y = m + 18 ∨ y = m + 19) ∧ (k < 65 * s ∨ 65 * s + 65 ≤ k)) → hJ h y k = hJ ho y k) (g6 : ∀ y k, (y ≠ m + 17 ∨ k ≠ s) → hI h y k = hI ho y k) (hx : 0 ≤ x ∧ x < 4611686018427387904) (hb : ∀ i, i < n → 0 ≤ Q i ∧ Q i < 4611686018427387904) : wp (f_mBook_comeIn_b74 m (s : Int) x ((65 * s + p : Nat) : Int) h) (fun o => ∃ N P1 Q1, RGa ho o m s N P1 Q1 (if (p < n ∧ P p = x + 1) ∨ (0 < p ∧ Q (p - 1) = x - 1) ∨ n < 64 then fl else inF Q p x 0 + 1) ∧ (if p < n ∧ P p = x + 1 then (if 0 < p ∧ Q (p - 1) = x - 1 then N = n - 1 ∧ (∀ i, i < n - 1 → P1 i = (if i < p then P i else P (i + 1)) ∧ Q1 i = if i < p - 1 then Q i else Q (i + 1)) else N = n ∧ (∀ i, i < n → P1 i = (if i = p then x else P i) ∧ Q1 i = Q i)) else (if 0 < p ∧ Q (p - 1) = x - 1 then N = n ∧ (∀ i, i < n → P1 i = P i ∧ Q1 i = if i = p - 1 then x else Q i) else if n < 64 then N = n + 1 ∧ P1 = inF P p x ∧ Q1 = inF Q p x else N = 64 ∧ P1 = rmF (inF P p x) 0 ∧ Q1 = rmF (inF Q p x) 0))) := by
  have a0 := L.1
  unfold f_mBook_comeIn_b74
  have z1 : ¬ (m + 17 = 0) := by lia
  have z2 : ¬ (m + 18 = 0) := by lia
  have z3 : ¬ (m + 19 = 0) := by lia
  have x1 : ix (s : Int) 3 := ⟨by lia, by lia⟩
  have x2 : ix ((65 * s + p : Nat) : Int) 195 := ⟨by lia, by lia⟩
  have w1 : w32 (65 * (s : Int)) = ((65 * s : Nat) : Int) := by unfold w32; lia
  have w2 : w32 ((n : Int) + 1) = ((n + 1 : Nat) : Int) := w_k1 (by lia)
  have w3 : w32 (((65 * s : Nat) : Int) + ((n + 1 : Nat) : Int)) = ((65 * s + (n + 1) : Nat) : Int) := w_ck (by lia)
  have w4 : w32 (((65 * s + p : Nat) : Int) + 1) = ((65 * s + (p + 1) : Nat) : Int) := w_k1 (by lia)
  have wx : w64 (x + 1) = x + 1 := w64_id ⟨by lia, by lia⟩
  have i1 : ∀ h' v, hI (sI h' (m + 17) s v) (m + 17) s = v := fun h' v => by rw [hI_sI, if_pos ⟨rfl, rfl⟩]
  simp only [lt1_eq, hR_sI, hR_sJ, ln_sI, ln_sJ, L.r0_30, L.r0_31, L.r0_32, L.l17, L.l18, L.l19, if_neg z1, if_neg z2, if_neg z3, if_pos x1, if_pos x2, Int.toNat_natCast, hI_sJ, g1, w1, w2, i1, w3, w4, wx]
  generalize eh : sI (sJ (sJ h (m + 18) (65 * s + p) x) (m + 19) (65 * s + p) x) (m + 17) s ((n + 1 : Nat) : Int) = h2
  have G : RGa ho h2 m s (n + 1) (inF P p x) (inF Q p x) fl := by
    rw [← eh]
    refine ⟨L, g0, i1 _ _, by lia, ?_, fun i hi => ?_, fun y k hy => ?_, fun y k hy => ?_⟩
    · rw [hJ_sI, hJ_sJ, if_neg (by lia), hJ_sJ, if_neg (by lia)]; exact g3
    · have := V i hi
      have q1 : ¬ (m + 19 = m + 18) := by lia
      have q2 : ¬ (m + 18 = m + 19) := by lia
      simp only [hJ_sI, hJ_sJ, q1, q2, false_and, if_false, true_and]
      unfold inF
      by_cases e1 : i = p
      · subst e1; simp
      · simp only [show ¬ (65 * s + i = 65 * s + p) by lia, e1, if_false]
        by_cases e2 : i < p
        · simp only [e2, if_true]; exact this.1 e2
        · simp only [e2, if_false]; exact this.2 (by lia)
    · rw [hJ_sI, hJ_sJ, if_neg (by lia), hJ_sJ, if_neg (by lia)]; exact g5 y k hy
    · rw [hI_sI, if_neg (by lia)]; exact g6 y k hy
  have Hb : ∀ i, i < n + 1 → 0 ≤ inF Q p x i ∧ inF Q p x i < 4611686018427387904 := fun i hi => by
    unfold inF
    by_cases e2 : i < p
    · rw [if_pos e2]; exact hb i (by lia)
    · rw [if_neg e2]
      by_cases e1 : i = p
      · rw [if_pos e1]; exact hx
      · rw [if_neg e1]; exact hb (i - 1) (by lia)
  have eqm : 0 < p → inF Q p x (p - 1) = Q (p - 1) := fun z => by unfold inF; rw [if_pos (by lia)]
  have L2 : MBk h2 m := G.1
  -- without a merge above
  have none_ : ¬ (p < n ∧ P p = x + 1) → wp (f_mBook_comeIn_b159 m (s : Int) x ((65 * s + p : Nat) : Int) h2) (fun o => ∃ N P1 Q1, RGa ho o m s N P1 Q1 (if (p < n ∧ P p = x + 1) ∨ (0 < p ∧ Q (p - 1) = x - 1) ∨ n < 64 then fl else inF Q p x 0 + 1) ∧ (if p < n ∧ P p = x + 1 then (if 0 < p ∧ Q (p - 1) = x - 1 then N = n - 1 ∧ (∀ i, i < n - 1 → P1 i = (if i < p then P i else P (i + 1)) ∧ Q1 i = if i < p - 1 then Q i else Q (i + 1)) else N = n ∧ (∀ i, i < n → P1 i = (if i = p then x else P i) ∧ Q1 i = Q i)) else (if 0 < p ∧ Q (p - 1) = x - 1 then N = n ∧ (∀ i, i < n → P1 i = P i ∧ Q1 i = if i = p - 1 then x else Q i) else if n < 64 then N = n + 1 ∧ P1 = inF P p x ∧ Q1 = inF Q p x else N = 64 ∧ P1 = rmF (inF P p x) 0 ∧ Q1 = rmF (inF Q p x) 0))) := fun nu => by
    refine wp_of (m_ci159 (p := p) G (by lia) hx Hb) (fun o _ q => ?_)
    simp only [nu, if_false, false_or]
    by_cases c : 0 < p ∧ Q (p - 1) = x - 1
    · rw [if_pos ⟨c.1, by rw [eqm c.1]; exact c.2⟩] at q
      refine ⟨n, rmF (inF P p x) p, rmF (up1 (inF Q p x) (p - 1) (inF Q p x p)) p, ?_, ?_⟩
      rotate_left
      · rw [if_pos c]
        refine ⟨rfl, fun i hi => ?_⟩
        constructor
        · show rmF (inF P p x) p i = P i
          unfold rmF inF
          by_cases e : i < p
          · rw [if_pos e, if_pos e]
          · rw [if_neg e, if_neg (by lia), if_neg (by lia), Nat.add_sub_cancel]
        · show rmF (up1 (inF Q p x) (p - 1) (inF Q p x p)) p i = _
          unfold rmF up1 inF
          by_cases e1 : i = p - 1
          · rw [if_pos (by lia), if_pos e1, if_neg (by lia), if_pos rfl, if_pos e1]
          · rw [if_neg e1]
            by_cases e : i < p
            · rw [if_pos e, if_neg e1, if_pos e]
            · rw [if_neg e, if_neg (by lia), if_neg (by lia), if_neg (by lia), Nat.add_sub_cancel, if_neg e1]
      · rw [if_pos (Or.inl c)]
        exact q
    · rw [if_neg (fun z => c ⟨z.1, by rw [← eqm z.1]; exact z.2⟩)] at q
      simp only [c, if_false, false_or]
      by_cases c2 : n < 64
      · rw [if_pos (by lia)] at q
        simp only [c2, if_true]
        exact ⟨n + 1, _, _, q, rfl, rfl, rfl⟩
      · rw [if_neg (by lia)] at q
        simp only [c2, if_false]
        exact ⟨64, _, _, q, rfl, rfl, rfl⟩
  by_cases c : p = n
  · rw [if_pos (by lia)]
    exact none_ (by lia)
  · have x3 : ix ((65 * s + (p + 1) : Nat) : Int) 195 := ⟨by lia, by lia⟩
    rw [if_neg (by lia)]
    have v1 := G.2.2.2.2.2.1 (p + 1) (by lia)
    have ip : inF P p x (p + 1) = P p := by unfold inF; rw [if_neg (by lia), if_neg (by lia), Nat.add_sub_cancel]
    have iq : inF Q p x (p + 1) = Q p := by unfold inF; rw [if_neg (by lia), if_neg (by lia), Nat.add_sub_cancel]
    rw [ip, iq] at v1
    simp only [L2.r0_31, L2.r0_32, L2.l18, L2.l19, if_neg z2, if_neg z3, if_pos x2, if_pos x3, Int.toNat_natCast, v1.1, v1.2]
    by_cases c2 : P p = x + 1
    · rw [if_neg (fun z => z c2)]
      have G2 : RGa ho (sJ h2 (m + 19) (65 * s + p) (Q p)) m s (n + 1) (inF P p x) (up1 (inF Q p x) p (Q p)) fl := by
        obtain ⟨_, _, g1', g2', g3', g4', g5', g6'⟩ := G
        refine ⟨L2, g0, g1', g2', by rw [hJ_sJ, if_neg (by lia)]; exact g3', fun i hi => ?_, fun y k hy => ?_, g6'⟩
        · rw [hJ_sJ, if_neg (by lia), hJ_sJ]
          unfold up1
          by_cases e : i = p
          · rw [if_pos ⟨rfl, by lia⟩, if_pos e]; exact ⟨(g4' i hi).1, rfl⟩
          · rw [if_neg (by lia), if_neg e]; exact g4' i hi
        · rw [hJ_sJ, if_neg (by lia)]; exact g5' y k hy
      refine wp_b1o (m_takeOut (k := p + 1) G2 (by lia)) (fun h3 _ q => ?_)
      rw [Nat.add_sub_cancel] at q
      have e1 : ∀ i, i < n → rmF (inF P p x) (p + 1) i = if i = p then x else P i := fun i hi => by
        unfold rmF inF
        by_cases e : i < p + 1
        · rw [if_pos e]
          by_cases e2 : i = p
          · rw [if_neg (by lia), if_pos e2, if_pos e2]
          · rw [if_pos (by lia), if_neg e2]
        · rw [if_neg e, if_neg (by lia), if_neg (by lia), if_neg (by lia), Nat.add_sub_cancel]
      have e2 : ∀ i, i < n → rmF (up1 (inF Q p x) p (Q p)) (p + 1) i = Q i := fun i hi => by
        unfold rmF up1 inF
        by_cases e : i < p + 1
        · rw [if_pos e]
          by_cases e2 : i = p
          · rw [if_pos e2, e2]
          · rw [if_neg e2, if_pos (by lia)]
        · rw [if_neg e, if_neg (by lia), if_neg (by lia), if_neg (by lia), Nat.add_sub_cancel]
      generalize rmF (inF P p x) (p + 1) = P2 at q e1
      generalize rmF (up1 (inF Q p x) p (Q p)) (p + 1) = Q2 at q e2
      have Hb2 : ∀ i, i < n → 0 ≤ Q2 i ∧ Q2 i < 4611686018427387904 := fun i hi => by rw [e2 i hi]; exact hb i hi
      have up : p < n ∧ P p = x + 1 := ⟨by lia, c2⟩
      refine wp_of (m_ci159 (p := p) q (by lia) hx Hb2) (fun o _ q3 => ?_)
      simp only [up, and_self, if_true, true_or]
      by_cases c3 : 0 < p ∧ Q (p - 1) = x - 1
      · rw [if_pos ⟨c3.1, by rw [e2 (p - 1) (by lia)]; exact c3.2⟩] at q3
        refine ⟨n - 1, _, _, q3, ?_⟩
        rw [if_pos c3]
        refine ⟨rfl, fun i hi => ?_⟩
        unfold rmF up1
        have := e1 i (by lia)
        have := e1 (i + 1) (by lia)
        have := e2 i (by lia)
        have := e2 (i + 1) (by lia)
        have := e2 p (by lia)
        by_cases e : i < p
        · rw [if_pos e, if_pos e, if_pos e]
          refine ⟨by rw [e1 i (by lia), if_neg (by lia)], ?_⟩
          by_cases e3 : i = p - 1
          · have ei : i + 1 = p := by lia
            rw [if_pos e3, if_neg (by lia), e2 p (by lia), ei]
          · rw [if_neg e3, if_pos (by lia), e2 i (by lia)]
        · rw [if_neg e, if_neg e, if_neg e, if_neg (by lia), if_neg (by lia), e1 (i + 1) (by lia), e2 (i + 1) (by lia), if_neg (by lia)]
          exact ⟨rfl, rfl⟩
      · rw [if_neg (fun z => c3 ⟨z.1, by rw [← e2 (p - 1) (by lia)]; exact z.2⟩), if_pos g2] at q3
        refine ⟨n, _, _, q3, ?_⟩
        rw [if_neg c3]
        exact ⟨rfl, fun i hi => ⟨e1 i hi, e2 i hi⟩⟩
    · rw [if_pos c2]
      exact none_ (fun z => c2 z.2)
end
