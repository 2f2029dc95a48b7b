/-! the book: packets of a space of the model -/
def PkM (h : Hp) (m s n : Nat) (tm sz mk : Nat → Int) (fo : Nat) : Prop := (MBk h m ∧ s < 3) ∧ hI h (m + 1) s = (n : Int) ∧ hI h (m + 8) s = (fo : Int) ∧ n ≤ 4096 ∧ FoP n mk fo ∧ (∀ k, k < n → hI h (m + 2) (4096 * s + k) = sz k ∧ hI h (m + 3) (4096 * s + k) = tm k ∧ hI h (m + 4) (4096 * s + k) = mk k % 4 ∧ hI h (m + 5) (4096 * s + k) = mk k / 4 % 2 ∧ hI h (m + 6) (4096 * s + k) = mk k / 8 % 2 ∧ (mk k / 8 % 2 = 1 → hI h (m + 7) (4096 * s + k) = mk k / 16 % 2)) ∧ (∀ k, k < n → (0 ≤ mk k ∧ mk k < 32) ∧ 0 ≤ sz k ∧ sz k < 32768)
section
variable {h : Hp} {m s n : Nat} {tm sz mk : Nat → Int} {fo k : Nat}
theorem w4s (hs : s < 3) (hk : k ≤ 4096) : w32 (w32 (4096 * (s : Int)) + (k : Int)) = ((4096 * s + k : Nat) : Int) := by unfold w32; lia
theorem PkM.out (K : PkM h m s n tm sz mk fo) (hk : k < n) : f_mBook_isOut m (s : Int) (k : Int) h = some (if hI h (m + 9) s = 0 ∧ mk k % 4 = 0 then 1 else 0, h) := by
  obtain ⟨⟨L, g0⟩, k1, k2, k3, k4, k5, k6⟩ := K
  have a0 := L.1
  have z1 : ¬ (m + 9 = 0) := by lia
  have z2 : ¬ (m + 4 = 0) := by lia
  have x1 : ix (s : Int) 3 := ⟨by lia, by lia⟩
  have x2 : ix ((4096 * s + k : Nat) : Int) 12288 := ⟨by lia, by lia⟩
  unfold f_mBook_isOut
  simp only [L.r0_11, L.r0_6, L.l9, L.l4, if_neg z1, if_neg z2, if_pos x1, w4s g0 (show k ≤ 4096 by lia), if_pos x2, Int.toNat_natCast, (k5 k hk).2.2.1]
  by_cases c : hI h (m + 9) s = 0
  · rw [if_neg (fun z => z c)]
    by_cases d : mk k % 4 = 0
    · rw [if_neg (fun z => z d), if_pos ⟨c, d⟩]
    · rw [if_pos d, if_neg (fun z => d z.2)]
  · rw [if_pos c, if_neg (fun z => c z.1)]
theorem m_outsL (K : PkM h m s n tm sz mk fo) {al : Int} (ha : al = 0 ∨ al = 1) (f : Nat) : ∀ (j : Nat) (v : Int), fo ≤ j → j ≤ n → n - j < f → v = (if hI h (m + 9) s = 0 then (if al = 1 then ctO mk j else ctE mk j) else 0) → wp (f_mBook_outs_b10_lp f m (s : Int) al v (j : Int) h) (fun o => o = (if hI h (m + 9) s = 0 then (if al = 1 then ctO mk n else ctE mk n) else 0, h)) := by
  induction f with
  | zero => intro j v _ _ hf; lia
  | succ f ih =>
    intro j v hfo hj hf hv
    show wp (f_mBook_outs_b10 (f_mBook_outs_b10_lp f) m (s : Int) al v (j : Int) h) _
    have K' := K
    obtain ⟨⟨L, g0⟩, k1, k2, k3, k4, k5, k6⟩ := K
    have a0 := L.1
    have z1 : ¬ (m + 1 = 0) := by lia
    have z2 : ¬ (m + 5 = 0) := by lia
    have x1 : ix (s : Int) 3 := ⟨by lia, by lia⟩
    unfold f_mBook_outs_b10 f_mBook_outs_b56 f_mBook_outs_b52 f_mBook_outs_b57
    simp only [L.r0_3, L.l1, if_neg z1, if_pos x1, Int.toNat_natCast, k1]
    by_cases c : (n : Int) ≤ j
    · have : j = n := by lia
      rw [if_pos c, wp_some, hv, this]
    · have hj' : j < n := by lia
      have x2 : ix ((4096 * s + j : Nat) : Int) 12288 := ⟨by lia, by lia⟩
      have bO := ctO_0 mk j
      have bE := ctE_0 mk j
      have hmk := (k6 j hj').1
      have wv0 : w32 (v + 0) = v := by rw [Int.add_zero]; exact w32_id (by rw [hv]; (repeat' split) <;> constructor <;> lia)
      have wv1 : w32 (v + 1) = v + 1 := w32_id (by rw [hv]; (repeat' split) <;> constructor <;> lia)
      have cO1 : ctO mk (j + 1) = ctO mk j + if mk j % 4 = 0 then 1 else 0 := rfl
      have cE1 : ctE mk (j + 1) = ctE mk j + if mk j % 8 = 4 then 1 else 0 := rfl
      rw [if_neg c, K'.out hj', b2_some]
      simp only [L.r0_7, L.l5, if_neg z2, w4s g0 (show j ≤ 4096 by lia), if_pos x2, Int.toNat_natCast, (k5 j hj').2.2.2.1, lt1_eq, wv0, wv1, w_k1 (show j < 1000000000 by lia)]
      by_cases d : hI h (m + 9) s = 0 ∧ mk j % 4 = 0
      · rw [if_pos d, if_neg (by decide)]
        rcases ha with rfl | rfl
        · rw [if_neg (by decide)]
          by_cases e : mk j / 4 % 2 = 0
          · rw [if_pos e]
            exact ih (j + 1) v (by lia) (by lia) (by lia) (by rw [hv, if_pos d.1, if_pos d.1, if_neg (by decide), if_neg (by decide), cE1, if_neg (by lia)]; lia)
          · rw [if_neg e]
            exact ih (j + 1) (v + 1) (by lia) (by lia) (by lia) (by rw [hv, if_pos d.1, if_pos d.1, if_neg (by decide), if_neg (by decide), cE1, if_pos (by lia)])
        · rw [if_pos (by decide)]
          exact ih (j + 1) (v + 1) (by lia) (by lia) (by lia) (by rw [hv, if_pos d.1, if_pos d.1, if_pos rfl, if_pos rfl, cO1, if_pos d.2])
      · rw [if_neg d, if_pos rfl]
        refine ih (j + 1) v (by lia) (by lia) (by lia) ?_
        rw [hv]
        by_cases e : hI h (m + 9) s = 0
        · have d2 : ¬ mk j % 4 = 0 := fun z => d ⟨e, z⟩
          rw [if_pos e, if_pos e, cO1, cE1, if_neg d2, if_neg (show ¬ mk j % 8 = 4 by lia), Int.add_zero, Int.add_zero]
        · rw [if_neg e, if_neg e]
theorem ctO_fo {mk : Nat → Int} : ∀ {fo}, (∀ j, j < fo → mk j % 4 ≠ 0) → ctO mk fo = 0 ∧ ctE mk fo = 0 ∧ ∀ sz, ctF mk sz fo = 0 := by
  intro fo
  induction fo with
  | zero => intro _; exact ⟨rfl, rfl, fun _ => rfl⟩
  | succ n ih =>
    intro hj
    obtain ⟨i1, i2, i3⟩ := ih (fun j hj' => hj j (by lia))
    have := hj n (by lia)
    refine ⟨?_, ?_, fun sz => ?_⟩
    · show ctO mk n + _ = 0; rw [i1, if_neg this]; rfl
    · show ctE mk n + _ = 0; rw [i2, if_neg (by lia)]; rfl
    · show ctF mk sz n + _ = 0; rw [i3, if_neg (by lia)]; rfl
theorem m_outs (K : PkM h m s n tm sz mk fo) {al : Int} (ha : al = 0 ∨ al = 1) : f_mBook_outs m (s : Int) al h = some (if hI h (m + 9) s = 0 then (if al = 1 then ctO mk n else ctE mk n) else 0, h) := by
  have K' := K
  obtain ⟨⟨L, g0⟩, k1, k2, k3, k4, k5, k6⟩ := K
  have a0 := L.1
  have z1 : ¬ (m + 8 = 0) := by lia
  have x1 : ix (s : Int) 3 := ⟨by lia, by lia⟩
  have z := ctO_fo k4.2.1
  unfold f_mBook_outs
  simp only [L.r0_10, L.l8, if_neg z1, if_pos x1, Int.toNat_natCast, k2, lt1_eq]
  obtain ⟨o, e, q⟩ := m_outsL K' ha FU fo 0 (Nat.le_refl _) k4.1 (by unfold FU; lia) (by rw [z.1, z.2.1]; (repeat' split) <;> rfl)
  rw [e, q]
theorem m_oldestL (K : PkM h m s n tm sz mk fo) (f : Nat) : ∀ j : Nat, j ≤ n → n - j < f → (∀ i, i < j → ¬ (hI h (m + 9) s = 0 ∧ mk i % 8 = 4)) → wp (f_mBook_oldest_b7_lp f m (s : Int) (j : Int) h) (fun o => o.2 = h ∧ ((o.1 = -1 ∧ ∀ i, i < n → ¬ (hI h (m + 9) s = 0 ∧ mk i % 8 = 4)) ∨ ∃ i : Nat, o.1 = (i : Int) ∧ i < n ∧ hI h (m + 9) s = 0 ∧ mk i % 8 = 4 ∧ ∀ i', i' < i → mk i' % 8 ≠ 4)) := by
  induction f with
  | zero => intro j _ hf; lia
  | succ f ih =>
    intro j hj hf V
    show wp (f_mBook_oldest_b7 (f_mBook_oldest_b7_lp f) m (s : Int) (j : Int) h) _
    have K' := K
    obtain ⟨⟨L, g0⟩, k1, k2, k3, k4, k5, k6⟩ := K
    have a0 := L.1
    have z1 : ¬ (m + 1 = 0) := by lia
    have z2 : ¬ (m + 5 = 0) := by lia
    have x1 : ix (s : Int) 3 := ⟨by lia, by lia⟩
    unfold f_mBook_oldest_b7 f_mBook_oldest_b43
    simp only [L.r0_3, L.l1, if_neg z1, if_pos x1, Int.toNat_natCast, k1]
    by_cases c : (n : Int) ≤ j
    · have : j = n := by lia
      rw [if_pos c, wp_some]
      exact ⟨rfl, Or.inl ⟨rfl, by rw [← this]; exact V⟩⟩
    · have hj' : j < n := by lia
      have x2 : ix ((4096 * s + j : Nat) : Int) 12288 := ⟨by lia, by lia⟩
      have hmk := (k6 j hj').1
      rw [if_neg c, K'.out hj', b2_some]
      simp only [L.r0_7, L.l5, if_neg z2, w4s g0 (show j ≤ 4096 by lia), if_pos x2, Int.toNat_natCast, (k5 j hj').2.2.2.1, w_k1 (show j < 1000000000 by lia)]
      have go : ¬ (hI h (m + 9) s = 0 ∧ mk j % 8 = 4) → wp (f_mBook_oldest_b7_lp f m (s : Int) ((j + 1 : Nat) : Int) h) (fun o => o.2 = h ∧ ((o.1 = -1 ∧ ∀ i, i < n → ¬ (hI h (m + 9) s = 0 ∧ mk i % 8 = 4)) ∨ ∃ i : Nat, o.1 = (i : Int) ∧ i < n ∧ hI h (m + 9) s = 0 ∧ mk i % 8 = 4 ∧ ∀ i', i' < i → mk i' % 8 ≠ 4)) := fun e => ih (j + 1) (by lia) (by lia) (fun i hi => by
        by_cases c : i = j
        · rw [c]; exact e
        · exact V i (by lia))
      by_cases d : hI h (m + 9) s = 0 ∧ mk j % 4 = 0
      · rw [if_pos d, if_neg (by decide)]
        by_cases e : mk j / 4 % 2 = 0
        · rw [if_pos e]; exact go (by lia)
        · rw [if_neg e, wp_some]
          exact ⟨rfl, Or.inr ⟨j, rfl, hj', d.1, by lia, fun i' hi' z => V i' hi' ⟨d.1, z⟩⟩⟩
      · rw [if_neg d, if_pos rfl]
        exact go (fun z => d ⟨z.1, by lia⟩)
theorem m_oldest (K : PkM h m s n tm sz mk fo) : wp (f_mBook_oldest m (s : Int) h) (fun o => o.2 = h ∧ ((o.1 = -1 ∧ ∀ i, i < n → ¬ (hI h (m + 9) s = 0 ∧ mk i % 8 = 4)) ∨ ∃ i : Nat, o.1 = (i : Int) ∧ i < n ∧ hI h (m + 9) s = 0 ∧ mk i % 8 = 4 ∧ ∀ i', i' < i → mk i' % 8 ≠ 4)) := by
  have K' := K
  obtain ⟨⟨L, g0⟩, k1, k2, k3, k4, k5, k6⟩ := K
  have a0 := L.1
  have z1 : ¬ (m + 8 = 0) := by lia
  have x1 : ix (s : Int) 3 := ⟨by lia, by lia⟩
  unfold f_mBook_oldest
  simp only [L.r0_10, L.l8, if_neg z1, if_pos x1, Int.toNat_natCast, k2, lt1_eq]
  exact m_oldestL K' FU fo k4.1 (by unfold FU; lia) (fun i hi z => k4.2.1 i hi (by lia))
theorem ctE_pos {mk : Nat → Int} : ∀ {n}, 0 < ctE mk n ↔ ∃ i, i < n ∧ mk i % 8 = 4 := by
  intro n
  induction n with
  | zero => exact ⟨fun z => absurd z (Int.lt_irrefl 0), fun ⟨i, hi, _⟩ => absurd hi (Nat.not_lt_zero i)⟩
  | succ n ih =>
    have := ctE_0 mk n
    have e : ctE mk (n + 1) = ctE mk n + if mk n % 8 = 4 then 1 else 0 := rfl
    rw [e]
    by_cases c : mk n % 8 = 4
    · rw [if_pos c]
      exact ⟨fun _ => ⟨n, by lia, c⟩, fun _ => by lia⟩
    · rw [if_neg c, Int.add_zero, ih]
      constructor
      · rintro ⟨i, h1, h2⟩; exact ⟨i, by lia, h2⟩
      · rintro ⟨i, h1, h2⟩
        by_cases d : i = n
        · rw [d] at h2; exact absurd h2 c
        · exact ⟨i, by lia, h2⟩
end
