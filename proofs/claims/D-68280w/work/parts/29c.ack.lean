/-! reading: acknowledgements of the class -/
theorem c_twice {h : Hp} {v N : Nat} (v0 : v ≠ 0) (hl : ln h v = N) (hN1 : N ≤ 1000000) (hv : v < hN h) (r1 : hN h + 1 ≤ CN) (r2 : hZ h + 2 * N ≤ CZ) : f_cFrame_twice v h = some (hN h, cpJ (nwC h 105 (2 * N) (2 * N)) v 0 (hN h) 0 N) := by
  unfold f_cFrame_twice
  have w1 : w32 (2 * (N : Int)) = ((2 * N : Nat) : Int) := by unfold w32; lia
  have l1 : ln (nwC h 105 (2 * N) (2 * N)) v = N := by rw [ln_nw', if_neg (by lia), hl]
  have l2 : ln (nwC h 105 (2 * N) (2 * N)) (hN h) = 2 * N := by rw [ln_nw', if_pos rfl]
  rw [if_neg v0, hl, w1, Int.toNat_natCast, if_pos ⟨by lia, r1, r2⟩]
  simp only [lt1_eq, l1, l2, Int.toNat_natCast, tn0]
  rw [if_pos (by unfold cpk; lia)]
/-- the ranges of a frame F: rows of lows and highs, of N places, of which n are used -/
def SPf (h : Hp) (F lo hi N n : Nat) : Prop := (F ≠ 0 ∧ lo ≠ 0 ∧ hi ≠ 0 ∧ F ≠ lo ∧ F ≠ hi ∧ lo ≠ hi) ∧ hR h F 12 = lo ∧ hR h F 13 = hi ∧ ln h lo = N ∧ ln h hi = N ∧ hI h F 11 = (n : Int) ∧ n ≤ N ∧ 16 ≤ N ∧ N ≤ 2048 ∧ lo < hN h ∧ hi < hN h ∧ F < hN h
/-- what adding to the ranges of F leaves alone -/
def SPx (F lo hi : Nat) (h h' : Hp) : Prop := hN h ≤ hN h' ∧ (∀ x k, x < hN h → (x ≠ F ∨ k ≠ 11) → hI h' x k = hI h x k) ∧ (∀ x k, x < hN h → x ≠ lo → x ≠ hi → hJ h' x k = hJ h x k) ∧ (∀ x k, x < hN h → (x ≠ F ∨ (k ≠ 12 ∧ k ≠ 13)) → hR h' x k = hR h x k) ∧ ∀ x, x < hN h → ln h' x = ln h x
theorem c_spB {h : Hp} {F lo hi N n : Nat} {u v : Int} (S : SPf h F lo hi N n) (hn : n < N) : f_cFrame_span_b34 F u v h = some (sI (sJ (sJ h lo n u) hi n v) F 11 ((n + 1 : Nat) : Int)) := by
  obtain ⟨⟨z1, z2, z3, z4, z5, z6⟩, r1, r2, l1, l2, m, _, _, n2, _⟩ := S
  unfold f_cFrame_span_b34
  simp only [lt1_eq, hR_sJ, hI_sJ, ln_sJ, r1, r2, l1, l2, m, Int.toNat_natCast]
  rw [if_neg z2, if_pos ⟨by lia, by lia⟩, if_neg z3, if_pos ⟨by lia, by lia⟩, w_k1 (by lia)]
theorem c_span {h : Hp} {F lo hi N n : Nat} {u v : Int} (S : SPf h F lo hi N n) (hn : n ≤ 1000) (r1 : hN h + (2048 - N) ≤ CN) (r2 : hZ h + 4 * (2048 - N) ≤ CZ) : wp (f_cFrame_span F u v h) (fun h' => ∃ lo' hi' N', SPf h' F lo' hi' N' (n + 1) ∧ (∀ k, k < n → hJ h' lo' k = hJ h lo k ∧ hJ h' hi' k = hJ h hi k) ∧ hJ h' lo' n = u ∧ hJ h' hi' n = v ∧ SPx F lo hi h h' ∧ hN h' + (2048 - N') ≤ hN h + (2048 - N) ∧ hZ h' + 4 * (2048 - N') ≤ hZ h + 4 * (2048 - N) ∧ ((lo' = lo ∧ hi' = hi) ∨ (hN h ≤ lo' ∧ hN h ≤ hi'))) := by
  have S' := S
  obtain ⟨⟨z1, z2, z3, z4, z5, z6⟩, e1, e2, l1, l2, m, s1, s2, s3, s4, s5, s6⟩ := S
  unfold f_cFrame_span
  rw [e1, wp_cn]
  refine ⟨z2, ?_⟩
  rw [m, l1]
  by_cases c : n = N
  · rw [if_neg (by lia)]
    subst c
    refine wp_b2e (c_twice z2 l1 (by lia) s4 (by lia) (by lia)) ?_
    rw [wp_lt1]
    obtain ⟨h1, hh1⟩ : ∃ h1, h1 = sR (cpJ (nwC h 105 (2 * n) (2 * n)) lo 0 (hN h) 0 n) F 12 (hN h) := ⟨_, rfl⟩
    have q1 : hR h1 F 13 = hi := by rw [hh1]; grind [hR_sR, hR_cJ, hR_nw]
    have q2 : ln h1 hi = n := by rw [hh1, ln_sR, ln_cJ, ln_nw', if_neg (by lia), l2]
    have q3 : hN h1 = hN h + 1 := by rw [hh1]; rfl
    have q4 : hZ h1 = hZ h + 2 * n := by rw [hh1]; rfl
    rw [← hh1, q1]
    refine wp_b2e (c_twice z3 q2 (by lia) (by lia) (by lia) (by lia)) ?_
    rw [wp_lt1, q3]
    obtain ⟨h2, hh2⟩ : ∃ h2, h2 = sR (cpJ (nwC h1 105 (2 * n) (2 * n)) hi 0 (hN h + 1) 0 n) F 13 (hN h + 1) := ⟨_, rfl⟩
    have S2 : SPf h2 F (hN h) (hN h + 1) (2 * n) n := by
      have t1 : hR h2 F 12 = hN h := by rw [hh2, hh1]; grind [hR_sR, hR_cJ, hR_nw, hN_sR, hN_cJ, hN_nw]
      have t2 : hR h2 F 13 = hN h + 1 := by rw [hh2]; grind [hR_sR]
      have t3 : ln h2 (hN h) = 2 * n := by rw [hh2, ln_sR, ln_cJ, ln_nw', if_neg (by lia), hh1, ln_sR, ln_cJ, ln_nw', if_pos rfl]
      have t4 : ln h2 (hN h + 1) = 2 * n := by rw [hh2, ln_sR, ln_cJ, ln_nw', if_pos q3.symm]
      have t5 : hI h2 F 11 = (n : Int) := by rw [hh2, hI_sR, hI_cJ, hI_nw, if_neg (by lia), hh1, hI_sR, hI_cJ, hI_nw, if_neg (by lia), m]
      have t6 : hN h2 = hN h + 2 := by rw [hh2]; show hN h1 + 1 = _; rw [q3]
      exact ⟨⟨z1, by lia, by lia, by lia, by lia, by lia⟩, t1, t2, t3, t4, t5, by lia, by lia, by lia, by lia, by lia, by lia⟩
    rw [← hh2]
    refine wp_eq (c_spB S2 (by lia)) ?_
    have hI2 : ∀ x k, x < hN h → hI h2 x k = hI h x k := fun x k hx => by rw [hh2, hI_sR, hI_cJ, hI_nw, if_neg (by lia), hh1, hI_sR, hI_cJ, hI_nw, if_neg (by lia)]
    have hJ2 : ∀ x k, x < hN h → hJ h2 x k = hJ h x k := fun x k hx => by rw [hh2, hJ_sR, hJ_cJ, if_neg (by lia), hJ_nw, if_neg (by lia), hh1, hJ_sR, hJ_cJ, if_neg (by lia), hJ_nw, if_neg (by lia)]
    have hR2 : ∀ x k, x < hN h → (x ≠ F ∨ (k ≠ 12 ∧ k ≠ 13)) → hR h2 x k = hR h x k := fun x k hx hk => by rw [hh2, hR_sR, if_neg (by lia), hR_cJ, hR_nw, if_neg (by lia), hh1, hR_sR, if_neg (by lia), hR_cJ, hR_nw, if_neg (by lia)]
    have ln2 : ∀ x, x < hN h → ln h2 x = ln h x := fun x hx => by rw [hh2, ln_sR, ln_cJ, ln_nw', if_neg (by lia), hh1, ln_sR, ln_cJ, ln_nw', if_neg (by lia)]
    have a1 : ∀ k, k < n → hJ h2 (hN h) k = hJ h lo k := fun k hk => by rw [hh2, hJ_sR, hJ_cJ, if_neg (by lia), hJ_nw, if_neg (by lia), hh1, hJ_sR, hJ_cJ, if_pos ⟨rfl, by lia, by lia⟩, hJ_nw, if_neg (by lia)]; congr 1; lia
    have a2 : ∀ k, k < n → hJ h2 (hN h + 1) k = hJ h hi k := fun k hk => by rw [hh2, hJ_sR, hJ_cJ, if_pos ⟨rfl, by lia, by lia⟩, hJ_nw, if_neg (by lia), hh1, hJ_sR, hJ_cJ, if_neg (by lia), hJ_nw, if_neg (by lia)]; congr 1; lia
    have t6 : hN h2 = hN h + 2 := by rw [hh2]; show hN h1 + 1 = _; rw [q3]
    have t7 : hZ h2 = hZ h + 4 * n := by rw [hh2]; show hZ h1 + 2 * n = _; rw [q4]; lia
    have SS := S2
    obtain ⟨⟨y1, y2, y3, y4, y5, y6⟩, y7⟩ := S2
    clear hh2 hh1
    refine ⟨hN h, hN h + 1, 2 * n, ?_, ?_, ?_, ?_, ⟨?_, ?_, ?_, ?_, ?_⟩, ?_, ?_, Or.inr ⟨Nat.le_refl _, by lia⟩⟩
    · obtain ⟨_, x1, x2, x3, x4, x5, x6⟩ := SS
      refine ⟨⟨y1, y2, y3, y4, y5, y6⟩, x1, x2, x3, x4, by rw [hI_sI, if_pos ⟨rfl, rfl⟩], by lia, by lia, by lia, ?_⟩
      simp only [hN_sI, hN_sJ]; lia
    · intro k hk
      rw [hJ_sI, hJ_sJ, if_neg (by lia), hJ_sJ, if_neg (by lia), hJ_sI, hJ_sJ, if_neg (by lia), hJ_sJ, if_neg (by lia)]
      exact ⟨a1 k hk, a2 k hk⟩
    · rw [hJ_sI, hJ_sJ, if_neg (by lia), hJ_sJ, if_pos ⟨rfl, rfl⟩]
    · rw [hJ_sI, hJ_sJ, if_pos ⟨rfl, rfl⟩]
    · simp only [hN_sI, hN_sJ]; lia
    · intro x k hx hk; rw [hI_sI, if_neg (by lia), hI_sJ, hI_sJ]; exact hI2 x k hx
    · intro x k hx h1 h2; rw [hJ_sI, hJ_sJ, if_neg (by lia), hJ_sJ, if_neg (by lia)]; exact hJ2 x k hx
    · intro x k hx hk; rw [hR_sI, hR_sJ, hR_sJ]; exact hR2 x k hx hk
    · intro x hx; rw [ln_sI, ln_sJ, ln_sJ]; exact ln2 x hx
    · simp only [hN_sI, hN_sJ]; lia
    · simp only [hZ_sI, hZ_sJ]; lia
  · rw [if_pos (by lia)]
    refine wp_eq (c_spB S' (by lia)) ?_
    refine ⟨lo, hi, N, ?_, ?_, ?_, ?_, ⟨?_, ?_, ?_, ?_, ?_⟩, ?_, ?_, Or.inl ⟨rfl, rfl⟩⟩
    · refine ⟨⟨z1, z2, z3, z4, z5, z6⟩, e1, e2, l1, l2, by rw [hI_sI, if_pos ⟨rfl, rfl⟩], by lia, by lia, by lia, ?_⟩
      simp only [hN_sI, hN_sJ]; lia
    · intro k hk
      rw [hJ_sI, hJ_sJ, if_neg (by lia), hJ_sJ, if_neg (by lia), hJ_sI, hJ_sJ, if_neg (by lia), hJ_sJ, if_neg (by lia)]
      exact ⟨rfl, rfl⟩
    · rw [hJ_sI, hJ_sJ, if_neg (by lia), hJ_sJ, if_pos ⟨rfl, rfl⟩]
    · rw [hJ_sI, hJ_sJ, if_pos ⟨rfl, rfl⟩]
    · exact Nat.le_refl _
    · intro x k hx hk; rw [hI_sI, if_neg (by lia), hI_sJ, hI_sJ]
    · intro x k hx h1 h2; rw [hJ_sI, hJ_sJ, if_neg (by lia), hJ_sJ, if_neg (by lia)]
    · intro x k hx hk; rfl
    · intro x hx; rfl
    · exact Nat.le_refl _
    · exact Nat.le_refl _
