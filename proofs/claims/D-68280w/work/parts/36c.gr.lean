/-! the greeting, class: what a step makes of the state -/
section
variable {h h' : Hp} {g : Nat} {s s' : GSt} {D : Nat → Prop}
/-- a step: numbers and rows that are as before lie outside D -/
theorem GC.st (G : GC h g s) (F : FX D h h') (c : ∀ x, D x → 64 ≤ x)
    (num : ∀ k, k < 12 → k ≠ 6 → (k = 7 → s'.1 12 = 0) → (¬ D (g + gCc k) ∧ s'.1 k = s.1 k ∧ (k = 7 → s.1 12 = 0)) ∨ hI h' (g + gCc k) (gCs k) = s'.1 k)
    (lv : gLv h' g = s'.1 6 ∧ ∀ k, k < 3 → hI h' (g + 42) k = 0 ∨ hI h' (g + 42) k = 1)
    (row : ∀ r, r < 16 → gHas s' r → (¬ D (g + gCr r) ∧ gHas s r ∧ gLn s' r ≤ gLn s r ∧ s'.2 r = s.2 r) ∨ ∀ j, j < gLn s' r → hI h' (g + gCr r) j = i8 (s'.2 r j)) : GC h' g s' := by
  obtain ⟨X, g1, g2, g3⟩ := G
  refine ⟨X.fx F c, fun k hk k6 k7 => ?_, lv, fun r hr hh j hj => ?_⟩
  · rcases num k hk k6 k7 with ⟨q1, q2, q3⟩ | q
    · rw [F.i q1, q2]; exact g1 k hk k6 q3
    · exact q
  · rcases row r hr hh with ⟨q1, q2, q3, q4⟩ | q
    · rw [F.i q1, q4]; exact g3 r hr q2 j (by lia)
    · exact q j hj
theorem gLv_fx (F : FX D h h') (c : ¬ D (g + 42)) : gLv h' g = gLv h g := by unfold gLv; rw [F.i c, F.i c, F.i c]
theorem GC.lv (G : GC h g s) (F : FX D h h') (c : ¬ D (g + 42)) (e : s'.1 6 = s.1 6) : gLv h' g = s'.1 6 ∧ ∀ k, k < 3 → hI h' (g + 42) k = 0 ∨ hI h' (g + 42) k = 1 := by
  refine ⟨by rw [gLv_fx F c, e]; exact G.2.2.1.1, fun k hk => by rw [F.i c]; exact G.2.2.1.2 k hk⟩
theorem gc_0 : ∀ k, k < 12 → k ≠ 6 → gCc k = 0 ∨ gCc k = 23 ∨ gCc k = 26 ∨ gCc k = 28 ∨ gCc k = 31 ∨ gCc k = 33 := by decide
theorem gc_r : ∀ r, r < 16 → gCr r ≠ 0 ∧ gCr r ≠ 23 ∧ gCr r ≠ 26 ∧ gCr r ≠ 28 ∧ gCr r ≠ 31 ∧ gCr r ≠ 33 ∧ gCr r ≠ 42 ∧ gCr r ≠ 44 ∧ gCr r ≠ 45 ∧ gCr r ≠ 46 ∧ (gCr r < 4 ∨ 23 < gCr r) := by decide
theorem gc_rr : ∀ r, r < 16 → ∀ r', r' < 16 → r ≠ r' → gCr r ≠ gCr r' := by decide
theorem gc_kk : ∀ k, k < 12 → k ≠ 6 → ∀ k', k' < 12 → k' ≠ 6 → k ≠ k' → ¬ (gCc k = gCc k' ∧ gCs k = gCs k') := fun k h1 h2 k' h3 h4 h5 => by
  have := (by decide : ∀ k, k < 12 → ∀ k', k' < 12 → k = 6 ∨ k' = 6 ∨ k = k' ∨ ¬ (gCc k = gCc k' ∧ gCs k = gCs k')) k h1 k' h3
  rcases this with z | z | z | z
  · exact absurd z h2
  · exact absurd z h4
  · exact absurd z h5
  · exact z
theorem GC.dig (G : GC h g s) (V : GV s) (t : s.1 12 = 0) : wp (f_cGreeting_digest g h) (fun h' => (∀ k, k < 32 → hI h' (g + 45) k = i8 (sDig s k)) ∧ FX (fun x => (g + 4 ≤ x ∧ x ≤ g + 7) ∨ x = g + 45) h h' ∧ GC h' g s) := by
  have v := V.2.2.2.2.1 7 (by decide) (by decide)
  have n7 : hI h (g + 23) 1 = (((s.1 7).toNat : Nat) : Int) := by
    have : hI h (g + gCc 7) (gCs 7) = s.1 7 := G.2.1 7 (by decide) (by decide) (fun _ => t)
    rw [show gCc 7 = 23 from rfl, show gCs 7 = 1 from rfl] at this
    rw [this]; lia
  refine wp_of (c_gdig G.1 n7 (by lia) (T := s.2 3) (fun j hj => ?_)) (fun h1 e1 q1 => ⟨q1.1, q1.2, ?_⟩)
  · have : hI h (g + gCr 3) j = i8 (s.2 3 j) := G.2.2.2 3 (by decide) ⟨fun z => by lia, fun _ => t⟩ j (by rw [gLn_num (by decide)]; exact hj)
    rw [show gCr 3 = 24 from rfl] at this
    rw [this, i8_mod]
  · refine G.st q1.2 (fun x q => by have := G.1.1.1; lia) (fun k hk k6 k7 => Or.inl ⟨?_, rfl, k7⟩) (G.lv q1.2 (by lia) rfl) (fun r hr hh => Or.inl ⟨?_, hh, Nat.le_refl _, rfl⟩)
    · have := gc_0 k hk k6; omega
    · have := gc_r r hr; omega
theorem LC.lab (L : LC h) {i : Nat} (hi : i < 10) : hR h 40 (2 + i) = 1 + i := (L.2 i hi).1
theorem GX.fx' (X : GX h g) (F : FX D h h') (c : ∀ x, D x → g ≤ x) : GX h' g := X.fx F (fun x q => by have := c x q; have := X.1.1; lia)
theorem gLn_up {k r : Nat} {v : Int} {f : Nat → Nat → Int} (hk : k ≠ 1 ∧ k ≠ 5 ∧ (k < 7 ∨ 12 ≤ k)) : gLn (up1 s.1 k v, f) r = gLn s r := gLn_eq (fun _ => up1_ne (by omega)) (fun _ => up1_ne (by omega)) (fun _ => up1_ne (by omega))
theorem c_ggre (G : GC h g s) (V : GV s) (t : s.1 12 = 0) (hl : 0 ≤ s.1 6 ∧ s.1 6 < 2) : wp (f_cGreeting_greetSecrets g h) (fun h' => GC h' g (sGreets s) ∧ FX (fun x => g ≤ x ∧ x ≤ g + 48) h h') := by
  have l0 := G.1.1.1
  unfold f_cGreeting_greetSecrets
  refine wp_b1o (G.dig V t) (fun h1 e1 q1 => ?_)
  obtain ⟨d1, F1, G1⟩ := q1
  have L1 := G1.1.1
  have key : ∀ j, j < 32 → hI h1 (g + 1) j % 256 = s.2 0 j % 256 := fun j hj => by
    have : hI h1 (g + gCr 0) j = i8 (s.2 0 j) := G1.2.2.2 0 (by decide) ⟨fun z => by lia, fun z => by lia⟩ j (by rw [gLn_32 (by decide)]; exact hj)
    rw [show gCr 0 = 1 from rfl] at this
    rw [this, i8_m]
  rw [L1.r0_1, L1.r0_14, L1.r0_12]
  refine wp_b1o (c_gmac (key := g + 1) (n := 32) (row := g + 45) (fr := 0) (size := 32) (to := g + 43) (K := s.2 0) (T := sDig s) G1.1 (by lia) (by lia) (by decide) (by rw [L1.l1]; decide) key (by lia) (by lia) (by decide) (by decide) (by rw [L1.l45]; decide) (fun j hj => by rw [Nat.zero_add, d1 j hj, i8_m]) (by lia) (by lia) (by rw [L1.l43]; decide)) (fun h2 e2 q2 => ?_)
  obtain ⟨d2, F2⟩ := q2
  have X2 := G1.1.fx' F2 (fun x q => by lia)
  have L2 := X2.1
  rw [L2.r0_12, X2.2.2.lab (i := 5) (by decide), X2.2.2.lab (i := 6) (by decide), L2.r0_14]
  refine wp_b1o (c_gsec (lv := 1) (base := g + 43) (ctx := g + 45) (size := 32) (i := 5) (l := 6) (K := sGre s) (C := sDig s) X2 (by decide) (by decide) (by rfl) (by rfl) (by lia) (by lia) (by lia) (by rw [L2.l43]; decide) (fun j hj => by rw [d2 j hj, i8_m]; rfl) (by lia) (by lia) (by lia) (by rw [L2.l45]; decide) (by decide) (fun j hj => by rw [F2.i (by lia), d1 j hj, i8_m])) (fun h3 e3 q3 => ?_)
  obtain ⟨a1, a2, a3, a4, F3⟩ := q3
  rw [wp_some]
  have FF : FX (fun x => (g + 4 ≤ x ∧ x ≤ g + 22) ∨ x = g + 45 ∨ x = g + 43 ∨ x = g + 38 ∨ x = g + 39 ∨ x = g + 42) h h3 := ((F1.mono (fun x q => by lia)).tr (F2.mono (fun x q => by lia))).tr (F3.mono (fun x q => by lia))
  refine ⟨G.st FF (fun x q => by lia) (fun k hk k6 k7 => Or.inl ⟨?_, ?_, ?_⟩) ⟨?_, fun k hk => ?_⟩ (fun r hr hh => ?_), FF.mono (fun x q => by lia)⟩
  · have := gc_0 k hk k6; omega
  · show up1 s.1 6 1 k = s.1 k
    exact up1_ne k6
  · exact k7
  · show gLv h3 g = 1
    have e : gLv h g = s.1 6 := G.2.2.1.1
    have n2 : hI h3 (g + 42) 2 = hI h (g + 42) 2 := by rw [a4 2 (by decide), F2.i (by lia), F1.i (by lia)]
    unfold gLv at e ⊢
    rw [n2, if_neg (fun z => by rw [if_pos z] at e; lia), if_pos a3]
  · by_cases c : k = 1
    · right; rw [c]; exact a3
    · rw [a4 k c, F2.i (by lia)]; exact G1.2.2.1.2 k hk
  · by_cases c9 : r = 9
    · subst c9
      right; intro j hj
      show hI h3 (g + 43) j = i8 (sGre s j)
      rw [F3.i (by lia)]; exact d2 j (by rw [gLn_32 (by decide)] at hj; exact hj)
    · by_cases c12 : r = 12
      · subst c12
        right; intro j hj
        exact a1 j (by rw [gLn_32 (by decide)] at hj; exact hj)
      · by_cases c13 : r = 13
        · subst c13
          right; intro j hj
          exact a2 j (by rw [gLn_32 (by decide)] at hj; exact hj)
        · refine Or.inl ⟨?_, ⟨fun _ => hl.1, hh.2⟩, by unfold sGreets; rw [gLn_up (by decide)]; exact Nat.le_refl _, ?_⟩
          · have := gc_r r hr
            have := (by decide : ∀ r, r < 16 → r = 9 ∨ r = 12 ∨ r = 13 ∨ (gCr r ≠ 43 ∧ gCr r ≠ 38 ∧ gCr r ≠ 39)) r hr
            omega
          · show (if r = 9 then sGre s else if r = 12 then LAB 6 32 32 (sGre s) (sDig s) else if r = 13 then LAB 7 32 32 (sGre s) (sDig s) else s.2 r) = s.2 r
            rw [if_neg c9, if_neg c12, if_neg c13]
theorem c_gtlk (G : GC h g s) (V : GV s) (t : s.1 12 = 0) (hl : 0 ≤ s.1 6) : wp (f_cGreeting_talkSecrets g h) (fun h' => GC h' g (sTalks s) ∧ FX (fun x => g ≤ x ∧ x ≤ g + 48) h h') := by
  have l0 := G.1.1.1
  unfold f_cGreeting_talkSecrets
  refine wp_b1o (G.dig V t) (fun h1 e1 q1 => ?_)
  obtain ⟨d1, F1, G1⟩ := q1
  have L1 := G1.1.1
  have key : ∀ j, j < 32 → hI h1 (g + 43) j % 256 = s.2 9 j % 256 := fun j hj => by
    have : hI h1 (g + gCr 9) j = i8 (s.2 9 j) := G1.2.2.2 9 (by decide) ⟨fun z => by lia, fun z => by lia⟩ j (by rw [gLn_32 (by decide)]; exact hj)
    rw [show gCr 9 = 43 from rfl] at this
    rw [this, i8_m]
  rw [L1.r0_12, L1.r0_14, L1.r0_13]
  refine wp_b1o (c_gmac (key := g + 43) (n := 32) (row := g + 45) (fr := 0) (size := 32) (to := g + 44) (K := s.2 9) (T := sDig s) G1.1 (by lia) (by lia) (by decide) (by rw [L1.l43]; decide) key (by lia) (by lia) (by decide) (by decide) (by rw [L1.l45]; decide) (fun j hj => by rw [Nat.zero_add, d1 j hj, i8_m]) (by lia) (by lia) (by rw [L1.l44]; decide)) (fun h2 e2 q2 => ?_)
  obtain ⟨d2, F2⟩ := q2
  have X2 := G1.1.fx' F2 (fun x q => by lia)
  have L2 := X2.1
  rw [L2.r0_13, X2.2.2.lab (i := 7) (by decide), X2.2.2.lab (i := 8) (by decide), L2.r0_14]
  refine wp_b1o (c_gsec (lv := 2) (base := g + 44) (ctx := g + 45) (size := 32) (i := 7) (l := 8) (K := sTlk s) (C := sDig s) X2 (by decide) (by decide) (by rfl) (by rfl) (by lia) (by lia) (by lia) (by rw [L2.l44]; decide) (fun j hj => by rw [d2 j hj, i8_m]; rfl) (by lia) (by lia) (by lia) (by rw [L2.l45]; decide) (by decide) (fun j hj => by rw [F2.i (by lia), d1 j hj, i8_m])) (fun h3 e3 q3 => ?_)
  obtain ⟨a1, a2, a3, a4, F3⟩ := q3
  rw [wp_some]
  have FF : FX (fun x => (g + 4 ≤ x ∧ x ≤ g + 22) ∨ x = g + 45 ∨ x = g + 44 ∨ x = g + 40 ∨ x = g + 41 ∨ x = g + 42) h h3 := ((F1.mono (fun x q => by lia)).tr (F2.mono (fun x q => by lia))).tr (F3.mono (fun x q => by lia))
  refine ⟨G.st FF (fun x q => by lia) (fun k hk k6 k7 => Or.inl ⟨?_, ?_, ?_⟩) ⟨?_, fun k hk => ?_⟩ (fun r hr hh => ?_), FF.mono (fun x q => by lia)⟩
  · have := gc_0 k hk k6; omega
  · show up1 s.1 6 2 k = s.1 k
    exact up1_ne k6
  · exact k7
  · show gLv h3 g = 2
    unfold gLv
    rw [if_pos a3]
  · by_cases c : k = 2
    · right; rw [c]; exact a3
    · rw [a4 k c, F2.i (by lia)]; exact G1.2.2.1.2 k hk
  · by_cases c12 : r = 14
    · subst c12
      right; intro j hj
      exact a1 j (by rw [gLn_32 (by decide)] at hj; exact hj)
    · by_cases c13 : r = 15
      · subst c13
        right; intro j hj
        exact a2 j (by rw [gLn_32 (by decide)] at hj; exact hj)
      · refine Or.inl ⟨?_, ⟨fun _ => hl, hh.2⟩, by unfold sTalks; rw [gLn_up (by decide)]; exact Nat.le_refl _, ?_⟩
        · have := gc_r r hr
          have := (by decide : ∀ r, r < 16 → r = 14 ∨ r = 15 ∨ (gCr r ≠ 40 ∧ gCr r ≠ 41)) r hr
          omega
        · show (if r = 14 then LAB 8 32 32 (sTlk s) (sDig s) else if r = 15 then LAB 9 32 32 (sTlk s) (sDig s) else s.2 r) = s.2 r
          rw [if_neg c12, if_neg c13]
theorem c_gprf {p : Nat} (hp : p < 2) (G : GC h g s) (V : GV s) (t : s.1 12 = 0) : wp (f_cGreeting_prove g (p : Int) h) (fun h' => GC h' g s ∧ (∀ k, k < 32 → hI h' (g + 46) k = i8 (sPrf s p k)) ∧ FX (fun x => g + 4 ≤ x ∧ x ≤ g + 46 ∧ (x < 24 + g ∨ g + 44 < x)) h h') := by
  have l0 := G.1.1.1
  have ep : w32 (2 + (p : Int)) = ((2 + p : Nat) : Int) := by unfold w32; lia
  unfold f_cGreeting_prove
  refine wp_b1o (G.dig V t) (fun h1 e1 q1 => ?_)
  obtain ⟨d1, F1, G1⟩ := q1
  have L1 := G1.1.1
  have R := L1.r35 (2 + p) (by lia)
  have key : ∀ j, j < 32 → hI h1 (g + 36 + (2 + p)) j % 256 = s.2 (12 + p) j % 256 := fun j hj => by
    have : hI h1 (g + gCr (12 + p)) j = i8 (s.2 (12 + p) j) := G1.2.2.2 (12 + p) (by lia) ⟨fun z => by lia, fun z => by lia⟩ j (by rw [gLn_32 (by lia)]; exact hj)
    rw [show g + 36 + (2 + p) = g + gCr (12 + p) by rcases (show p = 0 ∨ p = 1 by lia) with rfl | rfl <;> rfl]
    rw [this, i8_m]
  rw [L1.r0_10, wp_cn]
  refine ⟨by lia, ?_⟩
  rw [ep, L1.l35, wp_ck]
  refine ⟨⟨by lia, by lia⟩, ?_⟩
  rw [L1.r0_6, wp_cn]
  refine ⟨by lia, ?_⟩
  rw [Int.toNat_natCast, R.1, G1.1.2.2.lab (i := 9) (by decide), L1.r0_16, L1.r0_15]
  refine wp_b1o (c_glab (key := g + 36 + (2 + p)) (ctx := g + 47) (size := 0) (to := g + 46) (i := 9) (l := 10) (K := s.2 (12 + p)) (C := Z0) G1.1 (by decide) (by rfl) (by lia) (by lia) (by lia) key (by lia) (by lia) (by lia) (by decide) (fun j hj => by lia) (by lia) (by lia) (by rw [L1.l46]; decide)) (fun h2 e2 q2 => ?_)
  obtain ⟨d2, F2⟩ := q2
  have X2 := G1.1.fx' F2 (fun x q => by lia)
  have L2 := X2.1
  rw [L2.r0_15, L2.r0_14]
  refine wp_b1o (c_gmac (key := g + 46) (n := 32) (row := g + 45) (fr := 0) (size := 32) (to := g + 46) (K := LAB 10 32 0 (s.2 (12 + p)) Z0) (T := sDig s) X2 (by lia) (by lia) (by decide) (by rw [L2.l46]; decide) (fun j hj => by rw [d2 j hj, i8_m]) (by lia) (by lia) (by decide) (by decide) (by rw [L2.l45]; decide) (fun j hj => by rw [Nat.zero_add, F2.i (by lia), d1 j hj, i8_m]) (by lia) (by lia) (by rw [L2.l46]; decide)) (fun h3 e3 q3 => ?_)
  obtain ⟨d3, F3⟩ := q3
  rw [wp_some]
  have FF : FX (fun x => g + 4 ≤ x ∧ x ≤ g + 46 ∧ (x < 24 + g ∨ g + 44 < x)) h h3 := ((F1.mono (fun x q => by lia)).tr (F2.mono (fun x q => by lia))).tr (F3.mono (fun x q => by lia))
  have FF' : FX (fun x => (g + 4 ≤ x ∧ x ≤ g + 22) ∨ x = g + 45 ∨ x = g + 46) h h3 := ((F1.mono (fun x q => by lia)).tr (F2.mono (fun x q => by lia))).tr (F3.mono (fun x q => by lia))
  refine ⟨G.st FF' (fun x q => by lia) (fun k hk k6 k7 => Or.inl ⟨?_, rfl, k7⟩) (G.lv FF' (by lia) rfl) (fun r hr hh => Or.inl ⟨?_, hh, Nat.le_refl _, rfl⟩), d3, FF⟩
  · have := gc_0 k hk k6; omega
  · have := gc_r r hr; omega
end
