/-! the greeting, model: proofs; rows grow, numbers change -/
section
variable {h h' : Hp} {e S : Nat} {s : GSt}
theorem m_gprf {p : Nat} (hp : p < 2) (G : GM h e S s) (V : GV s) (t : s.1 12 = 0) : ∃ h', f_mGreet_prove e (p : Int) h = some h' ∧ GM h' e S s ∧ (∀ k, k < 32 → hI h' (e + 13) k = sPrf s p k) ∧ FX (inE S e) h h' := by
  obtain ⟨LG, LS, M, eS, Se⟩ := G.1
  have l0 := LG.1
  have i16 : hI h e 16 = s.1 7 := G.i (k := 7) (by decide) (fun _ => t) (x := 0) (y := 16) rfl rfl
  have ew : w32 (64 + w32 (32 * (p : Int))) = ((64 + 32 * p : Nat) : Int) := by unfold w32; lia
  have goal : wp (f_mGreet_prove e (p : Int) h) (fun h' => GM h' e S s ∧ (∀ k, k < 32 → hI h' (e + 13) k = sPrf s p k) ∧ FX (inE S e) h h') := by
    unfold f_mGreet_prove
    rw [eS, wp_cn]
    refine ⟨by have := LS.1; lia, ?_⟩
    rw [LG.r0_15, LG.r0_20, i16]
    refine wp_b1o (m_gdig G V t) (fun h1 e1 q1 => ?_)
    obtain ⟨d1, F1, G1⟩ := q1
    obtain ⟨LG1, LS1, M1, eS1, Se1⟩ := G1.1
    rw [eS1, wp_cn]
    refine ⟨by have := LS.1; lia, ?_⟩
    rw [LG1.r0_17, LG1.r0_22, ew]
    refine wp_b1o (m_glab (key := e + 10) (at_ := 64 + 32 * p) (l := 10) (ctx := 0) (m := 0) (to := e + 14) (place := 0) (K := s.2 (12 + p)) (C := Z0) G1.1 (by decide) (by decide) (by lia) (by lia) (by rw [LG1.l10]; lia) (by lia) (fun j hj => G1.bv V (r := 12 + p) (by lia) (gHas_o (by lia)) (by rw [gLn_32 (by lia)]; exact hj) (by rcases (show p = 0 ∨ p = 1 by lia) with rfl | rfl <;> rfl) (by rcases (show p = 0 ∨ p = 1 by lia) with rfl | rfl <;> rfl)) (fun j hj => by lia) (Or.inl rfl) (Or.inl rfl) (fun j hj => by lia) (by lia) (by lia) (by decide) (by rw [LG1.l14]; decide)) (fun h2 e2 q2 => ?_)
    obtain ⟨d2, -, F2⟩ := q2
    have Y2 := G1.1.fx F2 (fun x q => by lia)
    obtain ⟨LG2, LS2, M2, eS2, Se2⟩ := id Y2
    rw [eS2, wp_cn]
    refine ⟨by have := LS.1; lia, ?_⟩
    rw [LG2.r0_22, LG2.r0_20, LG2.r0_21]
    refine wp_b1o (m_gmac (key := e + 14) (at_ := 0) (n := 32) (row := e + 12) (fr := 0) (size := 32) (to := e + 13) (K := LAB 10 32 0 (s.2 (12 + p)) Z0) (T := sDig s) Y2 (by lia) (by lia) (by decide) (by rw [LG2.l14]; decide) (by decide) (fun j hj => by rw [d2 j hj]; exact mod_b (LAB_lt _ _ _ _ _ _)) (by lia) (by lia) (by rw [LG2.l12]; decide) (by decide) (by decide) (by lia) (by lia) (by rw [LG2.l13]; decide) (fun j hj => by rw [Nat.zero_add, F2.i (by lia), d1 j hj]; exact mod_b (sDig_lt j))) (fun h3 e3 q3 => ?_)
    obtain ⟨d3, F3⟩ := q3
    rw [wp_some]
    have FF : FX (fun x => SX S x ∨ x = e + 12 ∨ x = e + 13 ∨ x = e + 14) h h3 := ((F1.mono (fun x q => by lia)).tr (F2.mono (fun x q => by lia))).tr (F3.mono (fun x q => by lia))
    refine ⟨G.st FF (fun x q => by lia) (fun k hk k7 => Or.inl ⟨?_, rfl, k7⟩) (fun r hr hh => Or.inl ⟨?_, hh, Nat.le_refl _, rfl⟩), d3, FF.mono (fun x q => by lia)⟩
    · have := gm_0 k hk; omega
    · have := gm_r r hr; omega
  exact goal
theorem gm_ko : ∀ k, k < 12 → 7 ≤ k → gMr (k - 4) < 10 ∧ (gMc k = 0 ∧ gMs k = 16 ∨ gMc k = 5 ∨ gMc k = 7) := by decide
theorem GM.app {k N : Nat} {F : Nat → Int} (G : GM h e S s) (V : GV s) (hk : 7 ≤ k ∧ k < 12) (hb : s.1 k + N ≤ 1024) : GM (RB h (e + gMc k) (gMs k) (e + gMr (k - 4)) (gMo (k - 4) + (s.1 k).toNat) (s.1 k).toNat N F) e S (sApp s k N F) := by
  have vk := V.2.2.2.2.1 k hk.1 hk.2
  obtain ⟨Y, g1, g3⟩ := id G
  obtain ⟨z, ez⟩ : ∃ z, z = (s.1 k).toNat := ⟨_, rfl⟩
  rw [← ez]
  have Se := Y.2.2.2.2
  have FF : FX (fun x => x = e + gMc k ∨ x = e + gMr (k - 4)) h (RB h (e + gMc k) (gMs k) (e + gMr (k - 4)) (gMo (k - 4) + z) z N F) := FX.RB (Or.inl rfl) (Or.inr rfl)
  refine ⟨Y.fx FF (fun x q => by lia), fun k' h1 h3 => ?_, fun r hr hh j hj => ?_⟩
  · show hI _ _ _ = up1 s.1 k (s.1 k + N) k'
    have nr := gm_rk k' h1 (k - 4) (by lia)
    rw [hI_RB]
    by_cases c : k' = k
    · subst c
      rw [if_pos ⟨rfl, rfl⟩, up1_eq]; lia
    · have := gm_kk k' h1 k hk.2 c
      rw [if_neg (fun e => this ⟨by lia, e.2⟩), if_neg (fun e => nr (by lia)), up1_ne c]
      exact g1 k' h1 (fun e => by have q : up1 s.1 k (s.1 k + N) 12 = 0 := h3 e; rw [up1_ne (by omega)] at q; exact q)
  · have hh' : gHas s r := (gHas_up (s := s) (k := k) (by lia)).1 hh
    have nr := gm_rk k hk.2 r hr
    rw [hI_RB, if_neg (fun e => nr (by lia))]
    show _ = (if r + 4 = k ∧ (s.1 k).toNat ≤ j then F (j - (s.1 k).toNat) else s.2 r j)
    rw [← ez]
    rw [gLn_app vk.1 hk, ← ez] at hj
    by_cases c : r + 4 = k
    · rw [if_pos c] at hj
      rw [show k - 4 = r by lia]
      by_cases d : z ≤ j
      · rw [if_pos ⟨rfl, by lia, by lia⟩, if_pos ⟨c, d⟩]; exact congrArg F (by lia)
      · rw [if_neg (by lia), if_neg (by lia)]
        exact g3 r hr hh' j (by rw [gLn_num (by lia), c]; lia)
    · rw [if_neg c] at hj
      have lj := gLn_le V hr
      rw [if_neg (fun q => ?_), if_neg (fun q => c q.1)]
      · exact g3 r hr hh' j hj
      · rcases gm_rr r hr (k - 4) (by lia) (by lia) (by lia) with z' | z'
        · lia
        · have := (gm_ko k hk.2 hk.1).1
          have := (by decide : ∀ r, r < 16 → 10 ≤ r → gMr r = 10) r hr z'.1
          lia
theorem GM.num {k : Nat} {v : Int} (G : GM h e S s) (hk : k < 12) (k6 : k ≠ 6) (hl : ∀ r, gLn (sNum s k v) r ≤ gLn s r) : GM (sI h (e + gMc k) (gMs k) v) e S (sNum s k v) := by
  obtain ⟨Y, g1, g3⟩ := G
  have Se := Y.2.2.2.2
  have FF : FX (fun x => x = e + gMc k) h (sI h (e + gMc k) (gMs k) v) := FX.sI rfl
  refine ⟨Y.fx FF (fun x q => by lia), fun k' h1 h3 => ?_, fun r hr hh j hj => ?_⟩
  · show hI _ _ _ = up1 s.1 k v k'
    rw [hI_sI]
    by_cases c : k' = k
    · rw [c, if_pos ⟨rfl, rfl⟩, up1_eq]
    · have := gm_kk k' h1 k hk c
      rw [if_neg (fun e => this ⟨by lia, e.2⟩), up1_ne c]
      exact g1 k' h1 (fun e => by have q : up1 s.1 k v 12 = 0 := h3 e; rw [up1_ne (by omega)] at q; exact q)
  · have hh' : gHas s r := (gHas_up (s := s) (k := k) (by lia)).1 hh
    have nr := gm_rk k hk r hr
    rw [hI_sI, if_neg (fun e => nr (by lia))]
    exact g3 r hr hh' j (Nat.lt_of_lt_of_le hj (hl r))
theorem GM.gho (G : GM h e S s) : GM h e S (sNum s 12 1) := by
  have e12 : (sNum s 12 1).1 12 = 1 := sNum_eq
  refine ⟨G.1, fun k hk k7 => ?_, fun r hr hh j hj => ?_⟩
  · show _ = up1 s.1 12 1 k
    rw [up1_ne (by lia)]; exact G.2.1 k hk (fun z => by have := k7 z; lia)
  · refine G.2.2 r hr ⟨fun z => hh.1 z, fun z => by have := hh.2 z; lia⟩ j (Nat.lt_of_lt_of_le hj (gLn_nm (by decide) r))
/-- a byte goes out; a byte is noted -/
theorem m_gsnd {l z n : Nat} {F : Nat → Int} {v : Int} (L : MGr h e) (hl : l < 2) (hz : z + n + 1 ≤ 1024) (ev : v = F n) : f_mGreet_send e (l : Int) v (RB h (e + 5) l (e + 4) (1024 * l + z) z n F) = some (RB h (e + 5) l (e + 4) (1024 * l + z) z (n + 1) F) := by
  have l0 := L.1
  have e0 : hI (RB h (e + 5) l (e + 4) (1024 * l + z) z n F) (e + 5) l = ((z + n : Nat) : Int) := by rw [hI_RB, if_pos ⟨rfl, rfl⟩]
  have e1 : w32 (w32 (1024 * (l : Int)) + ((z + n : Nat) : Int)) = ((1024 * l + z + n : Nat) : Int) := by unfold w32; lia
  have e2 : w32 (((z + n : Nat) : Int) + 1) = ((z + (n + 1) : Nat) : Int) := by unfold w32; lia
  obtain ⟨h1, eh⟩ : ∃ h1, h1 = RB h (e + 5) l (e + 4) (1024 * l + z) z n F := ⟨_, rfl⟩
  have L1 : MGr h1 e := by rw [eh]; exact L.of rfl rfl
  have L2 : ∀ k v, MGr (sI h1 (e + 4) k v) e := fun k v => L1.of rfl rfl
  have xl : ix (l : Int) 2 := ⟨by lia, by lia⟩
  have st := RB_s' (h := h) (y := e + 5) (ys := l) (b := e + 4) (q := 1024 * l + z) (z := z) (n := n) (F := F) (by lia)
  rw [← eh] at e0 st ⊢
  have e3 : ∀ k v, hI (sI h1 (e + 4) k v) (e + 5) l = ((z + n : Nat) : Int) := fun k v => by rw [hI_sI, if_neg (by lia)]; exact e0
  unfold f_mGreet_send
  rw [L1.r0_10, if_neg (by lia), L1.l5, if_pos xl, L1.r0_9, if_neg (by lia), Int.toNat_natCast, e0, e1, L1.l4, if_pos (show ix ((1024 * l + z + n : Nat) : Int) 2048 from ⟨by lia, by lia⟩), Int.toNat_natCast, lt1_eq, (L2 _ _).r0_10, if_neg (by lia), (L2 _ _).l5, if_pos xl, if_pos xl, e3, e2, lt1_eq, ev, st]
theorem m_gnote {z n : Nat} {F : Nat → Int} {v : Int} (L : MGr h e) (hz : z + n + 1 ≤ 1024) (ev : v = F n) : f_mGreet_note e v (RB h e 16 (e + 9) z z n F) = some (RB h e 16 (e + 9) z z (n + 1) F) := by
  have l0 := L.1
  have e0 : hI (RB h e 16 (e + 9) z z n F) e 16 = ((z + n : Nat) : Int) := by rw [hI_RB, if_pos ⟨rfl, rfl⟩]
  have e2 : w32 (((z + n : Nat) : Int) + 1) = ((z + (n + 1) : Nat) : Int) := by unfold w32; lia
  obtain ⟨h1, eh⟩ : ∃ h1, h1 = RB h e 16 (e + 9) z z n F := ⟨_, rfl⟩
  have L1 : MGr h1 e := by rw [eh]; exact L.of rfl rfl
  have st := RB_s' (h := h) (y := e) (ys := 16) (b := e + 9) (q := z) (z := z) (n := n) (F := F) (by lia)
  rw [← eh] at e0 st ⊢
  have e3 : ∀ k v, hI (sI h1 (e + 9) k v) e 16 = ((z + n : Nat) : Int) := fun k v => by rw [hI_sI, if_neg (by lia)]; exact e0
  unfold f_mGreet_note
  rw [L1.r0_15, if_neg (by lia), e0, L1.l9, if_pos (show ix ((z + n : Nat) : Int) 1024 from ⟨by lia, by lia⟩), Int.toNat_natCast, lt1_eq, e3, e2, lt1_eq, ev, st]
end
