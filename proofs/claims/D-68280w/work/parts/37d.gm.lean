/-! the greeting, model: a whole message -/
section
variable {h h' : Hp} {e S l : Nat} {s s' : GSt}
theorem GM.eq (G : GM h e S s) (c1 : ∀ k, k < 13 → s'.1 k = s.1 k) (c2 : ∀ r, r < 16 → s'.2 r = s.2 r) : GM h e S s' := by
  have ln1 : ∀ r, r < 16 → gLn s' r = gLn s r := fun r hr => by
    unfold gLn
    rw [c1 1 (by decide), c1 5 (by decide)]
    by_cases c : 3 ≤ r ∧ r < 8
    · rw [c1 (r + 4) (by lia)]
    · rw [if_neg c, if_neg c]
  refine ⟨G.1, fun k hk k7 => by rw [c1 k (by lia)]; exact G.2.1 k hk (fun z => by rw [← c1 12 (by decide)]; exact k7 z), fun r hr hh j hj => ?_⟩
  rw [c2 r hr]
  refine G.2.2 r hr ⟨fun z => by rw [← c1 6 (by decide)]; exact hh.1 z, fun z => by rw [← c1 12 (by decide)]; exact hh.2 z⟩ j (by rw [ln1 r hr] at hj; exact hj)
theorem m_gkeep {p n : Nat} (G : GM h e S s) (V : GV s) (hl : l < 2) (hn : n ≤ 300) (hp : (p : Int) + n ≤ s.1 (10 + l)) : ∃ h', f_mGreet_keepTheirs e ((1024 * l + p : Nat) : Int) (n : Int) h = some h' ∧ GM h' e S (sKeep s l p n) ∧ FX (fun x => x = e ∨ x = e + 8) h h' := by
  obtain ⟨L, LS, M, eS, Se⟩ := G.1
  have l0 := L.1
  have v10 := V.2.2.2.2.1 (10 + l) (by lia) (by lia)
  obtain ⟨h1, eh1⟩ : ∃ h1, h1 = sI h e 14 (n : Int) := ⟨_, rfl⟩
  have L1 : MGr h1 e := by rw [eh1]; exact L.of rfl rfl
  have ej : ∀ j : Nat, j < n → w32 (((1024 * l + p : Nat) : Int) + (j : Int)) = ((1024 * l + p + j : Nat) : Int) := fun j hj => by unfold w32; lia
  obtain ⟨F, hF, F9⟩ : ∃ F, F = FU ∧ 1024 ≤ F := ⟨FU, rfl, by decide⟩
  have q := lq_mGreet_keepTheirs_b7 (v0 := e) (v1 := ((1024 * l + p : Nat) : Int)) (N := n) F 0 h1 (by lia) (by lia) (by lia) (by rw [L1.r0_11]; lia) (fun j _ hj => by rw [ej j hj, L1.r0_11, L1.l6]; exact ⟨by lia, by lia⟩) (by rw [L1.r0_13]; lia) (fun j _ hj => by rw [L1.r0_13, L1.l8]; exact ⟨by lia, by lia⟩) (by rw [L1.r0_11, L1.r0_13]; lia)
  rw [L1.r0_11, L1.r0_13, hF] at q
  have e0 : f_mGreet_keepTheirs e ((1024 * l + p : Nat) : Int) (n : Int) h = some (fI h1 (e + 8) 0 0 n (fun j => hI h1 (e + 6) ((w32 (((1024 * l + p : Nat) : Int) + (j : Int))).toNat))) := by
    unfold f_mGreet_keepTheirs
    rw [lt1_eq, ← eh1]
    exact q
  have FF : FX (fun x => x = e ∨ x = e + 8) h (fI h1 (e + 8) 0 0 n (fun j => hI h1 (e + 6) ((w32 (((1024 * l + p : Nat) : Int) + (j : Int))).toNat))) := by
    refine ⟨by rw [eh1]; exact ⟨rfl, rfl, rfl⟩, fun x y hx => ?_, fun x y hx => by rw [eh1]; rfl⟩
    rw [hI_fI, if_neg (by lia), eh1, hI_sI, if_neg (by lia)]
  refine ⟨_, e0, ?_, FF⟩
  refine G.st FF (fun x q => by lia) (fun k hk k7 => ?_) (fun r hr hh => ?_)
  · right
    show _ = up1 s.1 5 n k
    have := gm_0 k hk
    rw [hI_fI, if_neg (by lia), eh1, hI_sI]
    by_cases c : k = 5
    · subst c; rw [if_pos ⟨rfl, rfl⟩, up1_eq]
    · have q := gm_kk k hk 5 (by decide) c
      rw [if_neg (fun z => q ⟨by rw [show gMc 5 = 0 from rfl]; lia, z.2⟩), up1_ne c]
      exact G.2.1 k hk (fun z => k7 z)
  · by_cases c : r = 8
    · subst c
      right; intro j hj
      rw [gLn_8] at hj
      have hj' : j < n := by
        have : (sKeep s l p n).1 5 = n := by show up1 s.1 5 _ 5 = _; exact up1_eq
        lia
      show hI _ (e + 8) (0 + j) = s.2 (6 + l) (p + j)
      rw [Nat.zero_add, hI_fI, if_pos ⟨rfl, by lia, by lia⟩, Nat.sub_zero, ej j hj', Int.toNat_natCast, eh1, hI_sI, if_neg (by lia)]
      have := G.b (r := 6 + l) (j := p + j) (by lia) (gHas_o (by lia)) (by rw [gLn_num (by lia), show 6 + l + 4 = 10 + l by lia]; lia) (x := 6) (o := 1024 * l) (by rcases (show l = 0 ∨ l = 1 by lia) with rfl | rfl <;> rfl) (by rcases (show l = 0 ∨ l = 1 by lia) with rfl | rfl <;> rfl)
      rw [show 1024 * l + p + j = 1024 * l + (p + j) by lia]; exact this
    · left
      refine ⟨?_, ?_, ?_, ?_⟩
      · have := (by decide : ∀ r, r < 16 → r = 8 ∨ (gMr r ≠ 0 ∧ gMr r ≠ 8)) r hr; omega
      · exact (gHas_up (s := s) (k := 5) (by decide)).1 hh
      · exact Nat.le_of_eq (gLn_eq (fun _ => rfl) (fun z => absurd z c) (fun _ => up1_ne (by omega)))
      · funext j
        show (if r = 8 then s.2 (6 + l) (p + j) else s.2 r j) = s.2 r j
        rw [if_neg c]
/-- a message is noted -/
theorem m_gnl {n tz : Nat} {F : Nat → Int} {w y1 : Int} (L : MGr h e) (hl : l < 2) (ey : y1 = ((1024 * l : Nat) : Int)) (hw : w ≠ 20 ∨ hI h e 0 = 0) (hz : tz + n ≤ 1024) (hn : n ≤ 1024) (hF : ∀ j, j < n → hI h (e + 6) (1024 * l + j) = F j) (f : Nat) : ∀ k, k ≤ n → n - k < f → f_mGreet_done_b73_lp f e (n : Int) y1 w (k : Int) (RB h e 16 (e + 9) tz tz k F) = f_mGreet_done_b112 e (n : Int) y1 w (RB h e 16 (e + 9) tz tz n F) := by
  have l0 := L.1
  induction f with
  | zero => intro k h1 h2; lia
  | succ f ih =>
    intro k h1 h2
    show f_mGreet_done_b73 (f_mGreet_done_b73_lp f) e (n : Int) y1 w (k : Int) _ = _
    unfold f_mGreet_done_b73
    by_cases c : k = n
    · subst c
      rw [if_pos (Int.le_refl _)]
    · have L1 : MGr (RB h e 16 (e + 9) tz tz k F) e := L.of rfl rfl
      have ew : w32 ((k : Int) + 1) = ((k + 1 : Nat) : Int) := by unfold w32; lia
      have e1 : w32 (((1024 * l : Nat) : Int) + (k : Int)) = ((1024 * l + k : Nat) : Int) := by unfold w32; lia
      have i0 : hI (RB h e 16 (e + 9) tz tz k F) e 0 = hI h e 0 := by rw [hI_RB, if_neg (by lia), if_neg (by lia)]
      have go : f_mGreet_done_b93 (f_mGreet_done_b73_lp f) e (n : Int) y1 w (k : Int) (RB h e 16 (e + 9) tz tz k F) = f_mGreet_done_b112 e (n : Int) y1 w (RB h e 16 (e + 9) tz tz n F) := by
        unfold f_mGreet_done_b93
        rw [ey, L1.r0_11, if_neg (by lia), e1, L1.l6, if_pos (show ix ((1024 * l + k : Nat) : Int) 2048 from ⟨by lia, by lia⟩), Int.toNat_natCast, m_gnote L (by lia) (by rw [hI_RB, if_neg (by lia), if_neg (by lia)]; exact hF k (by lia)), b1_some, ew, ← ey]
        exact ih (k + 1) (by lia) (by lia)
      rw [if_neg (show ¬ (n : Int) ≤ (k : Int) by lia)]
      by_cases q : w ≠ 20
      · rw [if_pos q]; exact go
      · rw [if_neg q, if_neg (by rw [i0]; lia)]; exact go
theorem GM.told {n : Nat} (G : GM h e S s) (V : GV s) (t0 : s.1 12 = 0) (hl : l < 2) (hn : s.1 (10 + l) = n) (hz : s.1 7 + n ≤ 1024) {w y1 : Int} (ey : y1 = ((1024 * l : Nat) : Int)) (hw : w ≠ 20 ∨ s.1 0 = 0) : ∃ h1, f_mGreet_done_b70 e (n : Int) y1 w h = f_mGreet_done_b112 e (n : Int) y1 w h1 ∧ GM h1 e S (sApp s 7 n (s.2 (6 + l))) ∧ FX (inE S e) h h1 := by
  obtain ⟨L, LS, M, eS, Se⟩ := G.1
  have l0 := L.1
  have v7 := V.2.2.2.2.1 7 (by decide) (by decide)
  have v10 := V.2.2.2.2.1 (10 + l) (by lia) (by lia)
  have G1 := G.app (k := 7) (N := n) (F := s.2 (6 + l)) V (by decide) hz
  rw [show gMc 7 = 0 from rfl, show gMs 7 = 16 from rfl, show gMr (7 - 4) = 9 from rfl, show gMo (7 - 4) = 0 from rfl, Nat.zero_add, Nat.add_zero] at G1
  have i7 : hI h e 16 = (((s.1 7).toNat : Nat) : Int) := by
    have := G.i (k := 7) (by decide) (fun _ => t0) (x := 0) (y := 16) rfl rfl
    rw [Nat.add_zero] at this; rw [this]; lia
  have is : hI h e 0 = s.1 0 := G.i (k := 0) (by decide) (fun z => by lia) (x := 0) (y := 0) rfl rfl
  obtain ⟨F, hF, F9⟩ : ∃ F, F = FU ∧ 1025 ≤ F := ⟨FU, rfl, by decide⟩
  have st : RB h e 16 (e + 9) (s.1 7).toNat (s.1 7).toNat 0 (s.2 (6 + l)) = h := RB_0 i7
  have p := m_gnl (h := h) (e := e) (l := l) (n := n) (tz := (s.1 7).toNat) (F := s.2 (6 + l)) (w := w) L hl ey (by rw [is]; exact hw) (by lia) (by lia) (fun j hj => G.b (r := 6 + l) (j := j) (by lia) (gHas_o (by lia)) (by rw [gLn_num (by lia), show 6 + l + 4 = 10 + l by lia]; lia) (by rcases (show l = 0 ∨ l = 1 by lia) with rfl | rfl <;> rfl) (by rcases (show l = 0 ∨ l = 1 by lia) with rfl | rfl <;> rfl)) F 0 (by lia) (by lia)
  rw [st, hF] at p
  exact ⟨_, p, G1, FX.RB (by lia) (by lia)⟩
/-- the proof that came is held against what it must be -/
theorem m_gcmp {P Q : Nat → Int} {n y1 : Int} (L : MGr h e) (ey : y1 = 1024) (hP : ∀ k, k < 32 → hI h (e + 13) k = P k) (hQ : ∀ k, k < 32 → hI h (e + 6) (1024 + (4 + k)) = Q k) (f : Nat) : ∀ k, k ≤ 32 → 32 - k < f → (∀ j, j < k → Q j = P j) → ((∀ j, j < 32 → Q j = P j) → f_mGreet_done_b32_lp f e n y1 20 (k : Int) h = f_mGreet_done_b70 e n y1 20 h) ∧ (¬ (∀ j, j < 32 → Q j = P j) → f_mGreet_done_b32_lp f e n y1 20 (k : Int) h = some (307, h)) := by
  have l0 := L.1
  induction f with
  | zero => intro k h1 h2; lia
  | succ f ih =>
    intro k h1 h2 h3
    show ((∀ j, j < 32 → Q j = P j) → f_mGreet_done_b32 (f_mGreet_done_b32_lp f) e n y1 20 (k : Int) h = f_mGreet_done_b70 e n y1 20 h) ∧ (¬ (∀ j, j < 32 → Q j = P j) → f_mGreet_done_b32 (f_mGreet_done_b32_lp f) e n y1 20 (k : Int) h = some (307, h))
    unfold f_mGreet_done_b32
    by_cases c : k = 32
    · subst c
      rw [if_pos (by decide)]
      exact ⟨fun _ => rfl, fun z => absurd h3 z⟩
    · have ew : w32 ((k : Int) + 1) = ((k + 1 : Nat) : Int) := by unfold w32; lia
      have e1 : w32 (w32 (y1 + 4) + (k : Int)) = ((1024 + (4 + k) : Nat) : Int) := by rw [ey]; unfold w32; lia
      rw [if_neg (show ¬ 32 ≤ (k : Int) by lia), L.r0_11, if_neg (by lia), e1, L.l6, if_pos (show ix ((1024 + (4 + k) : Nat) : Int) 2048 from ⟨by lia, by lia⟩), L.r0_21, if_neg (by lia), L.l13, if_pos (show ix (k : Int) 32 from ⟨by lia, by lia⟩), Int.toNat_natCast, Int.toNat_natCast, hP k (by lia), hQ k (by lia), ew]
      by_cases d : Q k = P k
      · rw [if_pos d]
        exact ih (k + 1) (by lia) (by lia) (fun j hj => by
          by_cases q : j = k
          · rw [q]; exact d
          · exact h3 j (by lia))
      · rw [if_neg d]
        exact ⟨fun z => absurd (z k (by lia)) d, fun _ => rfl⟩
end
