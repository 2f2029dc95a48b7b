/-! the greeting, model: take -/
section
variable {h h' : Hp} {e S l : Nat} {s : GSt}
theorem GI.w' (I : GI s) : 0 ≤ s.1 2 ∧ s.1 2 < 128 := I.w
theorem m_gbad {w : Int} {k : Nat → Int → Int → Hp → Option (Int × Hp)} (G : GM h e S s) (hw : 0 < w ∧ w < 1000) : ∃ h', f_mGreet_works_b6 k e (l : Int) (-w) h = some (w, h') ∧ GM h' e S (sFail s w) := by
  obtain ⟨L, LS, M, eS, Se⟩ := G.1
  have l0 := L.1
  have G1 := G.num (k := 4) (v := w) (by decide) (by decide) (gLn_nm (by decide))
  have G2 := G1.num (k := 2) (v := 0) (by decide) (by decide) (gLn_nm (by decide))
  have G3 := G2.num (k := 10) (v := 0) (by decide) (by decide) (gLn_n0 (by decide))
  have G4 := G3.num (k := 11) (v := 0) (by decide) (by decide) (gLn_n0 (by decide))
  refine ⟨_, ?_, G4⟩
  have en : w32 (-(-w)) = w := by unfold w32; lia
  have L2 : MGr (sI (sI h e 8 w) e 6 0) e := L.of rfl rfl
  have L3 : MGr (sI (sI (sI h e 8 w) e 6 0) (e + 7) 0 0) e := L.of rfl rfl
  unfold f_mGreet_works_b6 f_mGreet_works_b123
  rw [if_pos (by lia), if_neg (by lia), en, lt1_eq, lt1_eq, L2.r0_12, if_neg (by lia), L2.l7, if_pos (by decide), show Int.toNat 0 = 0 from rfl, lt1_eq, L3.r0_12, if_neg (by lia), L3.l7, if_pos (by decide), show Int.toNat 1 = 1 from rfl, lt1_eq]
  rfl
theorem m_gtk1 {b : Int} (G : GM h e S (sAdd s l b)) (I : GI s) (f0 : s.1 4 = 0) (hl : l < 2) (hb : 0 ≤ b ∧ b < 256) : ∃ h', f_mGreet_works e (l : Int) h = some ((sTk1 s l b).1 4, h') ∧ GM h' e S (sTk1 s l b) := by
  obtain ⟨V, P, St⟩ := id I
  have I2 := I.tk f0 hl hb
  have st := St f0
  have m := sLook_le V hl (st l hl).1
  have V1 := V.add hl hb (by lia)
  obtain ⟨F, hF⟩ : ∃ F, F + 3 = FU := ⟨FU - 3, by decide⟩
  have w4 : (sAdd s l b).1 4 = 0 := by rw [sAdd_o (by lia)]; exact f0
  have w2 : (sAdd s l b).1 2 = s.1 2 := sAdd_o (by lia)
  unfold f_mGreet_works
  rw [m_glook G V1 hl, b2_some, ← hF]
  show ∃ h', f_mGreet_works_b6 (f_mGreet_works_b6_lp (F + 2)) e (l : Int) (sLook (sAdd s l b) l) h = _ ∧ _
  by_cases c : sLook (sAdd s l b) l < 0
  · have et : sTk1 s l b = sFail (sAdd s l b) (-sLook (sAdd s l b) l) := if_pos c
    have bw := sLook_neg V1 hl c
    obtain ⟨h1, p1, G1⟩ := m_gbad (l := l) (w := -sLook (sAdd s l b) l) (k := f_mGreet_works_b6_lp (F + 2)) G ⟨by lia, by lia⟩
    rw [Int.neg_neg] at p1
    exact ⟨h1, by rw [p1, et]; rfl, by rw [et]; exact G1⟩
  · by_cases c0 : sLook (sAdd s l b) l = 0
    · have et : sTk1 s l b = sAdd s l b := by unfold sTk1; rw [if_neg c, if_pos c0]
      refine ⟨h, ?_, by rw [et]; exact G⟩
      unfold f_mGreet_works_b6 f_mGreet_works_b123
      rw [c0, if_pos (by decide), if_pos (by decide), et, w4]; rfl
    · have q := sLook_add V hl hb (st l hl).1 (by lia)
      obtain ⟨n, en⟩ : ∃ n : Nat, n = (sLook (sAdd s l b) l).toNat := ⟨_, rfl⟩
      have ev : sLook (sAdd s l b) l = (n : Int) := by lia
      have et : sTk1 s l b = sNum (sMsg (sAdd s l b) n) (10 + l) 0 := by unfold sTk1; rw [if_neg c, if_neg c0, ← en]
      have hn : (sAdd s l b).1 (10 + l) = (n : Int) := by rw [← q.1, ev]
      have n1 := sAdd_n (s := s) (b := b) hl
      have m10 : gMc (10 + l) = 7 ∧ gMs (10 + l) = l := by rcases (show l = 0 ∨ l = 1 by lia) with rfl | rfl <;> exact ⟨rfl, rfl⟩
      rw [ev]
      rcases m_gdone (n := n) (l := l) G V1 (gPh_add P hl) (by rw [w2]; exact q.2.1) (by rw [w2]; exact q.2.2.1) hn (by lia) (by rw [w2, ← ev]; exact q.2.2.2.2) with ⟨h1, p1, G1, k4⟩ | ⟨h1, p1, G1, em⟩
      · -- done
        have sm : (sMsg (sAdd s l b) n).1 4 = 0 ∧ (sMsg (sAdd s l b) n).1 (10 + l) = n := by
          rcases sMsg_num (s := sAdd s l b) (n := n) (gPh_add P hl) (by rw [w2]; exact q.2.1) w4 (by lia) (by rw [sAdd_o (by lia)]; exact V.2.1) (by rw [w2, ← ev]; exact q.2.2.2.2) with ⟨a, e'⟩ | ⟨a, b', d⟩
          · rw [k4, w4] at a; lia
          · exact ⟨a, by rw [d l hl, hn]⟩
        obtain ⟨L, LS, M, eS, Se⟩ := G1.1
        have l0 := L.1
        have iz : hI h1 (e + 7) l = (n : Int) := by rw [← sm.2]; exact G1.i (k := 10 + l) (by lia) (fun z => by lia) m10.1 m10.2
        have G2 : GM (sI h1 (e + 7) l 0) e S (sTk1 s l b) := by
          have := G1.num (k := 10 + l) (v := 0) (by lia) (by lia) (gLn_n0 (by lia))
          rw [m10.1, m10.2] at this
          rw [et]; exact this
        have t4 : (sTk1 s l b).1 4 = 0 := by rw [et]; show up1 _ _ _ 4 = 0; rw [up1_ne (by lia)]; exact sm.1
        refine ⟨sI h1 (e + 7) l 0, ?_, G2⟩
        obtain ⟨h2, eh2⟩ : ∃ h2, h2 = sI h1 (e + 7) l 0 := ⟨_, rfl⟩
        rw [← eh2] at G2 ⊢
        have L2 := G2.1.1
        have xl : ix (l : Int) 2 := ⟨by lia, by lia⟩
        have iz2 : hI h2 (e + 7) l = 0 := by rw [eh2, hI_sI, if_pos ⟨rfl, rfl⟩]
        have e0 : w32 ((n : Int) - (n : Int)) = 0 := by unfold w32; lia
        unfold f_mGreet_works_b6
        rw [if_neg (by lia), p1, b2_some, if_pos (by decide), L.r0_12, if_neg (by lia), L.l7, if_pos xl, if_pos xl, Int.toNat_natCast, iz, e0, lt1_eq, ← eh2, ← hF]
        show f_mGreet_works_b40 (f_mGreet_works_b6_lp (F + 2)) _ e (l : Int) (n : Int) 0 h2 = _
        unfold f_mGreet_works_b40
        rw [L2.r0_12, if_neg (by lia), L2.l7, if_pos xl, Int.toNat_natCast, iz2, if_pos (by decide), m_glook G2 I2.1 hl, (I2.2.2 t4 l hl).1, b2_some, t4]
        show f_mGreet_works_b6 (f_mGreet_works_b6_lp (F + 1)) e (l : Int) 0 h2 = _
        unfold f_mGreet_works_b6 f_mGreet_works_b123
        rw [if_pos (by decide), if_pos (by decide)]; rfl
      · -- 307
        obtain ⟨h2, p2, G2⟩ := m_gbad (l := l) (w := 307) (k := f_mGreet_works_b6_lp (F + 1)) G1 (by decide)
        refine ⟨h2, ?_, by rw [et, em, sFail_z hl]; exact G2⟩
        rw [et, em, sFail_z hl]
        unfold f_mGreet_works_b6
        rw [if_neg (by lia), p1, b2_some, if_neg (by decide), lt1_eq]
        show f_mGreet_works_b6 (f_mGreet_works_b6_lp (F + 1)) e (l : Int) (-307) h1 = _
        rw [p2]; rfl
theorem m_gtakeL {row : Nat} {n : Int} (hl : l < 2) (r0 : row ≠ 0) : ∀ (r f fr i : Nat) (s : GSt) (h : Hp) (B : Nat → Int), GM h e S s → GI s → s.1 4 = 0 → n = ((i + r : Nat) : Int) → (∀ j, j < r → hI h row (fr + (i + j)) = B j ∧ 0 ≤ B j ∧ B j < 256) → ¬ inE S e row → fr + i + r ≤ ln h row → fr + i + r < 2147483648 → r < f →
    ∃ h', f_mGreet_take_b6_lp f e (l : Int) row (fr : Int) n 0 (i : Int) h = some ((sTake s l B r).1 4, h') ∧ GM h' e S (sTake s l B r) ∧ GI (sTake s l B r) := by
  intro r
  induction r with
  | zero =>
    intro f fr i s h B G I f0 en hB rd rl rz hf
    obtain ⟨f, rfl⟩ : ∃ f', f = f' + 1 := ⟨f - 1, by lia⟩
    refine ⟨h, ?_, G, I⟩
    show f_mGreet_take_b6 (f_mGreet_take_b6_lp f) e (l : Int) row (fr : Int) n 0 (i : Int) h = some (s.1 4, h)
    unfold f_mGreet_take_b6
    rw [if_pos (by lia), f0]
  | succ r ih =>
    intro f fr i s h B G I f0 en hB rd rl rz hf
    obtain ⟨f, rfl⟩ : ∃ f', f = f' + 1 := ⟨f - 1, by lia⟩
    obtain ⟨L, LS, M, eS, Se⟩ := G.1
    have l0 := L.1
    have b0 := hB 0 (by lia)
    rw [Nat.add_zero] at b0
    have V := I.1
    have m := sLook_le V hl (I.2.2 f0 l hl).1
    have v10 := V.2.2.2.2.1 (10 + l) (by lia) (by lia)
    have m10 : gMc (10 + l) = 7 ∧ gMs (10 + l) = l ∧ gMr (10 + l - 4) = 6 ∧ gMo (10 + l - 4) = 1024 * l := by rcases (show l = 0 ∨ l = 1 by lia) with rfl | rfl <;> exact ⟨rfl, rfl, rfl, rfl⟩
    obtain ⟨z, ez⟩ : ∃ z, z = (s.1 (10 + l)).toNat := ⟨_, rfl⟩
    have iz : hI h (e + 7) l = (z : Int) := by
      have := G.i (k := 10 + l) (by lia) (fun z => by lia) m10.1 m10.2.1
      rw [this]; lia
    have G1 := G.app (k := 10 + l) (N := 1) (F := fun _ => B 0) V (by lia) (by lia)
    rw [m10.1, m10.2.1, m10.2.2.1, m10.2.2.2, ← ez] at G1
    have st : RB h (e + 7) l (e + 6) (1024 * l + z) z 0 (fun _ => B 0) = h := RB_0 iz
    have sb : sI (sI h (e + 6) (1024 * l + z) (B 0)) (e + 7) l ((z + (0 + 1) : Nat) : Int) = RB h (e + 7) l (e + 6) (1024 * l + z) z 1 (fun _ => B 0) := by
      have := RB_s' (h := h) (y := e + 7) (ys := l) (b := e + 6) (q := 1024 * l + z) (z := z) (n := 0) (F := fun _ => B 0) (by lia)
      rw [st] at this
      exact this
    have xl : ix (l : Int) 2 := ⟨by lia, by lia⟩
    have e1 : w32 ((fr : Int) + (i : Int)) = ((fr + i : Nat) : Int) := by unfold w32; lia
    have e2 : w32 (w32 (1024 * (l : Int)) + (z : Int)) = ((1024 * l + z : Nat) : Int) := by unfold w32; lia
    have e3 : w32 ((z : Int) + 1) = ((z + (0 + 1) : Nat) : Int) := by unfold w32; lia
    have e4 : w32 ((i : Int) + 1) = ((i + 1 : Nat) : Int) := by unfold w32; lia
    have L2 : ∀ k v, MGr (sI h (e + 6) k v) e := fun k v => L.of rfl rfl
    have iz2 : ∀ k v, hI (sI h (e + 6) k v) (e + 7) l = (z : Int) := fun k v => by rw [hI_sI, if_neg (by lia)]; exact iz
    obtain ⟨h1, p1, G2⟩ := m_gtk1 (b := B 0) G1 I f0 hl b0.2
    have I2 := I.tk f0 hl b0.2
    have go : f_mGreet_take_b6_lp (f + 1) e (l : Int) row (fr : Int) n 0 (i : Int) h = f_mGreet_take_b6_lp f e (l : Int) row (fr : Int) n ((sTk1 s l (B 0)).1 4) ((i + 1 : Nat) : Int) h1 := by
      show f_mGreet_take_b6 (f_mGreet_take_b6_lp f) e (l : Int) row (fr : Int) n 0 (i : Int) h = _
      unfold f_mGreet_take_b6
      rw [if_neg (by lia), if_neg (fun z => z rfl), L.r0_12, if_neg (by lia), L.l7, if_pos xl, if_neg r0, e1, if_pos (show ix ((fr + i : Nat) : Int) (ln h row) from ⟨by lia, by lia⟩), L.r0_11, if_neg (by lia), Int.toNat_natCast, iz, e2, L.l6, if_pos (show ix ((1024 * l + z : Nat) : Int) 2048 from ⟨by lia, by lia⟩), Int.toNat_natCast, Int.toNat_natCast, b0.1, lt1_eq, (L2 _ _).r0_12, if_neg (by lia), (L2 _ _).l7, if_pos xl, if_pos xl, iz2, e3, lt1_eq, sb, p1, b2_some, e4]
    rw [go]
    show ∃ h', _ = some ((if (sTk1 s l (B 0)).1 4 ≠ 0 then sTk1 s l (B 0) else sTake (sTk1 s l (B 0)) l (fun j => B (j + 1)) r).1 4, h') ∧ GM h' e S (if (sTk1 s l (B 0)).1 4 ≠ 0 then sTk1 s l (B 0) else sTake (sTk1 s l (B 0)) l (fun j => B (j + 1)) r) ∧ GI (if (sTk1 s l (B 0)).1 4 ≠ 0 then sTk1 s l (B 0) else sTake (sTk1 s l (B 0)) l (fun j => B (j + 1)) r)
    by_cases c : (sTk1 s l (B 0)).1 4 ≠ 0
    · rw [if_pos c]
      refine ⟨h1, ?_, G2, I2⟩
      obtain ⟨f, rfl⟩ : ∃ f', f = f' + 1 := ⟨f - 1, by lia⟩
      show f_mGreet_take_b6 (f_mGreet_take_b6_lp f) e (l : Int) row (fr : Int) n ((sTk1 s l (B 0)).1 4) ((i + 1 : Nat) : Int) h1 = _
      unfold f_mGreet_take_b6
      by_cases d : n ≤ ((i + 1 : Nat) : Int)
      · rw [if_pos d]
      · rw [if_neg d, if_pos c]
    · rw [if_neg c]
      have c' : (sTk1 s l (B 0)).1 4 = 0 := by lia
      rw [c']
      have fx : FX (inE S e) h h1 := by
        obtain ⟨L1, LS1, M1, eS1, _⟩ := id G1.1
        have f1 : FX (inE S e) h (RB h (e + 7) l (e + 6) (1024 * l + z) z 1 (fun _ => B 0)) := FX.RB (by lia) (by lia)
        obtain ⟨g1, eg1⟩ : ∃ g1, g1 = RB h (e + 7) l (e + 6) (1024 * l + z) z 1 (fun _ => B 0) := ⟨_, rfl⟩
        rw [← eg1] at L1 LS1 eS1 p1 f1
        refine f1.tr ?_
        exact (FX.fe (fe_mGreet_works _ _ _ _ p1) (fun x k q => by simp only [wI_mGreet_works, eS1, LS1.r4, LS1.r5, LS1.r6, LS1.r7, LS1.r8, LS1.r9, LS1.r10, LS1.r12, LS1.r14, L1.r0_9, L1.r0_10, L1.r0_11, L1.r0_12, L1.r0_13, L1.r0_15, L1.r0_17, L1.r0_19, L1.r0_20, L1.r0_21, L1.r0_22] at q <;> omega) (fun x k q => by simp only [wJ_mGreet_works, eS1, LS1.r4, LS1.r5, LS1.r6, LS1.r7, LS1.r8, LS1.r9, LS1.r10, LS1.r12, LS1.r14, L1.r0_9, L1.r0_10, L1.r0_11, L1.r0_12, L1.r0_13, L1.r0_15, L1.r0_17, L1.r0_19, L1.r0_20, L1.r0_21, L1.r0_22] at q <;> omega))
      exact ih f fr (i + 1) _ h1 (fun j => B (j + 1)) G2 I2 c' (by lia) (fun j hj => by rw [fx.i rd, show fr + (i + 1 + j) = fr + (i + (j + 1)) by lia]; exact hB (j + 1) (by lia)) rd (by rw [fx.l]; lia) (by lia) (by lia)
theorem m_gtake {row fr n : Nat} {B : Nat → Int} (G : GM h e S s) (I : GI s) (f0 : s.1 4 = 0) (hl : l < 2) (hB : ∀ j, j < n → hI h row (fr + j) = B j ∧ 0 ≤ B j ∧ B j < 256) (r0 : row ≠ 0) (rd : ¬ inE S e row) (rl : fr + n ≤ ln h row) (rz : fr + n < 100000000) :
    ∃ h', f_mGreet_take e (l : Int) row (fr : Int) (n : Int) h = some ((sTake s l B n).1 4, h') ∧ GM h' e S (sTake s l B n) ∧ GI (sTake s l B n) := by
  obtain ⟨F, hF, F9⟩ : ∃ F, F = FU ∧ n < F := ⟨FU, rfl, by unfold FU; lia⟩
  have := m_gtakeL (e := e) (S := S) (l := l) (row := row) (n := (n : Int)) hl r0 n F fr 0 s h B G I f0 (by lia) (fun j hj => by rw [Nat.zero_add]; exact hB j hj) rd (by lia) (by lia) F9
  unfold f_mGreet_take
  rw [hF] at this
  exact this
end
