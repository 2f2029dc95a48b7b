/-! the greeting, model: messages done, bytes come -/
section
variable {h h' : Hp} {e S l : Nat} {s : GSt}
theorem m_ghello {n : Nat} (G : GM h e S s) (V : GV s) (t0 : s.1 12 = 0) (p0 : s.1 0 = 1) (hl : 0 ≤ s.1 6 ∧ s.1 6 < 2) (z : s.1 7 = 0 ∧ s.1 8 = 0 ∧ s.1 9 = 0) (hn : s.1 10 = n) (n1 : 36 ≤ n ∧ n ≤ 336) : ∃ h', f_mGreet_done_b70 e (n : Int) 0 1 h = some (0, h') ∧ GM h' e S (sHello s n) := by
  have v1 := V.2.1
  obtain ⟨h1, p1, G1, F1⟩ := G.told (n := n) (l := 0) V t0 (by decide) hn (by lia) (w := 1) (y1 := 0) (by rfl) (Or.inl (by decide))
  have V1 : GV (sApp s 7 n (s.2 (6 + 0))) := V.app (by decide) (by lia) (fun j hj => V.row (r := 6) (by decide) (by decide) j (by rw [gLn_num (by decide)]; show j < (s.1 10).toNat; lia))
  obtain ⟨h2, p2, G2, F2⟩ := m_gkeep (l := 0) (p := 36) (n := n - 36) G1 V1 (by decide) (by lia) (by show ((36 : Nat) : Int) + ((n - 36 : Nat) : Int) ≤ s.1 10; lia)
  have V2 := V1.keep (l := 0) (p := 36) (n := n - 36) (by decide) (by lia) (by show ((36 : Nat) : Int) + ((n - 36 : Nat) : Int) ≤ s.1 10; lia)
  obtain ⟨s2, es2⟩ : ∃ s2, s2 = sKeep (sApp s 7 n (s.2 6)) 0 36 (n - 36) := ⟨_, rfl⟩
  have G2' : GM h2 e S s2 := by rw [es2]; exact G2
  have V2' : GV s2 := by rw [es2]; exact V2
  have n7 : s2.1 7 = n := by rw [es2]; show s.1 7 + n = n; lia
  have n8 : s2.1 8 = 0 ∧ s2.1 9 = 0 ∧ s2.1 12 = 0 ∧ s2.1 6 = s.1 6 ∧ s2.1 1 = s.1 1 := by rw [es2]; exact ⟨z.2.1, z.2.2, t0, rfl, rfl⟩
  have r2 : s2.2 1 = s.2 1 ∧ s2.2 2 = s.2 2 := by rw [es2]; exact ⟨rfl, rfl⟩
  have b1 : ∀ j, j < 32 → 0 ≤ s.2 1 j ∧ s.2 1 j < 256 := fun j hj => by rw [← r2.1]; exact V2'.row (r := 1) (by decide) (by decide) j (by rw [gLn_32 (by decide)]; exact hj)
  obtain ⟨h3, p3, G3, F3⟩ := m_gsays (l := 0) (t := 2) (n := 32) (v2 := 1) (B := s.2 1) G2' V2' n8.2.2.1 rfl (by decide) rfl (fun j hj => by unfold sMsgB; rw [if_pos (by decide), if_pos hj, r2.1]) b1 (by show s2.1 8 + _ ≤ _; lia) (by lia)
  rw [if_neg (by decide)] at G3
  have V3 := V2'.says (l := 0) (t := 2) (n := 32) (B := s.2 1) (by decide) (by decide) b1 (by show s2.1 8 + _ ≤ _; lia) (by lia)
  obtain ⟨s3, es3⟩ : ∃ s3, s3 = sSays s2 0 2 32 (s.2 1) := ⟨_, rfl⟩
  rw [← es3] at G3 V3
  have n3 : s3.1 7 = n + 36 ∧ s3.1 9 = 0 ∧ s3.1 12 = 0 ∧ s3.1 6 = s.1 6 ∧ s3.1 1 = s.1 1 ∧ s3.2 2 = s.2 2 := by rw [es3]; exact ⟨by show s2.1 7 + _ = _; rw [n7]; lia, n8.2.1, n8.2.2.1, n8.2.2.2.1, n8.2.2.2.2, by rw [← r2.2]; rfl⟩
  obtain ⟨h4, e4, G4, F4⟩ := m_ggre G3 V3 n3.2.2.1 (by rw [n3.2.2.2.1]; exact hl.1)
  have V4 := V3.greets (by rw [n3.2.2.2.1]; exact hl.1)
  obtain ⟨s4, es4⟩ : ∃ s4, s4 = sGreets s3 := ⟨_, rfl⟩
  rw [← es4] at G4 V4
  have n4 : s4.1 7 = n + 36 ∧ s4.1 9 = 0 ∧ s4.1 12 = 0 ∧ s4.1 6 = 1 ∧ s4.1 1 = s.1 1 ∧ s4.2 2 = s.2 2 := by rw [es4]; exact ⟨n3.1, n3.2.1, n3.2.2.1, rfl, n3.2.2.2.2.1, n3.2.2.2.2.2⟩
  have b2 : ∀ j, j < (s.1 1).toNat → 0 ≤ s.2 2 j ∧ s.2 2 j < 256 := fun j hj => by rw [← n4.2.2.2.2.2]; exact V4.row (r := 2) (by decide) (by decide) j (by rw [gLn_2, n4.2.2.2.2.1]; exact hj)
  obtain ⟨h5, p5, G5, F5⟩ := m_gsays (l := 1) (t := 8) (n := (s.1 1).toNat) (v2 := 1) (B := s.2 2) G4 V4 n4.2.2.1 rfl (by decide) (by rw [n4.2.2.2.2.1]; rfl) (fun j hj => by unfold sMsgB; rw [if_neg (by decide), if_pos rfl, n4.2.2.2.2.2]) b2 (by show s4.1 9 + _ ≤ _; lia) (by lia)
  rw [if_neg (by decide)] at G5
  have V5 := V4.says (l := 1) (t := 8) (n := (s.1 1).toNat) (B := s.2 2) (by decide) (by decide) b2 (by show s4.1 9 + _ ≤ _; lia) (by lia)
  obtain ⟨s5, es5⟩ : ∃ s5, s5 = sSays s4 1 8 (s.1 1).toNat (s.2 2) := ⟨_, rfl⟩
  rw [← es5] at G5 V5
  have n5 : s5.1 7 = n + 36 + (4 + (s.1 1).toNat) ∧ s5.1 9 = 4 + (s.1 1).toNat ∧ s5.1 12 = 0 ∧ s5.1 6 = 1 := by rw [es5]; exact ⟨by show s4.1 7 + _ = _; rw [n4.1]; lia, by show s4.1 9 + _ = _; rw [n4.2.1]; lia, n4.2.2.1, n4.2.2.2.1⟩
  obtain ⟨h6, e6, G6, d6, F6⟩ := m_gprf (p := 1) (by decide) G5 V5 n5.2.2.1
  obtain ⟨h7, p7, G7, F7⟩ := m_gsays (l := 1) (t := 20) (n := 32) (v2 := 1) (B := sPrf s5 1) G6 V5 n5.2.2.1 rfl (by decide) rfl (fun j hj => by unfold sMsgB; rw [if_neg (by decide), if_neg (by decide)]; exact (d6 j hj).symm) (fun j hj => HMAC_lt _ _ _ _ _) (by show s5.1 9 + _ ≤ _; lia) (by lia)
  rw [if_neg (by decide)] at G7
  have V7 := V5.says (l := 1) (t := 20) (n := 32) (B := sPrf s5 1) (by decide) (by decide) (fun j hj => HMAC_lt _ _ _ _ _) (by show s5.1 9 + _ ≤ _; lia) (by lia)
  obtain ⟨h8, e8, G8, F8⟩ := m_gtlk G7 V7 n5.2.2.1 (by show 0 ≤ s5.1 6; lia)
  have G9 := G8.num (k := 2) (v := 20) (by decide) (by decide) (gLn_nm (by decide))
  have ee : sNum (sTalks (sSays s5 1 20 32 (sPrf s5 1))) 2 20 = sHello s n := by rw [es5, es4, es3, es2]; rfl
  rw [ee] at G9
  refine ⟨_, ?_, G9⟩
  rw [p1]
  have w1 : w32 (0 + 36) = ((1024 * 0 + 36 : Nat) : Int) := by decide
  have w2 : w32 ((n : Int) - 36) = ((n - 36 : Nat) : Int) := by unfold w32; lia
  unfold f_mGreet_done_b112
  rw [if_neg (by decide), w1, w2, p2, b1_some]
  rw [show ((2 : Nat) : Int) = 2 from rfl] at p3
  rw [show ((8 : Nat) : Int) = 8 from rfl] at p5
  rw [show ((20 : Nat) : Int) = 20 from rfl] at p7
  rw [show ((1 : Nat) : Int) = 1 from rfl] at e6
  rw [p3, b1_some, e4, b1_some, p5, b1_some, e6, b1_some, p7, b1_some, e8, b1_some, lt1_eq]
  rfl
theorem m_gdone {n : Nat} (G : GM h e S s) (V : GV s) (P : gPh s) (w0 : s.1 2 ≠ 0) (el : gLev (s.1 2) = l) (hn : s.1 (10 + l) = n) (n4 : 4 ≤ n) (fit : gFit (s.1 2) ((n : Int) - 4) = true) :
    (∃ h', f_mGreet_done e (l : Int) (n : Int) h = some (0, h') ∧ GM h' e S (sMsg s n) ∧ (sMsg s n).1 4 = s.1 4) ∨ (∃ h', f_mGreet_done e (l : Int) (n : Int) h = some (307, h') ∧ GM h' e S s ∧ sMsg s n = sFail s 307) := by
  obtain ⟨L, LS, M, eS, Se⟩ := G.1
  have l0 := L.1
  have iw : hI h e 6 = s.1 2 := G.i (k := 2) (by decide) (fun z => by lia) (x := 0) (y := 6) rfl rfl
  have is : hI h e 0 = s.1 0 := G.i (k := 0) (by decide) (fun z => by lia) (x := 0) (y := 0) rfl rfl
  have l2 : l < 2 := by unfold gLev at el; split at el <;> lia
  have ey : w32 (1024 * (l : Int)) = ((1024 * l : Nat) : Int) := by unfold w32; lia
  have v10 := V.2.2.2.2.1 (10 + l) (by lia) (by lia)
  have vb : ∀ j, j < n → 0 ≤ s.2 (6 + l) j ∧ s.2 (6 + l) j < 256 := fun j hj => V.row (by lia) (by lia) j (by rw [gLn_num (by lia), show 6 + l + 4 = 10 + l by lia]; lia)
  rcases P with z | ⟨⟨t0, f0⟩, P⟩
  · exact absurd z w0
  have c20 : s.1 2 = 20 → s.1 7 + n ≤ 1024 → s.1 9 ≤ 340 → n = 36 → 0 ≤ s.1 6 → (∃ h', f_mGreet_done e (l : Int) (n : Int) h = some (0, h') ∧ GM h' e S (sDone s n) ∧ (sDone s n).1 4 = s.1 4) ∨ (∃ h', f_mGreet_done e (l : Int) (n : Int) h = some (307, h') ∧ GM h' e S s ∧ sDone s n = sFail s 307) := fun p2 b7 b9 nn b6 => by
    have l1 : l = 1 := by rw [← el, p2]; rfl
    subst l1
    obtain ⟨p, ep⟩ : ∃ p : Nat, p = (1 - s.1 0).toNat := ⟨_, rfl⟩
    have v0 := V.1
    have ew : w32 (1 - hI h e 0) = (p : Int) := by rw [is]; unfold w32; lia
    obtain ⟨h1, e1, G1, d1, F1⟩ := m_gprf (p := p) (by lia) G V t0
    have L1 := G1.1.1
    obtain ⟨F, hF, F9⟩ : ∃ F, F = FU ∧ 1025 ≤ F := ⟨FU, rfl, by decide⟩
    have cmp := m_gcmp (h := h1) (e := e) (P := sPrf s p) (Q := fun k => s.2 7 (4 + k)) (n := (n : Int)) (y1 := ((1024 * 1 : Nat) : Int)) L1 rfl d1 (fun k hk => G1.b (r := 7) (j := 4 + k) (by decide) (gHas_o (by decide)) (by rw [gLn_num (by decide)]; show _ < (s.1 11).toNat; rw [show s.1 11 = n from hn]; lia) rfl rfl) F 0 (by decide) (by lia) (fun j hj => by lia)
    rw [hF] at cmp
    have hd : f_mGreet_done e ((1 : Nat) : Int) (n : Int) h = f_mGreet_done_b32_lp FU e (n : Int) ((1024 * 1 : Nat) : Int) 20 0 h1 := by
      unfold f_mGreet_done
      rw [lt1_eq, lt1_eq, iw, p2, if_neg (fun z => z rfl), ew, e1, b1_some, ey]
    rw [hd]
    unfold sDone
    rw [← ep]
    by_cases c : ∀ k, k < 32 → s.2 7 (4 + k) = sPrf s p k
    · rw [if_pos c]
      have hd2 := cmp.1 c
      rw [show f_mGreet_done_b32_lp FU e (n : Int) ((1024 * 1 : Nat) : Int) 20 0 h1 = f_mGreet_done_b70 e (n : Int) ((1024 * 1 : Nat) : Int) 20 h1 from hd2]
      left
      by_cases d : s.1 0 = 1
      · rw [if_pos d]
        have b : f_mGreet_done_b70 e (n : Int) ((1024 * 1 : Nat) : Int) 20 h1 = f_mGreet_done_b112 e (n : Int) ((1024 * 1 : Nat) : Int) 20 h1 := by
          unfold f_mGreet_done_b70
          obtain ⟨F', hF', _⟩ : ∃ F', F' + 1 = FU ∧ True := ⟨FU - 1, by decide, trivial⟩
          rw [← hF']
          show f_mGreet_done_b73 (f_mGreet_done_b73_lp F') e (n : Int) ((1024 * 1 : Nat) : Int) 20 0 h1 = _
          have i1 : hI h1 e 0 = 1 := by rw [← d]; exact G1.i (k := 0) (by decide) (fun z => by lia) (x := 0) (y := 0) rfl rfl
          unfold f_mGreet_done_b73
          rw [if_neg (by lia), if_neg (fun z => z rfl), if_pos (by rw [i1]; decide)]
        rw [b]
        have G2 := (G1.num (k := 2) (v := 0) (by decide) (by decide) (gLn_nm (by decide))).num (k := 3) (v := 1) (by decide) (by decide) (gLn_nm (by decide))
        have i2 : hI (sI (sI h1 e 6 0) e 7 1) e 0 = 1 := (G2.i (k := 0) (by decide) (fun z => by lia) (x := 0) (y := 0) rfl rfl).trans d
        refine ⟨_, ?_, G2, rfl⟩
        unfold f_mGreet_done_b112
        rw [if_pos (by decide), if_pos (by decide), if_pos (by decide), lt1_eq, lt1_eq, i2, if_pos (by decide)]
        rfl
      · rw [if_neg d]
        have d0 : s.1 0 = 0 := by lia
        obtain ⟨h2, p2', G2, F2⟩ := G1.told (n := n) (l := 1) V t0 (by decide) hn (by lia) (w := 20) (y1 := ((1024 * 1 : Nat) : Int)) rfl (Or.inr d0)
        have V2 : GV (sApp s 7 n (s.2 (6 + 1))) := V.app (by decide) (by lia) vb
        have G3 := (G2.num (k := 2) (v := 0) (by decide) (by decide) (gLn_nm (by decide))).num (k := 3) (v := 1) (by decide) (by decide) (gLn_nm (by decide))
        have V3 := (V2.num (k := 2) (v := 0) (by decide)).num (k := 3) (v := 1) (by decide)
        obtain ⟨s3, es3⟩ : ∃ s3, s3 = sNum (sNum (sApp s 7 n (s.2 (6 + 1))) 2 0) 3 1 := ⟨_, rfl⟩
        rw [← es3] at G3 V3
        have n3 : s3.1 12 = 0 ∧ s3.1 9 = s.1 9 ∧ s3.1 7 = s.1 7 + n ∧ s3.1 6 = s.1 6 ∧ s3.1 0 = s.1 0 := by rw [es3]; exact ⟨t0, rfl, rfl, rfl, rfl⟩
        obtain ⟨h4, e4, G4, d4, F4⟩ := m_gprf (p := 0) (by decide) G3 V3 n3.1
        obtain ⟨h5, e5, G5, F5⟩ := m_gsays (l := 1) (t := 20) (n := 32) (v2 := 0) (B := sPrf s3 0) G4 V3 n3.1 rfl (by decide) rfl (fun j hj => by unfold sMsgB; rw [if_neg (by decide), if_neg (by decide)]; exact (d4 j hj).symm) (fun j hj => HMAC_lt _ _ _ _ _) (by show s3.1 9 + _ ≤ _; lia) (by lia)
        rw [if_pos rfl] at G5
        have V5 := V3.send (l := 1) (t := 20) (n := 32) (B := sPrf s3 0) (by decide) (by decide) (fun j hj => HMAC_lt _ _ _ _ _) (by show s3.1 9 + _ ≤ _; lia)
        obtain ⟨h6, e6, G6, F6⟩ := m_gtlk G5 V5 n3.1 (by show 0 ≤ s3.1 6; lia)
        have i0 : hI (sI (sI h2 e 6 0) e 7 1) e 0 = 0 := by
          have := G3.i (k := 0) (by decide) (fun z => by lia) (x := 0) (y := 0) rfl rfl
          rw [n3.2.2.2.2, d0] at this; exact this
        refine ⟨h6, ?_, ?_, rfl⟩
        · rw [p2']
          unfold f_mGreet_done_b112
          rw [show ((0 : Nat) : Int) = 0 from rfl] at e4
          rw [show ((20 : Nat) : Int) = 20 from rfl] at e5
          have e4' : f_mGreet_prove e 0 (sI (sI h2 e 6 0) e 7 1) = some h4 := e4
          rw [if_pos (by decide), if_pos (by decide), if_pos (by decide), lt1_eq, lt1_eq, i0, if_neg (by decide), e4', b1_some, e5, b1_some, e6, b1_some]
        · refine G6.gho.eq (fun k hk => ?_) (fun r hr => ?_)
          · rw [es3]
            rcases (show k = 0 ∨ k = 1 ∨ k = 2 ∨ k = 3 ∨ k = 4 ∨ k = 5 ∨ k = 6 ∨ k = 7 ∨ k = 8 ∨ k = 9 ∨ k = 10 ∨ k = 11 ∨ k = 12 by lia) with q | q | q | q | q | q | q | q | q | q | q | q | q <;> subst q <;> rfl
          · rw [es3]
            rcases (show r = 0 ∨ r = 1 ∨ r = 2 ∨ r = 3 ∨ r = 4 ∨ r = 5 ∨ r = 6 ∨ r = 7 ∨ r = 8 ∨ r = 9 ∨ r = 10 ∨ r = 11 ∨ r = 12 ∨ r = 13 ∨ r = 14 ∨ r = 15 by lia) with q | q | q | q | q | q | q | q | q | q | q | q | q | q | q | q <;> subst q <;> rfl
    · rw [if_neg c]
      exact Or.inr ⟨h1, cmp.2 c, G1, rfl⟩
  have d70 : s.1 2 ≠ 20 → f_mGreet_done e (l : Int) (n : Int) h = f_mGreet_done_b70 e (n : Int) ((1024 * l : Nat) : Int) (s.1 2) h := fun q => by
    unfold f_mGreet_done
    rw [lt1_eq, lt1_eq, iw, if_pos q, ey]
  unfold sMsg
  rcases P with ⟨p0, p2, p6, p7, p9⟩ | ⟨p0, p2, p6, p7, p9⟩ | ⟨p0, p2, p6, p7, p9⟩ | ⟨p0, p2, p6, p7, p8, p9⟩ | ⟨p0, p2, p6, p7, p9⟩
  · -- 2
    have l00 : l = 0 := by rw [← el, p2]; rfl
    subst l00
    have nn : n = 36 := by rw [p2] at fit; unfold gFit at fit; simp at fit; lia
    obtain ⟨h1, q1, G1, F1⟩ := G.told (n := n) (l := 0) V t0 (by decide) hn (by lia) (w := 2) (y1 := ((1024 * 0 : Nat) : Int)) rfl (Or.inl (by decide))
    have V1 : GV (sApp s 7 n (s.2 6)) := V.app (by decide) (by lia) vb
    obtain ⟨h2, q2, G2, F2⟩ := m_ggre G1 V1 t0 (by show 0 ≤ s.1 6; lia)
    have G3 := G2.num (k := 2) (v := 8) (by decide) (by decide) (gLn_nm (by decide))
    rw [d70 (by lia), p2, if_neg (by decide), if_pos rfl, q1]
    refine Or.inl ⟨_, ?_, G3, rfl⟩
    unfold f_mGreet_done_b112
    rw [if_pos (by decide), if_neg (by decide), q2, b1_some, lt1_eq]
    rfl
  · -- 8
    have l00 : l = 1 := by rw [← el, p2]; rfl
    subst l00
    have nn : n ≤ 304 := by rw [p2] at fit; unfold gFit at fit; simp at fit; lia
    obtain ⟨h1, q1, G1, F1⟩ := G.told (n := n) (l := 1) V t0 (by decide) hn (by lia) (w := 8) (y1 := ((1024 * 1 : Nat) : Int)) rfl (Or.inl (by decide))
    have V1 : GV (sApp s 7 n (s.2 7)) := V.app (by decide) (by lia) vb
    obtain ⟨h2, q2, G2, F2⟩ := m_gkeep (l := 1) (p := 4) (n := n - 4) G1 V1 (by decide) (by lia) (by show ((4 : Nat) : Int) + ((n - 4 : Nat) : Int) ≤ s.1 11; rw [show s.1 11 = n from hn]; lia)
    have G3 := G2.num (k := 2) (v := 20) (by decide) (by decide) (gLn_nm (by decide))
    rw [d70 (by lia), p2, if_neg (by decide), if_neg (by decide), if_pos rfl, q1]
    refine Or.inl ⟨_, ?_, G3, rfl⟩
    have w1 : w32 (((1024 * 1 : Nat) : Int) + 4) = ((1024 * 1 + 4 : Nat) : Int) := by decide
    have w2 : w32 ((n : Int) - 4) = ((n - 4 : Nat) : Int) := by unfold w32; lia
    unfold f_mGreet_done_b112
    rw [if_pos (by decide), if_pos (by decide), if_neg (by decide), w1, w2, q2, b1_some, lt1_eq]
    rfl
  · -- 20, side 0
    have nn : n = 36 := by rw [p2] at fit; unfold gFit at fit; simp at fit; lia
    rw [p2, if_neg (by decide), if_neg (by decide), if_neg (by decide)]
    exact c20 p2 (by lia) (by lia) nn (by lia)
  · -- 1
    have l00 : l = 0 := by rw [← el, p2]; rfl
    subst l00
    have nn : 36 ≤ n ∧ n ≤ 336 := by rw [p2] at fit; unfold gFit at fit; simp at fit; lia
    obtain ⟨h1, q1, G1⟩ := m_ghello (n := n) G V t0 p0 (by lia) ⟨p7, p8, p9⟩ hn nn
    rw [d70 (by lia), p2, if_pos rfl]
    exact Or.inl ⟨h1, q1, G1, rfl⟩
  · -- 20, side 1
    have nn : n = 36 := by rw [p2] at fit; unfold gFit at fit; simp at fit; lia
    rw [p2, if_neg (by decide), if_neg (by decide), if_neg (by decide)]
    exact c20 p2 (by lia) (by lia) nn (by lia)
theorem m_gisSize {w n : Int} : f_mGreet_isSize w n h = some (if gFit w n then 1 else 0, h) := by
  have : f_mGreet_isSize w n h = f_cGreeting_fits w n h := rfl
  rw [this, c_gfits]
theorem m_glook (G : GM h e S s) (V : GV s) (hl : l < 2) : f_mGreet_lookAt e (l : Int) h = some (sLook s l, h) := by
  obtain ⟨L, LS, M, eS, Se⟩ := G.1
  have l0 := L.1
  have v10 := V.2.2.2.2.1 (10 + l) (by lia) (by lia)
  have iw : hI h e 6 = s.1 2 := G.i (k := 2) (by decide) (fun z => by lia) (x := 0) (y := 6) rfl rfl
  have m10 : gMc (10 + l) = 7 ∧ gMs (10 + l) = l ∧ gMr (6 + l) = 6 ∧ gMo (6 + l) = 1024 * l := by rcases (show l = 0 ∨ l = 1 by lia) with rfl | rfl <;> exact ⟨rfl, rfl, rfl, rfl⟩
  have iz : hI h (e + 7) l = s.1 (10 + l) := G.i (k := 10 + l) (by lia) (fun z => by lia) m10.1 m10.2.1
  have ey : w32 (1024 * (l : Int)) = ((1024 * l : Nat) : Int) := by unfold w32; lia
  have xl : ix (l : Int) 2 := ⟨by lia, by lia⟩
  have yb : ∀ j : Nat, (j : Int) < s.1 (10 + l) → hI h (e + 6) (1024 * l + j) = s.2 (6 + l) j ∧ 0 ≤ s.2 (6 + l) j ∧ s.2 (6 + l) j < 256 := fun j hj => by
    have lj : j < gLn s (6 + l) := by rw [gLn_num (by lia), show 6 + l + 4 = 10 + l by lia]; lia
    exact ⟨G.b (r := 6 + l) (by lia) (gHas_o (by lia)) lj m10.2.2.1 m10.2.2.2, V.row (by lia) (by lia) j lj⟩
  have b38 : ∀ (v : Int), v = ((gLev (s.1 2) : Nat) : Int) → s.1 (10 + l) ≠ 0 → s.1 2 ≠ 0 → f_mGreet_lookAt_b38 e (l : Int) ((1024 * l : Nat) : Int) v h = some (sLook s l, h) := fun v ev c0 c1 => by
    unfold f_mGreet_lookAt_b38 sLook
    rw [if_neg c0]
    by_cases c2 : gLev (s.1 2) = l
    · have z0 : hI h (e + 6) (1024 * l) = s.2 (6 + l) 0 ∧ 0 ≤ s.2 (6 + l) 0 ∧ s.2 (6 + l) 0 < 256 := yb 0 (by omega)
      rw [if_neg (fun z => z (by lia)), L.r0_11, if_neg (by lia), L.l6, if_pos (show ix ((1024 * l : Nat) : Int) 2048 from ⟨by lia, by lia⟩), Int.toNat_natCast, z0.1, iw]
      by_cases c3 : s.2 (6 + l) 0 = s.1 2
      · rw [if_pos c3, if_neg (show ¬ (s.1 2 = 0 ∨ gLev (s.1 2) ≠ l ∨ s.2 (6 + l) 0 ≠ s.1 2) from fun z => by rcases z with z | z | z; exact c1 z; exact z c2; exact z c3), L.r0_12, if_neg (by lia), L.l7, if_pos xl, Int.toNat_natCast, iz]
        by_cases c4 : s.1 (10 + l) < 4
        · rw [if_neg (by lia), if_pos c4]
        · have y1 := yb 1 (by lia)
          have y2 := yb 2 (by lia)
          have y3 := yb 3 (by lia)
          have w1 : w32 (((1024 * l : Nat) : Int) + 1) = ((1024 * l + 1 : Nat) : Int) := by unfold w32; lia
          have w2 : w32 (((1024 * l : Nat) : Int) + 2) = ((1024 * l + 2 : Nat) : Int) := by unfold w32; lia
          have w3 : w32 (((1024 * l : Nat) : Int) + 3) = ((1024 * l + 3 : Nat) : Int) := by unfold w32; lia
          have bN : 0 ≤ sN s l ∧ sN s l < 16777216 := by unfold sN; lia
          have e4 : w32 (4 + sN s l) = 4 + sN s l := w32_id ⟨by lia, by lia⟩
          have eN : iOr (iOr (iShl (s.2 (6 + l) 1) 16) (iShl (s.2 (6 + l) 2) 8)) (s.2 (6 + l) 3) = sN s l := n24 y1.2 y2.2 y3.2
          rw [if_pos (show 4 ≤ s.1 (10 + l) by lia), if_neg c4, w1, w2, w3, if_pos (show ix ((1024 * l + 1 : Nat) : Int) 2048 from ⟨by lia, by lia⟩), if_pos (show ix ((1024 * l + 2 : Nat) : Int) 2048 from ⟨by lia, by lia⟩), if_pos (show ix ((1024 * l + 3 : Nat) : Int) 2048 from ⟨by lia, by lia⟩), Int.toNat_natCast, Int.toNat_natCast, Int.toNat_natCast, y1.1, y2.1, y3.1, eN, lt1_eq, m_gisSize, b2_some]
          by_cases d : gFit (s.1 2) (sN s l) = false
          · rw [if_pos d, if_neg (show ¬ gFit (s.1 2) (sN s l) = true by rw [d]; decide), if_neg (by decide)]
          · have d' : gFit (s.1 2) (sN s l) = true := by cases hx : gFit (s.1 2) (sN s l) with | true => rfl | false => exact absurd hx d
            rw [if_neg d, if_pos d', if_pos (by decide), L.r0_12, if_neg (by lia), L.l7, if_pos xl, iz, e4]
            by_cases f : s.1 (10 + l) < 4 + sN s l
            · rw [if_neg (by lia), if_pos f]
            · rw [if_pos (by lia), if_neg f]
      · rw [if_neg c3, if_pos (Or.inr (Or.inr c3))]
    · rw [if_pos (fun z => c2 (by lia)), if_pos (Or.inr (Or.inl c2))]
  unfold f_mGreet_lookAt
  rw [lt1_eq, ey, L.r0_12, if_neg (by lia), L.l7, if_pos xl, Int.toNat_natCast, iz, iw]
  by_cases c0 : s.1 (10 + l) = 0
  · rw [if_neg (fun z => z c0)]; unfold sLook; rw [if_pos c0]
  · rw [if_pos c0]
    by_cases c1 : s.1 2 = 0
    · rw [if_pos c1]; unfold sLook; rw [if_neg c0, if_pos (Or.inl c1)]
    · rw [if_neg c1]
      by_cases c8 : 8 ≤ s.1 2
      · rw [if_pos c8]; exact b38 1 (by unfold gLev; rw [if_pos c8]; rfl) c0 c1
      · rw [if_neg c8]; exact b38 0 (by unfold gLev; rw [if_neg c8]; rfl) c0 c1
end
