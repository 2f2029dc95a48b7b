/-! the greeting, class: a whole message -/
section
variable {h h' : Hp} {g : Nat} {s : GSt}
abbrev inG (g x : Nat) : Prop := g ≤ x ∧ x ≤ g + 48
theorem c_ghello {n : Nat} (G : GC h g s) (V : GV s) (t0 : s.1 12 = 0) (hl : 0 ≤ s.1 6 ∧ s.1 6 < 2) (z : s.1 7 = 0 ∧ s.1 8 = 0 ∧ s.1 9 = 0) (hn : s.1 10 = n) (n1 : 36 ≤ n ∧ n ≤ 336) :
    ∃ h', f_cGreeting_hello g (g + 31) ((n - 4 : Nat) : Int) h = some h' ∧ GC h' g (sHello s n) ∧ GV (sHello s n) ∧ FX (inG g) h h' := by
  have l0 := G.1.1.1
  have v1 := V.2.1
  obtain ⟨h1, p1, G1, F1⟩ := c_gtold (l := 0) (n := n) G V t0 (by decide) hn (by lia)
  have V1 : GV (sApp s 7 n (s.2 (6 + 0))) := V.app (by decide) (by lia) (fun j hj => V.row (r := 6) (by decide) (by decide) j (by rw [gLn_num (by decide)]; show j < (s.1 10).toNat; lia))
  obtain ⟨h2, p2, G2, F2⟩ := c_gkeep (l := 0) (p := 36) (n := n - 36) G1 V1 (by decide) (by lia) (by show ((36 : Nat) : Int) + ((n - 36 : Nat) : Int) ≤ s.1 10; lia)
  have V2 := V1.keep (l := 0) (p := 36) (n := n - 36) (by decide) (by lia) (by show ((36 : Nat) : Int) + ((n - 36 : Nat) : Int) ≤ s.1 10; lia)
  obtain ⟨s2, es2⟩ : ∃ s2, s2 = sKeep (sApp s 7 n (s.2 6)) 0 36 (n - 36) := ⟨_, rfl⟩
  have G2' : GC h2 g s2 := by rw [es2]; exact G2
  have V2' : GV s2 := by rw [es2]; exact V2
  have n7 : s2.1 7 = n := by rw [es2]; show s.1 7 + n = n; lia
  have n8 : s2.1 8 = 0 ∧ s2.1 9 = 0 ∧ s2.1 12 = 0 ∧ s2.1 6 = s.1 6 ∧ s2.1 1 = s.1 1 := by rw [es2]; exact ⟨z.2.1, z.2.2, t0, rfl, rfl⟩
  have r2 : s2.2 1 = s.2 1 ∧ s2.2 2 = s.2 2 := by rw [es2]; exact ⟨rfl, rfl⟩
  have L2 := G2'.1.1
  obtain ⟨h3, p3, G3, -, F3⟩ := c_gsays (l := 0) (t := 2) (n := 32) (na := 32) (a := g + 2) (bb := g + 47) (B := s.2 1) G2' V2' n8.2.2.1 (by decide) (by lia) (by lia) (by lia) (by lia) (by decide) (by decide) (by rw [L2.l2]; decide) (by rw [L2.l47]; decide) (fun j hj => by rw [← r2.1]; exact G2'.b (r := 1) (by decide) (gHas_o (by decide)) (by rw [gLn_32 (by decide)]; exact hj) rfl) (fun j hj => by lia) (by show s2.1 8 + _ ≤ _; lia) (by lia)
  have V3 := V2'.says (l := 0) (t := 2) (n := 32) (B := s.2 1) (by decide) (by decide) (fun j hj => by rw [← r2.1]; exact V2'.row (r := 1) (by decide) (by decide) j (by rw [gLn_32 (by decide)]; exact hj)) (by show s2.1 8 + _ ≤ _; lia) (by lia)
  obtain ⟨s3, es3⟩ : ∃ s3, s3 = sSays s2 0 2 32 (s.2 1) := ⟨_, rfl⟩
  rw [← es3] at G3 V3
  have n3 : s3.1 7 = n + 36 ∧ s3.1 9 = 0 ∧ s3.1 12 = 0 ∧ s3.1 6 = s.1 6 ∧ s3.1 1 = s.1 1 ∧ s3.2 2 = s.2 2 := by rw [es3]; exact ⟨by show s2.1 7 + _ = _; rw [n7]; lia, n8.2.1, n8.2.2.1, n8.2.2.2.1, n8.2.2.2.2, by rw [← r2.2]; rfl⟩
  obtain ⟨h4, e4, G4, F4⟩ := c_ggre G3 V3 n3.2.2.1 (by rw [n3.2.2.2.1]; exact hl)
  have V4 := V3.greets (by rw [n3.2.2.2.1]; exact hl.1)
  obtain ⟨s4, es4⟩ : ∃ s4, s4 = sGreets s3 := ⟨_, rfl⟩
  rw [← es4] at G4 V4
  have n4 : s4.1 7 = n + 36 ∧ s4.1 9 = 0 ∧ s4.1 12 = 0 ∧ s4.1 6 = 1 ∧ s4.1 1 = s.1 1 ∧ s4.2 2 = s.2 2 := by rw [es4]; exact ⟨n3.1, n3.2.1, n3.2.2.1, rfl, n3.2.2.2.2.1, n3.2.2.2.2.2⟩
  have L4 := G4.1.1
  have i4 : hI h4 g 4 = (((s.1 1).toNat : Nat) : Int) := by
    have := G4.i (k := 1) (by decide) (by decide) (fun z => by lia) (x := 0) (y := 4) rfl rfl
    rw [Nat.add_zero, n4.2.2.2.2.1] at this; rw [this]; lia
  obtain ⟨h5, p5, G5, -, F5⟩ := c_gsays (l := 1) (t := 8) (n := (s.1 1).toNat) (na := (s.1 1).toNat) (a := g + 3) (bb := g + 47) (B := s.2 2) G4 V4 n4.2.2.1 (by decide) (by lia) (by lia) (by lia) (by lia) (Nat.le_refl _) (by lia) (by rw [L4.l3]; lia) (by rw [L4.l47]; lia) (fun j hj => by rw [← n4.2.2.2.2.2]; exact G4.b (r := 2) (by decide) (gHas_o (by decide)) (by rw [gLn_2, n4.2.2.2.2.1]; exact hj) rfl) (fun j hj => by lia) (by show s4.1 9 + _ ≤ _; lia) (by lia)
  have V5 := V4.says (l := 1) (t := 8) (n := (s.1 1).toNat) (B := s.2 2) (by decide) (by decide) (fun j hj => by rw [← n4.2.2.2.2.2]; exact V4.row (r := 2) (by decide) (by decide) j (by rw [gLn_2, n4.2.2.2.2.1]; exact hj)) (by show s4.1 9 + _ ≤ _; lia) (by lia)
  obtain ⟨s5, es5⟩ : ∃ s5, s5 = sSays s4 1 8 (s.1 1).toNat (s.2 2) := ⟨_, rfl⟩
  rw [← es5] at G5 V5
  have n5 : s5.1 7 = n + 36 + (4 + (s.1 1).toNat) ∧ s5.1 9 = 4 + (s.1 1).toNat ∧ s5.1 12 = 0 ∧ s5.1 6 = 1 := by rw [es5]; exact ⟨by show s4.1 7 + _ = _; rw [n4.1]; lia, by show s4.1 9 + _ = _; rw [n4.2.1]; lia, n4.2.2.1, n4.2.2.2.1⟩
  obtain ⟨h6, e6, G6, d6, F6⟩ := c_gprf (p := 1) (by decide) G5 V5 n5.2.2.1
  have L6 := G6.1.1
  obtain ⟨h7, p7, G7, -, F7⟩ := c_gsays (l := 1) (t := 20) (n := 32) (na := 32) (a := g + 46) (bb := g + 47) (B := sPrf s5 1) G6 V5 n5.2.2.1 (by decide) (by lia) (by lia) (by lia) (by lia) (by decide) (by decide) (by rw [L6.l46]; decide) (by rw [L6.l47]; decide) (fun j hj => d6 j hj) (fun j hj => by lia) (by show s5.1 9 + _ ≤ _; lia) (by lia)
  have V7 := V5.says (l := 1) (t := 20) (n := 32) (B := sPrf s5 1) (by decide) (by decide) (fun j hj => HMAC_lt _ _ _ _ _) (by show s5.1 9 + _ ≤ _; lia) (by lia)
  obtain ⟨h8, e8, G8, F8⟩ := c_gtlk G7 V7 n5.2.2.1 (by show 0 ≤ s5.1 6; lia)
  have G9 := G8.num (k := 2) (v := 20) (by decide) (gLn_nm (by decide))
  have ee : sNum (sTalks (sSays s5 1 20 32 (sPrf s5 1))) 2 20 = sHello s n := by rw [es5, es4, es3, es2]; rfl
  have V9 := (V7.talks (by show 0 ≤ s5.1 6; lia)).num (k := 2) (v := 20) (by decide)
  rw [ee] at G9 V9
  refine ⟨_, ?_, G9, V9, ?_⟩
  · have L := G.1.1
    have w1 : w32 (((n - 4 : Nat) : Int) - 32) = ((n - 36 : Nat) : Int) := by unfold w32; lia
    have iz : hI h (g + 31) 1 = (n : Int) := by rw [← hn]; exact G.i (k := 10) (by decide) (by decide) (fun z => by lia) rfl rfl
    unfold f_cGreeting_hello
    have p1' : f_cRow_add (g + 23) (g + 32) 0 (n : Int) h = some h1 := p1
    have p2' : f_cGreeting_keep g (g + 31) 36 ((n - 36 : Nat) : Int) h1 = some h2 := p2
    have p3' : f_cGreeting_sends g 0 2 (g + 2) 32 (g + 47) 0 h2 = some h3 := p3
    rw [Nat.sub_self] at p5
    have p5' : f_cGreeting_sends g 1 8 (g + 3) (((s.1 1).toNat : Nat) : Int) (g + 47) 0 h4 = some h5 := p5
    have e6' : f_cGreeting_prove g 1 h5 = some h6 := e6
    have p7' : f_cGreeting_sends g 1 20 (g + 46) 32 (g + 47) 0 h6 = some h7 := p7
    rw [if_neg (by lia), L.r0_7, if_neg (by lia), L.r31_0, iz, p1', b1_some, w1, p2', b1_some, L2.r0_2, L2.r0_16, p3', b1_some, e4, b1_some, L4.r0_3, L4.r0_16, i4, p5', b1_some, e6', b1_some, L6.r0_15, L6.r0_16, p7', b1_some, e8, b1_some, lt1_eq]
    rfl
  · have m : ∀ {D : Nat → Prop} {a b : Hp}, FX D a b → (∀ x, D x → inG g x) → FX (inG g) a b := fun F c => F.mono c
    exact ((((((((m F1 (fun x q => by omega)).tr (m F2 (fun x q => by omega))).tr (m F3 (fun x q => by omega))).tr F4).tr (m F5 (fun x q => by omega))).tr (m F6 (fun x q => by omega))).tr (m F7 (fun x q => by omega))).tr F8).tr (FX.sI (show g ≤ g + 0 ∧ g + 0 ≤ g + 48 by omega))
theorem orx_0 {a x y : Int} (ha : c32 a) (hx : -128 ≤ x ∧ x < 128) (hy : -128 ≤ y ∧ y < 128) : iOr a (iXor x y) = 0 ↔ a = 0 ∧ x = y := by
  have e1 : bv (iOr a (iXor x y)) = bv a ||| (bv x ^^^ bv y) := by rw [bv_iOr, bv_iXor]
  constructor
  · intro h
    rw [h] at e1
    have z : bv 0 = 0#32 := by decide
    rw [z] at e1
    have e2 := BitVec.or_eq_zero_iff.1 e1.symm
    refine ⟨bv_inj ha (by decide) (by rw [e2.1, z]), bv_inj ⟨by lia, by lia⟩ ⟨by lia, by lia⟩ (BitVec.xor_eq_zero_iff.1 e2.2)⟩
  · rintro ⟨rfl, rfl⟩
    refine bv_inj (by unfold iOr; exact c32_toInt _) (by decide) ?_
    rw [e1, BitVec.xor_self, BitVec.or_zero]
theorem c32_or (x y : Int) : c32 (iOr x y) := c32_toInt _
/-- the proof is held against the one that came -/
theorem c_gcmp {P Q : Nat → Int} (hP : ∀ k, k < 32 → hI h (g + 46) k = i8 (P k) ∧ 0 ≤ P k ∧ P k < 256) (hQ : ∀ k, k < 32 → hI h (g + 34) (4 + k) = i8 (Q k) ∧ 0 ≤ Q k ∧ Q k < 256) (L : LGr h g) (f : Nat) : ∀ (k : Nat) (v : Int), k ≤ 32 → 32 - k < f → c32 v → (v = 0 ↔ ∀ j, j < k → P j = Q j) → ∃ v', (v' = 0 ↔ ∀ j, j < 32 → P j = Q j) ∧ ∃ f', f_cGreeting_done_b14_lp f g (g + 33) v (k : Int) h = f_cGreeting_done_b14 (f_cGreeting_done_b14_lp f') g (g + 33) v' 32 h := by
  have l0 := L.1
  induction f with
  | zero => intro k v h1 h2; lia
  | succ f ih =>
    intro k v h1 h2 hv e
    by_cases c : k = 32
    · subst c
      exact ⟨v, e, f, rfl⟩
    · have p := hP k (by lia)
      have q := hQ k (by lia)
      have ew : w32 ((k : Int) + 1) = ((k + 1 : Nat) : Int) := by unfold w32; lia
      have e4 : w32 (4 + (k : Int)) = ((4 + k : Nat) : Int) := by unfold w32; lia
      have bb : ∀ x : Int, -128 ≤ i8 x ∧ i8 x < 128 := fun x => by unfold i8; lia
      have step : f_cGreeting_done_b14_lp (f + 1) g (g + 33) v (k : Int) h = f_cGreeting_done_b14_lp f g (g + 33) (iOr v (iXor (i8 (P k)) (i8 (Q k)))) ((k + 1 : Nat) : Int) h := by
        show f_cGreeting_done_b14 (f_cGreeting_done_b14_lp f) g (g + 33) v (k : Int) h = _
        unfold f_cGreeting_done_b14
        rw [if_neg (show ¬ 32 ≤ (k : Int) by lia), L.r0_15, if_neg (show ¬ g + 46 = 0 by lia), L.l46, if_pos (show ix (k : Int) 32 from ⟨by lia, by lia⟩), if_neg (show ¬ g + 33 = 0 by lia), L.r33_0, if_neg (show ¬ g + 34 = 0 by lia), e4, L.l34, if_pos (show ix ((4 + k : Nat) : Int) 1024 from ⟨by lia, by lia⟩), lt1_eq, ew, Int.toNat_natCast, Int.toNat_natCast, p.1, q.1]
      rw [step]
      refine ih (k + 1) _ (by lia) (by lia) (c32_or _ _) ?_
      rw [orx_0 hv (bb _) (bb _), e]
      constructor
      · rintro ⟨a, b⟩ j hj
        by_cases d : j = k
        · subst d
          have b' : i8 (P j) = i8 (Q j) := b
          unfold i8 at b'; lia
        · exact a j (by lia)
      · intro a
        exact ⟨fun j hj => a j (by lia), by rw [a k (by lia)]⟩
theorem c_gdone {n : Nat} (G : GC h g s) (V : GV s) (t0 : s.1 12 = 0) (hl : 0 ≤ s.1 6) (hn : s.1 11 = n) (n1 : n = 36) (b7 : s.1 7 ≤ 712) (b9 : s.1 9 ≤ 340) :
    ∃ h', f_cGreeting_done g (g + 33) h = some h' ∧ GC h' g (sDone s n) ∧ GV (sDone s n) ∧ FX (inG g) h h' := by
  have l0 := G.1.1.1
  have v0 := V.1
  have m : ∀ {D : Nat → Prop} {a b : Hp}, FX D a b → (∀ x, D x → inG g x) → FX (inG g) a b := fun F c => F.mono c
  have is : hI h g 0 = s.1 0 := G.i (k := 0) (by decide) (by decide) (fun z => by lia) (x := 0) (y := 0) rfl rfl
  obtain ⟨p, ep⟩ : ∃ p : Nat, p = (1 - s.1 0).toNat := ⟨_, rfl⟩
  have ew : w32 (1 - hI h g 0) = (p : Int) := by rw [is]; unfold w32; lia
  obtain ⟨h1, e1, G1, d1, F1⟩ := c_gprf (p := p) (by lia) G V t0
  have L1 := G1.1.1
  obtain ⟨v', ev, f', ef⟩ := c_gcmp (h := h1) (g := g) (P := sPrf s p) (Q := fun k => s.2 7 (4 + k)) (fun k hk => ⟨d1 k hk, HMAC_lt _ _ _ _ _⟩) (fun k hk => ⟨G1.b (r := 7) (by decide) (gHas_o (by decide)) (by rw [gLn_num (by decide)]; show _ < (s.1 11).toNat; lia) rfl, V.row (r := 7) (by decide) (by decide) _ (by rw [gLn_num (by decide)]; show _ < (s.1 11).toNat; lia)⟩) L1 FU 0 0 (by decide) (by decide) (by decide) ⟨fun _ j hj => by lia, fun _ => rfl⟩
  have hd : f_cGreeting_done g (g + 33) h = f_cGreeting_done_b14 (f_cGreeting_done_b14_lp f') g (g + 33) v' 32 h1 := by
    unfold f_cGreeting_done
    rw [ew, e1, b1_some]
    exact ef
  rw [hd]
  unfold f_cGreeting_done_b14 sDone
  rw [← ep, if_pos (show (32 : Int) ≤ 32 by decide)]
  by_cases c : v' = 0
  · have ok := ev.1 c
    rw [if_pos c, if_pos (fun k hk => (ok k hk).symm), lt1_eq, lt1_eq]
    have G2 := G1.num (k := 2) (v := 0) (by decide) (gLn_nm (by decide))
    have V2 := V.num (k := 2) (v := 0) (by decide)
    have G3 := G2.num (k := 3) (v := 1) (by decide) (gLn_nm (by decide))
    have V3 := V2.num (k := 3) (v := 1) (by decide)
    obtain ⟨h3, eh3⟩ : ∃ h3, h3 = sI (sI h1 g 20 0) g 22 1 := ⟨_, rfl⟩
    have G3' : GC h3 g (sNum (sNum s 2 0) 3 1) := by rw [eh3]; exact G3
    have F3 : FX (inG g) h1 h3 := by rw [eh3]; exact FX.tr (FX.sI ⟨Nat.le_refl _, by lia⟩) (FX.sI ⟨Nat.le_refl _, by lia⟩)
    rw [← eh3]
    have is3 : hI h3 g 0 = s.1 0 := G3'.i (k := 0) (by decide) (by decide) (fun z => by lia) (x := 0) (y := 0) rfl rfl
    rw [is3]
    by_cases c1 : s.1 0 = 1
    · rw [if_neg (fun z => z c1), if_pos c1]
      exact ⟨_, rfl, G3', V3, (m F1 (fun x q => by omega)).tr F3⟩
    · rw [if_pos c1, if_neg c1]
      have L3 := G3'.1.1
      have iz : hI h3 (g + 33) 1 = (n : Int) := by rw [← hn]; exact G3'.i (k := 11) (by decide) (by decide) (fun z => by lia) rfl rfl
      obtain ⟨h4, p4, G4, F4⟩ := c_gtold (l := 1) (n := n) G3' V3 t0 (by decide) hn (by show s.1 7 + _ ≤ _; lia)
      have V4 : GV (sApp (sNum (sNum s 2 0) 3 1) 7 n (s.2 (6 + 1))) := V3.app (by decide) (by show s.1 7 + _ ≤ _; lia) (fun j hj => V.row (r := 7) (by decide) (by decide) j (by rw [gLn_num (by decide)]; show j < (s.1 11).toNat; lia))
      obtain ⟨h5, e5, G5, F5⟩ := c_gtlk G4 V4 t0 hl
      have V5 := V4.talks hl
      obtain ⟨s5, es5⟩ : ∃ s5, s5 = sTalks (sApp (sNum (sNum s 2 0) 3 1) 7 n (s.2 (6 + 1))) := ⟨_, rfl⟩
      have eP : sPrf s5 0 = sPrf (sApp s 7 n (s.2 7)) 0 := by rw [es5]; rfl
      have n5 : s5.1 12 = 0 ∧ s5.1 9 = s.1 9 ∧ s5.1 7 = s.1 7 + n := by rw [es5]; exact ⟨t0, rfl, rfl⟩
      have G5' : GC h5 g s5 := by rw [es5]; exact G5
      have V5' : GV s5 := by rw [es5]; exact V5
      obtain ⟨h6, e6, G6, d6, F6⟩ := c_gprf (p := 0) (by decide) G5' V5' n5.1
      have L6 := G6.1.1
      obtain ⟨h7, p7, -, G7, F7⟩ := c_gsays (l := 1) (t := 20) (n := 32) (na := 32) (a := g + 46) (bb := g + 47) (B := sPrf s5 0) G6 V5' n5.1 (by decide) (by lia) (by lia) (by lia) (by lia) (by decide) (by decide) (by rw [L6.l46]; decide) (by rw [L6.l47]; decide) (fun j hj => d6 j hj) (fun j hj => by lia) (by show s5.1 9 + _ ≤ _; lia) (by lia)
      have V7 := (V5'.send (l := 1) (t := 20) (n := 32) (B := sPrf s5 0) (by decide) (by decide) (fun j hj => HMAC_lt _ _ _ _ _) (by show s5.1 9 + _ ≤ _; lia)).gho
      rw [eP, es5] at G7 V7
      refine ⟨h7, ?_, G7, V7, ?_⟩
      · rw [if_neg (by lia), L3.r0_7, if_neg (by lia), L3.r33_0, iz, p4, b1_some, e5, b1_some]
        have e6' : f_cGreeting_prove g 0 h5 = some h6 := e6
        have p7' : f_cGreeting_sends g 1 20 (g + 46) 32 (g + 47) 0 h6 = some h7 := p7
        rw [e6', b1_some, L6.r0_15, L6.r0_16, p7', b1_some]
      · exact (((((m F1 (fun x q => by omega)).tr F3).tr (m F4 (fun x q => by omega))).tr F5).tr (m F6 (fun x q => by omega))).tr (m F7 (fun x q => by omega))
  · rw [if_neg c, if_neg (fun z => c (ev.2 (fun k hk => (z k hk).symm)))]
    obtain ⟨h2, p2, G2, F2⟩ := c_gfails (w := 307) G1
    exact ⟨h2, by rw [p2, b2_some], G2, (((V.num (k := 4) (v := 307) (by decide)).num (k := 2) (v := 0) (by decide)).num (k := 10) (v := 0) (by decide)).num (k := 11) (v := 0) (by decide), (m F1 (fun x q => by omega)).tr (m F2 (fun x q => by omega))⟩
end
