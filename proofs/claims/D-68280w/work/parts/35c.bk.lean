/-! the book: the arrays of a space grow -/
/-- the relation but for the book's scalars -/
def BkQ (hc : Hp) (a : Nat) (w : Nat → Nat) (hm : Hp) (m : Nat) (T : Int) : Prop := (LBk hc a ∧ MBk hm m) ∧ (∀ x, w x ≠ 0 → x < hN hc) ∧ (w a = 50 ∧ w (a + 1) = 51 ∧ w (a + 2) = 52 ∧ w (a + 3) = 53 ∧ w (a + 4) = 54 ∧ w (a + 5) = 55) ∧ (∀ s, s < 3 → SpR hc (a + 6 + 11 * s) w hm m s T)
section
variable {hc hm : Hp} {a m s n : Nat} {w : Nat → Nat} {X Y : Nat} {T : Int}
theorem BkR.q (B : BkR hc a w hm m) : BkQ hc a w hm m (hI hm m 0) := ⟨B.1, B.2.1, B.2.2.1, B.2.2.2.1⟩
theorem BkQ.opn (B : BkQ hc a w hm m T) (hs : s < 3) (hn : hI hm (m + 1) s = (n : Int)) : ∃ tm sz mk fo, SpW hc (a + 6 + 11 * s) s w ∧ PkC hc (a + 6 + 11 * s) n tm sz mk fo ∧ PkM hm m s n tm sz mk fo ∧ QR hc (a + 6 + 11 * s) hm m s n mk ∧ ScR hc (a + 6 + 11 * s) hm m s n tm mk ∧ TmR n tm sz T := by
  obtain ⟨n', tm, sz, mk, fo, h1, h2, h3, h4⟩ := B.2.2.2 s hs
  have : n' = n := by have := h3.2.1; lia
  subst this
  exact ⟨tm, sz, mk, fo, h1, h2, h3, h4⟩
theorem BkQ.ws (B : BkQ hc a w hm m T) {s : Nat} (hs : s < 3) : SpW hc (a + 6 + 11 * s) s w := by
  obtain ⟨n, tm, sz, mk, fo, W, _⟩ := B.2.2.2 s hs
  exact W
theorem BkQ.wx (B : BkQ hc a w hm m T) {x : Nat} (hx : x = 0 ∨ x = 1 ∨ x = 4 ∨ x = 5 ∨ x = 6 ∨ x = 14 ∨ x = 15 ∨ x = 16 ∨ x = 17 ∨ x = 25 ∨ x = 26 ∨ x = 27 ∨ x = 28 ∨ x = 36 ∨ x = 37 ∨ x = 38) : w (a + x) ≠ 0 := by
  have g := B.2.2.1
  have W0 := B.ws (s := 0) (by decide)
  have W1 := B.ws (s := 1) (by decide)
  have W2 := B.ws (s := 2) (by decide)
  rcases hx with rfl | rfl | rfl | rfl | rfl | rfl | rfl | rfl | rfl | rfl | rfl | rfl | rfl | rfl | rfl | rfl
  · rw [Nat.add_zero, g.1]; decide
  · rw [g.2.1]; decide
  · rw [g.2.2.2.2.1]; decide
  · rw [g.2.2.2.2.2]; decide
  · have : w (a + 6) = 10 * 0 + 11 := W0.1
    rw [this]; decide
  · have : w (a + 14) = 10 * 0 + 19 := W0.2.2.2.2.2.2.2.2.1
    rw [this]; decide
  · have : w (a + 15) = 10 * 0 + 19 := W0.2.2.2.2.2.2.2.2.2.1
    rw [this]; decide
  · have : w (a + 16) = 10 * 0 + 19 := W0.2.2.2.2.2.2.2.2.2.2.1
    rw [this]; decide
  · have : w (a + 17) = 10 * 1 + 11 := W1.1
    rw [this]; decide
  · have : w (a + 25) = 10 * 1 + 19 := W1.2.2.2.2.2.2.2.2.1
    rw [this]; decide
  · have : w (a + 26) = 10 * 1 + 19 := W1.2.2.2.2.2.2.2.2.2.1
    rw [this]; decide
  · have : w (a + 27) = 10 * 1 + 19 := W1.2.2.2.2.2.2.2.2.2.2.1
    rw [this]; decide
  · have : w (a + 28) = 10 * 2 + 11 := W2.1
    rw [this]; decide
  · have : w (a + 36) = 10 * 2 + 19 := W2.2.2.2.2.2.2.2.2.1
    rw [this]; decide
  · have : w (a + 37) = 10 * 2 + 19 := W2.2.2.2.2.2.2.2.2.2.1
    rw [this]; decide
  · have : w (a + 38) = 10 * 2 + 19 := W2.2.2.2.2.2.2.2.2.2.2.1
    rw [this]; decide
theorem j_spgrow (B : BkQ hc a w hm m T) (hs : s < 3) (hn : hI hm (m + 1) s = (n : Int)) (n4 : n < 4096) (full : n = ln hc (hR hc (a + 6 + 11 * s) 0)) (hX : X ≤ CN) (hY : Y ≤ CZ) (rN : hN hc + bpot hc a ≤ X) (rZ : hZ hc + 2 * bpot hc a ≤ Y) : wp (f_cSpace_grow (a + 6 + 11 * s) hc) (fun hc' => ∃ w', BkQ hc' a w' hm m T ∧ (∀ x y, x < hN hc → hI hc' x y = hI hc x y) ∧ WE w w' hc s ∧ hN hc ≤ hN hc' ∧ hN hc' + bpot hc' a ≤ X ∧ hZ hc' + 2 * bpot hc' a ≤ Y ∧ CmF a hc hc' ∧ n < ln hc' (hR hc' (a + 6 + 11 * s) 0)) := by
  obtain ⟨tm, sz, mk, fo, W, K1, K2, Q, S, TT⟩ := B.opn hs hn
  have L := B.1.1
  have a0 := L.1
  have m0 := B.1.2.1
  have wa := B.2.2.1
  have bw := B.2.1
  obtain ⟨p, ep⟩ : ∃ p, p = a + 6 + 11 * s := ⟨_, rfl⟩
  rw [← ep] at W K1 Q S full ⊢
  obtain ⟨w1, w2, w3, w4, w5, w6, w7, w8, w9, w10, w11, w0⟩ := W
  have k5 := K1.2.2.2.2.1
  have n1 : 1 ≤ n := by lia
  have lt : ∀ x, w x ≠ 0 → x < hN hc := bw
  have lp := lt p (by lia)
  have lT := lt (hR hc p 0) (by lia)
  have lS := lt (hR hc p 1) (by lia)
  have lM := lt (hR hc p 2) (by lia)
  have zT : hR hc p 0 ≠ 0 := fun z => by rw [z, w0] at w2; lia
  have zS : hR hc p 1 ≠ 0 := fun z => by rw [z, w0] at w3; lia
  have zM : hR hc p 2 ≠ 0 := fun z => by rw [z, w0] at w4; lia
  have pb : bps hc p ≤ bpot hc a ∧ 3 * (8192 - n) ≤ bps hc p := by
    constructor
    · unfold bpot
      rw [ep]
      rcases (show s = 0 ∨ s = 1 ∨ s = 2 by lia) with rfl | rfl | rfl <;> lia
    · unfold bps; rw [← full]; lia
  obtain ⟨N, hN'⟩ : ∃ N, hN hc = N := ⟨_, rfl⟩
  obtain ⟨Z, hZ'⟩ : ∃ Z, hZ hc = Z := ⟨_, rfl⟩
  rw [hN'] at rN lp lT lS lM
  rw [hZ'] at rZ
  have lt : ∀ x, w x ≠ 0 → x < N := fun x hx => by rw [← hN']; exact bw x hx
  have w2n : w32 (2 * (n : Int)) = ((2 * n : Nat) : Int) := by unfold w32; lia
  -- the heaps
  obtain ⟨g1, eg1⟩ : ∃ g1, g1 = nwC hc 101 (2 * n) (2 * n) := ⟨_, rfl⟩
  obtain ⟨g2, eg2⟩ : ∃ g2, g2 = nwC g1 104 (2 * n) (2 * n) := ⟨_, rfl⟩
  obtain ⟨g3, eg3⟩ : ∃ g3, g3 = nwC g2 102 (2 * n) (2 * n) := ⟨_, rfl⟩
  have N1 : hN g1 = N + 1 := by rw [eg1, hN_nw, hN']
  have N2 : hN g2 = N + 2 := by rw [eg2, hN_nw, N1]
  have N3 : hN g3 = N + 3 := by rw [eg3, hN_nw, N2]
  have Z1 : hZ g1 = Z + 2 * n := by rw [eg1, hZ_nw, hZ']
  have Z2 : hZ g2 = Z + 4 * n := by rw [eg2, hZ_nw, Z1]; lia
  have Z3 : hZ g3 = Z + 6 * n := by rw [eg3, hZ_nw, Z2]; lia
  have I3 : ∀ x y, x < N → hI g3 x y = hI hc x y := fun x y hx => by rw [eg3, hI_nw, if_neg (by lia), eg2, hI_nw, if_neg (by lia), eg1, hI_nw, if_neg (by lia)]
  have I2 : ∀ x y, x < N → hI g2 x y = hI hc x y := fun x y hx => by rw [eg2, hI_nw, if_neg (by lia), eg1, hI_nw, if_neg (by lia)]
  have I1 : ∀ x y, x < N → hI g1 x y = hI hc x y := fun x y hx => by rw [eg1, hI_nw, if_neg (by lia)]
  have J3 : ∀ x y, x < N → hJ g3 x y = hJ hc x y := fun x y hx => by rw [eg3, hJ_nw, if_neg (by lia), eg2, hJ_nw, if_neg (by lia), eg1, hJ_nw, if_neg (by lia)]
  have R3 : ∀ x y, x < N → hR g3 x y = hR hc x y := fun x y hx => by rw [eg3, hR_nw, if_neg (by lia), eg2, hR_nw, if_neg (by lia), eg1, hR_nw, if_neg (by lia)]
  have L3 : ∀ x, x < N → ln g3 x = ln hc x := fun x hx => by rw [eg3, ln_nw', if_neg (by lia), eg2, ln_nw', if_neg (by lia), eg1, ln_nw', if_neg (by lia)]
  have La : ln g3 N = 2 * n := by rw [eg3, ln_nw', if_neg (by lia), eg2, ln_nw', if_neg (by lia), eg1, ln_nw', if_pos hN'.symm]
  have Lb : ln g3 (N + 1) = 2 * n := by rw [eg3, ln_nw', if_neg (by lia), eg2, ln_nw', if_pos N1.symm]
  have Lc : ln g3 (N + 2) = 2 * n := by rw [eg3, ln_nw', if_pos N2.symm]
  obtain ⟨g4, eg4⟩ : ∃ g4, g4 = cpI (cpI (cpI g3 (hR hc p 0) 0 N 0 n) (hR hc p 1) 0 (N + 1) 0 n) (hR hc p 2) 0 (N + 2) 0 n := ⟨_, rfl⟩
  obtain ⟨g5, eg5⟩ : ∃ g5, g5 = sR (sR (sR g4 p 0 N) p 1 (N + 1)) p 2 (N + 2) := ⟨_, rfl⟩
  have ck : ∀ h' : Nat, (0 : Int) ≤ ((2 * n : Nat) : Int) := fun _ => by lia
  have cp1 : cpk 0 0 (n : Int) n (2 * n) := ⟨by decide, by decide, by lia, by lia, by lia⟩
  have ef : f_cSpace_grow p hc = some g5 := by
    have q1 : (0 : Int) ≤ ((2 * n : Nat) : Int) ∧ N + 1 ≤ CN ∧ Z + 2 * n ≤ CZ := ⟨by lia, by lia, by lia⟩
    have q2 : (0 : Int) ≤ ((2 * n : Nat) : Int) ∧ N + 1 + 1 ≤ CN ∧ Z + 2 * n + 2 * n ≤ CZ := ⟨by lia, by lia, by lia⟩
    have q3 : (0 : Int) ≤ ((2 * n : Nat) : Int) ∧ N + 2 + 1 ≤ CN ∧ Z + 4 * n + 2 * n ≤ CZ := ⟨by lia, by lia, by lia⟩
    have r0 : ∀ y, hR g3 p y = hR hc p y := fun y => R3 p y lp
    have l0 : ln g3 (hR hc p 0) = n := by rw [L3 _ lT]; exact full.symm
    have l1 : ln g3 (hR hc p 1) = n := by rw [L3 _ lS]; lia
    have l2 : ln g3 (hR hc p 2) = n := by rw [L3 _ lM]; lia
    have i0 : hI hc p 3 = (n : Int) := K1.1
    have i1 : hI g1 p 3 = (n : Int) := by rw [I1 p 3 lp]; exact i0
    have i2 : hI g2 p 3 = (n : Int) := by rw [I2 p 3 lp]; exact i0
    have i3 : hI g3 p 3 = (n : Int) := by rw [I3 p 3 lp]; exact i0
    have i4 : hI (cpI g3 (hR hc p 0) 0 N 0 n) p 3 = (n : Int) := by rw [hI_cI, if_neg (by lia)]; exact i3
    have i5 : hI (cpI (cpI g3 (hR hc p 0) 0 N 0 n) (hR hc p 1) 0 (N + 1) 0 n) p 3 = (n : Int) := by rw [hI_cI, if_neg (by lia)]; exact i4
    have t0 : Int.toNat 0 = 0 := rfl
    unfold f_cSpace_grow
    rw [i0, w2n, Int.toNat_natCast, hN', hZ', if_pos q1, lt1_eq, ← eg1, lt1_eq, i1, w2n, Int.toNat_natCast, N1, Z1, if_pos q2, lt1_eq, ← eg2, lt1_eq, i2, w2n, Int.toNat_natCast, N2, Z2, if_pos q3, lt1_eq, ← eg3, lt1_eq, r0, if_neg zT, i3, l0, La, if_pos cp1, lt1_eq, t0, Int.toNat_natCast, hR_cI, r0, if_neg zS, i4, ln_cI, ln_cI, l1, Lb, if_pos cp1, lt1_eq, Int.toNat_natCast, hR_cI, hR_cI, r0, if_neg zM, i5, ln_cI, ln_cI, ln_cI, ln_cI, l2, Lc, if_pos cp1, lt1_eq, Int.toNat_natCast, ← eg4, lt1_eq, lt1_eq, lt1_eq, ← eg5]
  rw [ef, wp_some]
  clear ef
  -- reads of the heap behind
  have I5 : ∀ x y, x < N → hI g5 x y = hI hc x y := fun x y hx => by rw [eg5, hI_sR, hI_sR, hI_sR, eg4, hI_cI, if_neg (by lia), hI_cI, if_neg (by lia), hI_cI, if_neg (by lia)]; exact I3 x y hx
  have J5 : ∀ x y, x < N → hJ g5 x y = hJ hc x y := fun x y hx => by rw [eg5, hJ_sR, hJ_sR, hJ_sR, eg4, hJ_cI, hJ_cI, hJ_cI]; exact J3 x y hx
  have R5 : ∀ x y, x < N → ¬ (x = p ∧ y ≤ 2) → hR g5 x y = hR hc x y := fun x y hx h => by rw [eg5, hR_sR, if_neg (by lia), hR_sR, if_neg (by lia), hR_sR, if_neg (by lia), eg4, hR_cI, hR_cI, hR_cI]; exact R3 x y hx
  have Rp0 : hR g5 p 0 = N := by rw [eg5, hR_sR, if_neg (by lia), hR_sR, if_neg (by lia), hR_sR, if_pos ⟨rfl, rfl⟩]
  have Rp1 : hR g5 p 1 = N + 1 := by rw [eg5, hR_sR, if_neg (by lia), hR_sR, if_pos ⟨rfl, rfl⟩]
  have Rp2 : hR g5 p 2 = N + 2 := by rw [eg5, hR_sR, if_pos ⟨rfl, rfl⟩]
  have L5 : ∀ x, ln g5 x = ln g3 x := fun x => by rw [eg5, ln_sR, ln_sR, ln_sR, eg4, ln_cI, ln_cI, ln_cI]
  have V0 : ∀ i, i < n → hI g5 N i = hI hc (hR hc p 0) i := fun i hi => by
    rw [eg5, hI_sR, hI_sR, hI_sR, eg4, hI_cI, if_neg (by lia), hI_cI, if_neg (by lia), hI_cI, if_pos ⟨rfl, by lia, by lia⟩, Nat.zero_add, Nat.sub_zero]; exact I3 _ _ lT
  have V1 : ∀ i, i < n → hI g5 (N + 1) i = hI hc (hR hc p 1) i := fun i hi => by
    rw [eg5, hI_sR, hI_sR, hI_sR, eg4, hI_cI, if_neg (by lia), hI_cI, if_pos ⟨rfl, by lia, by lia⟩, Nat.zero_add, Nat.sub_zero, hI_cI, if_neg (by lia)]; exact I3 _ _ lS
  have V2 : ∀ i, i < n → hI g5 (N + 2) i = hI hc (hR hc p 2) i := fun i hi => by
    rw [eg5, hI_sR, hI_sR, hI_sR, eg4, hI_cI, if_pos ⟨rfl, by lia, by lia⟩, Nat.zero_add, Nat.sub_zero, hI_cI, if_neg (by lia), hI_cI, if_neg (by lia)]; exact I3 _ _ lM
  have N5 : hN g5 = N + 3 := by rw [eg5, hN_sR, hN_sR, hN_sR, eg4, hN_cI, hN_cI, hN_cI, N3]
  have Z5 : hZ g5 = Z + 6 * n := by rw [eg5, hZ_sR, hZ_sR, hZ_sR, eg4, hZ_cI, hZ_cI, hZ_cI, Z3]
  clear eg1 eg2 eg3 eg4 eg5 I3 I2 I1 J3 R3
  have G : GF (fun x => x = p) hc g5 := ⟨by rw [N5, hN']; lia, fun x hx h => ⟨fun y => ⟨I5 x y (by lia), J5 x y (by lia), R5 x y (by lia) (fun z => h z.1)⟩, by rw [L5, L3 x (by lia)]⟩⟩
  have ww : ∃ w' : Nat → Nat, (∀ x, w x ≠ 0 → w x ≠ 10 * s + 12 → w x ≠ 10 * s + 13 → w x ≠ 10 * s + 14 → w' x = w x) ∧ w' N = 10 * s + 12 ∧ w' (N + 1) = 10 * s + 13 ∧ w' (N + 2) = 10 * s + 14 ∧ w' 0 = 0 ∧ (∀ x, w' x ≠ 0 → x < N + 3) ∧ ∀ x, x < N → w' x = w x ∨ (w x / 10 = s + 1 ∧ w' x = 0) := by
    refine ⟨fun x => if x = N then 10 * s + 12 else if x = N + 1 then 10 * s + 13 else if x = N + 2 then 10 * s + 14 else if w x = 10 * s + 12 ∨ w x = 10 * s + 13 ∨ w x = 10 * s + 14 then 0 else w x, fun x h1 h2 h3 h4 => ?_, ?_, ?_, ?_, ?_, fun x h => ?_, fun x hx => ?_⟩
    · have := lt x h1
      simp only [if_neg (show ¬ x = N by lia), if_neg (show ¬ x = N + 1 by lia), if_neg (show ¬ x = N + 2 by lia), if_neg (show ¬ (w x = 10 * s + 12 ∨ w x = 10 * s + 13 ∨ w x = 10 * s + 14) by lia)]
    · simp only [if_true]
    · simp only [if_neg (show ¬ N + 1 = N by lia), if_true]
    · simp only [if_neg (show ¬ N + 2 = N by lia), if_neg (show ¬ N + 2 = N + 1 by lia), if_true]
    · simp only [if_neg (show ¬ 0 = N by lia), if_neg (show ¬ 0 = N + 1 by lia), if_neg (show ¬ 0 = N + 2 by lia), if_neg (show ¬ (w 0 = 10 * s + 12 ∨ w 0 = 10 * s + 13 ∨ w 0 = 10 * s + 14) by lia)]; exact w0
    · by_cases c : w x = 0
      · by_cases d : x < N + 3
        · exact d
        · simp only [if_neg (show ¬ x = N by lia), if_neg (show ¬ x = N + 1 by lia), if_neg (show ¬ x = N + 2 by lia), if_neg (show ¬ (w x = 10 * s + 12 ∨ w x = 10 * s + 13 ∨ w x = 10 * s + 14) by lia)] at h
          exact absurd c h
      · have := lt x c; lia
    · simp only [if_neg (show ¬ x = N by lia), if_neg (show ¬ x = N + 1 by lia), if_neg (show ¬ x = N + 2 by lia)]
      by_cases c : w x = 10 * s + 12 ∨ w x = 10 * s + 13 ∨ w x = 10 * s + 14
      · rw [if_pos c]; exact Or.inr ⟨by lia, rfl⟩
      · rw [if_neg c]; exact Or.inl rfl
  obtain ⟨w', wk, wN, wN1, wN2, w'0, w'b, w'e⟩ := ww
  have MF : ∀ s', MFs hm hm m s' := fun s' => ⟨fun _ _ _ _ => rfl, fun _ _ _ _ _ => rfl, fun _ _ _ _ => rfl, fun _ _ => rfl, fun z => z⟩
  have eqo : ∀ s', s' < 3 → s' ≠ s → bps g5 (a + 6 + 11 * s') = bps hc (a + 6 + 11 * s') := fun s' h1 h2 => by
    obtain ⟨v1, v2, v3, v4, v5, v6, v7, v8, _⟩ := B.ws h1
    unfold bps
    rw [R5 _ 0 (lt (a + 6 + 11 * s') (by lia)) (by lia), R5 _ 0 (lt (a + 6 + 11 * s' + 4) (by lia)) (by lia), R5 _ 0 (lt (a + 6 + 11 * s' + 6) (by lia)) (by lia), L5, L5, L5, L3 _ (lt _ (by lia)), L3 _ (lt _ (by lia)), L3 _ (lt _ (by lia))]
  have eqb : bps g5 p + 3 * n = bps hc p := by
    unfold bps
    rw [Rp0, R5 _ 0 (lt (p + 4) (by lia)) (by lia), R5 _ 0 (lt (p + 6) (by lia)) (by lia), L5, L5, L5, La, L3 _ (lt (hR hc (p + 4) 0) (by lia)), L3 _ (lt (hR hc (p + 6) 0) (by lia)), ← full]
    lia
  have rooms : hN g5 + bpot g5 a ≤ X ∧ hZ g5 + 2 * bpot g5 a ≤ Y := by
    rw [ep] at eqb
    unfold bpot at *
    rw [N5, Z5]
    rcases (show s = 0 ∨ s = 1 ∨ s = 2 by lia) with rfl | rfl | rfl
    · rw [eqo 1 (by decide) (by decide), eqo 2 (by decide) (by decide)]; exact ⟨by lia, by lia⟩
    · rw [eqo 0 (by decide) (by decide), eqo 2 (by decide) (by decide)]; exact ⟨by lia, by lia⟩
    · rw [eqo 0 (by decide) (by decide), eqo 1 (by decide) (by decide)]; exact ⟨by lia, by lia⟩
  refine ⟨w', ⟨⟨?_, B.1.2⟩, fun x hx => by rw [N5]; exact w'b x hx, ?_, fun s' hs' => ?_⟩, fun x y hx => I5 x y (by rw [← hN']; exact hx), fun x hx => w'e x (by lia), by rw [N5]; lia, ?_, ?_, ?_, by rw [Rp0, L5, La]; lia⟩
  · exact L.frx (fun x y hx hy => R5 _ _ (lt _ (B.wx (x := x) (by lia))) (fun z => by
      rcases (show s = 0 ∨ s = 1 ∨ s = 2 by lia) with rfl | rfl | rfl <;> lia)) (fun x hx => by rw [L5, L3 _ (lt _ (B.wx (x := x) (by lia)))])
  · obtain ⟨v1, v2, v3, v4, v5, v6⟩ := wa
    rw [wk a (by lia) (by lia) (by lia) (by lia), wk (a + 1) (by lia) (by lia) (by lia) (by lia), wk (a + 2) (by lia) (by lia) (by lia) (by lia), wk (a + 3) (by lia) (by lia) (by lia) (by lia), wk (a + 4) (by lia) (by lia) (by lia) (by lia), wk (a + 5) (by lia) (by lia) (by lia) (by lia)]
    exact ⟨v1, v2, v3, v4, v5, v6⟩
  · by_cases cs : s' = s
    · subst cs
      rw [← ep]
      have q4 : hR g5 (p + 4) 0 = hR hc (p + 4) 0 := R5 _ _ (lt _ (by lia)) (by lia)
      have q6 : hR g5 (p + 6) 0 = hR hc (p + 6) 0 := R5 _ _ (lt _ (by lia)) (by lia)
      refine ⟨n, tm, sz, mk, fo, ?_, ?_, K2, ?_, ?_, TT⟩
      · unfold SpW
        rw [Rp0, Rp1, Rp2, q4, q6, wk p (by lia) (by lia) (by lia) (by lia), wk (p + 4) (by lia) (by lia) (by lia) (by lia), wk (hR hc (p + 4) 0) (by lia) (by lia) (by lia) (by lia), wk (p + 6) (by lia) (by lia) (by lia) (by lia), wk (hR hc (p + 6) 0) (by lia) (by lia) (by lia) (by lia), wk (p + 8) (by lia) (by lia) (by lia) (by lia), wk (p + 9) (by lia) (by lia) (by lia) (by lia), wk (p + 10) (by lia) (by lia) (by lia) (by lia)]
        exact ⟨w1, wN, wN1, wN2, w5, w6, w7, w8, w9, w10, w11, w'0⟩
      · obtain ⟨k1, k2, k3, k4, k5', k6, k7⟩ := K1
        refine ⟨by rw [I5 p 3 lp]; exact k1, by rw [I5 p 9 lp]; exact k2, k3, k4, ?_, fun i hi => ?_, k7⟩
        · rw [Rp0, Rp1, Rp2, L5, L5, L5, La, Lb, Lc]; exact ⟨by lia, rfl, rfl, by lia⟩
        · rw [Rp0, Rp1, Rp2, V0 i hi, V1 i hi, V2 i hi]; exact k6 i hi
      · obtain ⟨f0, e0, V0', f1, e1, V1', q1, q2, q3⟩ := Q
        exact ⟨f0, e0, V0', f1, e1, V1', q1.fr G (by lia) (fun z => by rw [z, w1] at w6; lia), q2.fr G (by lia) (fun z => by rw [z, w1] at w8; lia), q3⟩
      · unfold ScR at S ⊢
        rw [I5 p 10 lp, I5 p 6 lp, I5 p 8 lp, I5 p 4 lp, I5 p 5 lp, I5 p 7 lp]
        exact S
    · exact (B.2.2.2 s' hs').fr bw G (fun x hx z => by rw [z, w1] at hx; lia) (fun x hx => wk x (by lia) (by lia) (by lia) (by lia)) w'0 (MF s')
  · exact rooms.1
  · exact rooms.2
  · intro s' hs'
    obtain ⟨v1, v2, v3, v4, v5, v6, v7, v8, v9, v10, v11, v0⟩ := B.ws hs'
    refine ⟨fun y _ => I5 _ _ (lt _ (by lia)), fun i y h1 h2 => ?_⟩
    rcases (show i = 8 ∨ i = 9 ∨ i = 10 by lia) with rfl | rfl | rfl
    · exact ⟨I5 _ _ (lt _ (by lia)), J5 _ _ (lt _ (by lia))⟩
    · exact ⟨I5 _ _ (lt _ (by lia)), J5 _ _ (lt _ (by lia))⟩
    · exact ⟨I5 _ _ (lt _ (by lia)), J5 _ _ (lt _ (by lia))⟩
end
