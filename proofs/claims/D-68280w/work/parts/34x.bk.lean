/-! the book: frames for what came -/
section
variable {hc hc' hm hm' : Hp} {a m p s : Nat} {w : Nat → Nat} {T : Int}
theorem SpR.gen (K : SpR hc p w hm m s T) (r : hR hc' = hR hc) (l : ln hc' = ln hc) (nn : hN hc' = hN hc) (e14 : ∀ y, y < 14 → hI hc' p y = hI hc p y) (eX : ∀ x, w x / 10 = s + 1 → w x ≠ 10 * s + 11 → w x ≠ 10 * s + 19 → ∀ y, hI hc' x y = hI hc x y) (M : MFs hm hm' m s) : SpR hc' p w hm' m s T := by
  obtain ⟨n, tm, sz, mk, fo, W, K1, K2, Q, S, T'⟩ := K
  have W' := W
  obtain ⟨w1, w2, w3, w4, w5, w6, w7, w8, w9, w10, w11, w0⟩ := W
  refine ⟨n, tm, sz, mk, fo, ?_, ?_, K2.fr M, ?_, ?_, T'⟩
  · unfold SpW; rw [r]; exact W'
  · obtain ⟨k1, k2, k3, k4, k5, k6, k7⟩ := K1
    refine ⟨by rw [e14 3 (by decide)]; exact k1, by rw [e14 9 (by decide)]; exact k2, k3, k4, by rw [r, l]; exact k5, fun i hi => ?_, k7⟩
    rw [r, eX _ (by lia) (by lia) (by lia), eX _ (by lia) (by lia) (by lia), eX _ (by lia) (by lia) (by lia)]
    exact k6 i hi
  · obtain ⟨f0, e0, V0, f1, e1, V1, q1, q2, q3, q4⟩ := Q
    have d := M.1 9 s (by lia) rfl
    have qf : ∀ {q f e V}, (w q / 10 = s + 1 ∧ w q ≠ 10 * s + 11 ∧ w q ≠ 10 * s + 19) → (w (hR hc q 0) / 10 = s + 1 ∧ w (hR hc q 0) ≠ 10 * s + 11 ∧ w (hR hc q 0) ≠ 10 * s + 19) → QuC hc q f e V → QuC hc' q f e V := fun {q f e V} c1 c2 Q => by
      obtain ⟨a1, a2, a3, a4, z, a5, a6, a7, a8⟩ := Q
      refine ⟨by rw [eX _ c1.1 c1.2.1 c1.2.2]; exact a1, by rw [eX _ c1.1 c1.2.1 c1.2.2]; exact a2, a3, a4, by rw [r, nn]; exact z, by rw [r, l]; exact a5, by rw [r, l]; exact a6, by rw [r, l]; exact a7, fun j hj => by rw [r, eX _ c2.1 c2.2.1 c2.2.2]; exact a8 j hj⟩
    refine ⟨f0, e0, V0, f1, e1, V1, qf (by lia) (by lia) q1, qf (by lia) (by lia) q2, fun z => ?_, fun z => ?_⟩
    · rw [d] at z
      obtain ⟨z1, z2, z3, z4, z5⟩ := q3 z
      exact ⟨z1.fr M (by lia) q1.2.2.2.1, z2.fr M (by lia) q2.2.2.2.1, z3, z4, z5⟩
    · rw [d] at z
      have e := fun i h1 k h2 => M.2.2.1 i k h1 h2
      rw [e 14 (by lia) (2 * s) (by lia), e 13 (by lia) (2 * s) (by lia), e 14 (by lia) (2 * s + 1) (by lia), e 13 (by lia) (2 * s + 1) (by lia)]
      exact q4 z
  · obtain ⟨⟨s1, s1'⟩, ⟨s2, s3, s4⟩, s5, s6, s7, s8⟩ := S
    have e := fun i h1 => M.1 i s h1 rfl
    unfold ScR
    rw [e14 10 (by decide), e14 6 (by decide), e14 8 (by decide), e14 4 (by decide), e14 5 (by decide), e14 7 (by decide), e 9 (by lia), e 10 (by lia), e 11 (by lia)]
    exact ⟨⟨s1, s1'⟩, ⟨s2, s3, s4⟩, s5, s6, s7, s8⟩
/-- what came may change in class and model -/
theorem BkR.gen (B : BkR hc a w hm m) (r : hR hc' = hR hc) (l : ln hc' = ln hc) (nn : hN hc' = hN hc) (eX : ∀ x y, ¬ ((x = a + 6 ∨ x = a + 17 ∨ x = a + 28) ∧ 14 ≤ y) → x ≠ a + 14 → x ≠ a + 15 → x ≠ a + 16 → x ≠ a + 25 → x ≠ a + 26 → x ≠ a + 27 → x ≠ a + 36 → x ≠ a + 37 → x ≠ a + 38 → hI hc' x y = hI hc x y) (rm : hR hm' = hR hm) (lm : ln hm' = ln hm) (eM : ∀ x y, x ≠ m + 17 → ¬ (m + 21 ≤ x ∧ x ≤ m + 24) → hI hm' x y = hI hm x y) : BkR hc' a w hm' m := by
  have B0 := B
  obtain ⟨⟨L, LM⟩, bw, wa, sp, S, BB⟩ := B
  have m0 := LM.1
  have a0 := L.1
  have LM' : MBk hm' m := LM.of rm lm
  have MF : ∀ s, s < 3 → MFs hm hm' m s := fun s hs => ⟨fun i k hi _ => eM _ _ (by lia) (by lia), fun i k h1 h2 _ => eM _ _ (by lia) (by lia), fun i k hi _ => eM _ _ (by lia) (by lia), fun k _ => eM _ _ (by lia) (by lia), fun _ => LM'⟩
  have fl : ∀ s, s < 3 → flM hm' m s = flM hm m s ∧ dnM hm' m s = dnM hm m s := fun s hs => flM_fr (sp s hs) (MF s hs)
  have mm : ∀ k, hI hm' m k = hI hm m k := fun k => eM _ _ (by lia) (by lia)
  refine ⟨⟨L.of r l, LM'⟩, fun x hx => by rw [nn]; exact bw x hx, wa, fun s hs => ?_, ?_, ?_⟩
  · rw [mm]
    have W0 := B0.ws (s := 0) (by decide)
    have W1 := B0.ws (s := 1) (by decide)
    have W2 := B0.ws (s := 2) (by decide)
    refine (sp s hs).gen r l nn (fun y hy => eX _ _ (by lia) (by lia) (by lia) (by lia) (by lia) (by lia) (by lia) (by lia) (by lia) (by lia)) (fun x h1 h2 h3 y => ?_) (MF s hs)
    have n0 : ∀ s' z, s' < 3 → w z = 10 * s' + 11 ∨ w z = 10 * s' + 19 → x ≠ z := fun s' z h h' e => by rw [← e] at h'; lia
    refine eX x y (fun z => ?_) ?_ ?_ ?_ ?_ ?_ ?_ ?_ ?_ ?_
    · rcases z.1 with e | e | e
      · exact n0 0 _ (by decide) (Or.inl W0.1) e
      · exact n0 1 _ (by decide) (Or.inl W1.1) e
      · exact n0 2 _ (by decide) (Or.inl W2.1) e
    · exact n0 0 _ (by decide) (Or.inr W0.2.2.2.2.2.2.2.2.1)
    · exact n0 0 _ (by decide) (Or.inr W0.2.2.2.2.2.2.2.2.2.1)
    · exact n0 0 _ (by decide) (Or.inr W0.2.2.2.2.2.2.2.2.2.2.1)
    · exact n0 1 _ (by decide) (Or.inr W1.2.2.2.2.2.2.2.2.1)
    · exact n0 1 _ (by decide) (Or.inr W1.2.2.2.2.2.2.2.2.2.1)
    · exact n0 1 _ (by decide) (Or.inr W1.2.2.2.2.2.2.2.2.2.2.1)
    · exact n0 2 _ (by decide) (Or.inr W2.2.2.2.2.2.2.2.2.1)
    · exact n0 2 _ (by decide) (Or.inr W2.2.2.2.2.2.2.2.2.2.1)
    · exact n0 2 _ (by decide) (Or.inr W2.2.2.2.2.2.2.2.2.2.2.1)
  · unfold BkS at S ⊢
    have ca : ∀ x k, (x = a ∨ x = a + 2 ∨ x = a + 3) → hI hc' x k = hI hc x k := fun x k hx => eX _ _ (by lia) (by lia) (by lia) (by lia) (by lia) (by lia) (by lia) (by lia) (by lia) (by lia)
    simp only [ca a _ (by lia), ca (a + 2) _ (by lia), ca (a + 3) _ (by lia), mm, (fl 0 (by decide)).1, (fl 1 (by decide)).1, (fl 2 (by decide)).1]
    exact S
  · unfold BkB at BB ⊢
    simp only [mm, (fl 0 (by decide)).2, (fl 1 (by decide)).2, (fl 2 (by decide)).2]
    exact BB
end
/-! what came -/
def CmR (hc : Hp) (p : Nat) (hm : Hp) (m s : Nat) (T : Int) : Prop := ∃ n lo hi fl, RGc hc (p + 8) n lo hi fl ∧ RGm hm m s n lo hi fl ∧ RGd n lo hi ∧ (∀ i, i < n → 0 ≤ lo i ∧ hi i < 4611686018427387904) ∧ (hI hc p 14 = hI hm (m + 22) s ∧ hI hc p 15 = hI hm (m + 23) s ∧ hI hc p 16 = hI hm (m + 21) s ∧ hI hc p 17 = hI hm (m + 24) s) ∧ (hI hm (m + 24) s = 0 ∨ hI hm (m + 24) s = 1) ∧ (0 ≤ hI hm (m + 23) s ∧ hI hm (m + 23) s ≤ T) ∧ (0 ≤ hI hm (m + 21) s ∧ hI hm (m + 21) s ≤ T)
/-- what came, of the model, is as it was -/
def MCm (hm hm' : Hp) (m : Nat) : Prop := (∀ i k, (i = 17 ∨ (21 ≤ i ∧ i ≤ 24)) → hI hm' (m + i) k = hI hm (m + i) k) ∧ (∀ i k, 18 ≤ i → i ≤ 20 → hJ hm' (m + i) k = hJ hm (m + i) k)
section
variable {hc hc' hm hm' : Hp} {a m p s n k : Nat} {w : Nat → Nat} {T T' x el : Int} {lo hi : Nat → Int}
theorem LBk.ran (L : LBk hc a) (hs : s < 3) : LRan hc (a + 6 + 11 * s + 8) := by
  have a0 := L.1
  have key : ∀ q, hR hc q 0 = q + 1 → hR hc q 1 = q + 2 → ln hc (q + 1) = 65 → ln hc (q + 2) = 65 → 64 ≤ q → LRan hc q := fun q r0 r1 l1 l2 hq => by
    refine ⟨hq, fun e he => ?_, fun e he => ?_⟩
    · have : e = (0, 0, 1) ∨ e = (0, 1, 2) := by simpa [LRanR] using he
      rcases this with rfl | rfl
      · exact r0
      · exact r1
    · have : e = (1, 65) ∨ e = (2, 65) := by simpa [LRanU] using he
      rcases this with rfl | rfl
      · exact l1
      · exact l2
  rcases (show s = 0 ∨ s = 1 ∨ s = 2 by lia) with rfl | rfl | rfl
  · exact key _ L.r14_0 L.r14_1 L.l15 L.l16 (by lia)
  · exact key _ L.r25_0 L.r25_1 L.l26 L.l27 (by lia)
  · exact key _ L.r36_0 L.r36_1 L.l37 L.l38 (by lia)
theorem CmR.fr (C : CmR hc (a + 6 + 11 * s) hm m s T) (hs : s < 3) (L : LBk hc' a) (LM : MBk hm' m) (F : CmF a hc hc') (M : MCm hm hm' m) (t : T ≤ T') : CmR hc' (a + 6 + 11 * s) hm' m s T' := by
  obtain ⟨n, lo, hi, fl, ⟨g1, g2, g3, g4, g5⟩, ⟨k1, k2, k3, k4, k5, k6⟩, D, bd, ⟨e1, e2, e3, e4⟩, e5, e6, e7⟩ := C
  obtain ⟨F1, F2⟩ := F s hs
  obtain ⟨M1, M2⟩ := M
  refine ⟨n, lo, hi, fl, ⟨L.ran hs, by rw [(F2 8 2 (by decide) (by decide)).1]; exact g2, g3, by rw [(F2 8 3 (by decide) (by decide)).2]; exact g4, fun i hi' => ?_⟩, ⟨LM, k2, by rw [M1 17 s (by lia)]; exact k3, k4, by rw [M2 20 s (by decide) (by decide)]; exact k5, fun i hi' => ?_⟩, D, bd, ?_, ?_, ?_, ?_⟩
  · have := g5 i hi'
    have f9 := (F2 9 i (by decide) (by decide)).2
    have f10 := (F2 10 i (by decide) (by decide)).2
    rw [show a + 6 + 11 * s + 8 + 1 = a + 6 + 11 * s + 9 by lia, show a + 6 + 11 * s + 8 + 2 = a + 6 + 11 * s + 10 by lia] at this ⊢
    rw [f9, f10]; exact this
  · rw [M2 18 _ (by decide) (by decide), M2 19 _ (by decide) (by decide)]; exact k6 i hi'
  · rw [F1 14 (by decide), F1 15 (by decide), F1 16 (by decide), F1 17 (by decide), M1 22 s (by lia), M1 23 s (by lia), M1 21 s (by lia), M1 24 s (by lia)]
    exact ⟨e1, e2, e3, e4⟩
  · rw [M1 24 s (by lia)]; exact e5
  · rw [M1 23 s (by lia)]; exact ⟨e6.1, by lia⟩
  · rw [M1 21 s (by lia)]; exact ⟨e7.1, by lia⟩
/-- adding keeps the gaps and the bounds -/
theorem ad_d (D : RGd n lo hi) (hn : n ≤ 64) (hk : k ≤ n) (K1 : ∀ i, i < k → x < lo i) (K2 : k < n → hi k < x) (hx : 0 ≤ x ∧ x < 4611686018427387904) (bd : ∀ i, i < n → 0 ≤ lo i ∧ hi i < 4611686018427387904) : RGd (adN n lo hi x k) (adL n lo hi x k) (adH n lo hi x k) ∧ ∀ i, i < adN n lo hi x k → 0 ≤ adL n lo hi x k i ∧ adH n lo hi x k i < 4611686018427387904 := by
  have lt := RGd_lt D
  have k0 : 0 < k → x < lo (k - 1) := fun h => K1 _ (by lia)
  unfold adN adL adH
  by_cases c1 : adU lo x k
  · by_cases c2 : adD n hi x k
    · simp only [if_pos c1, if_pos c2]
      obtain ⟨u1, u2⟩ := c1
      obtain ⟨v1, v2⟩ := c2
      have P : ∀ i, rmF (up1 lo (k - 1) (lo k)) k i = if i < k - 1 then lo i else if i = k - 1 then lo k else lo (i + 1) := fun i => by
        unfold rmF up1
        by_cases e : i < k
        · rw [if_pos e]
          by_cases e2 : i = k - 1
          · rw [if_pos e2, if_neg (by lia), if_pos e2]
          · rw [if_neg e2, if_pos (by lia)]
        · rw [if_neg e, if_neg (by lia), if_neg (by lia), if_neg (by lia)]
      have H : ∀ i, rmF hi k i = if i < k then hi i else hi (i + 1) := fun i => rfl
      refine ⟨⟨fun i hi' => ?_, fun i hi' => ?_⟩, fun i hi' => ?_⟩
      · rw [P, H]
        by_cases e : i < k - 1
        · rw [if_pos e, if_pos (by lia)]; exact D.1 i (by lia)
        · rw [if_neg e]
          by_cases e2 : i = k - 1
          · rw [if_pos e2, if_pos (by lia), e2]
            have := D.1 (k - 1) (by lia)
            have := lt (k - 1) k (by lia) v1
            have := D.1 k v1
            lia
          · rw [if_neg e2, if_neg (by lia)]; exact D.1 (i + 1) (by lia)
      · rw [P, H]
        by_cases e : i < k - 1
        · rw [if_pos e, if_pos (by lia)]; exact D.2 i (by lia)
        · rw [if_neg e, if_neg (by lia)]
          by_cases e2 : i = k - 1
          · rw [if_pos e2]
            have := D.2 k (by lia)
            rw [show i + 1 + 1 = k + 1 by lia]; exact this
          · rw [if_neg e2]; exact D.2 (i + 1) (by lia)
      · rw [P, H]
        by_cases e : i < k - 1
        · rw [if_pos e, if_pos (by lia)]; exact bd i (by lia)
        · rw [if_neg e]
          by_cases e2 : i = k - 1
          · rw [if_pos e2, if_pos (by lia)]; exact ⟨(bd k v1).1, (bd i (by lia)).2⟩
          · rw [if_neg e2, if_neg (by lia)]; exact bd (i + 1) (by lia)
    · simp only [if_pos c1, if_neg c2]
      obtain ⟨u1, u2⟩ := c1
      have up : ∀ i, up1 lo (k - 1) x i = if i = k - 1 then x else lo i := fun i => rfl
      refine ⟨⟨fun i hi' => ?_, fun i hi' => ?_⟩, fun i hi' => ?_⟩
      · rw [up]
        by_cases e : i = k - 1
        · rw [if_pos e, e]; have := D.1 (k - 1) (by lia); lia
        · rw [if_neg e]; exact D.1 i hi'
      · rw [up]
        by_cases e : i = k - 1
        · rw [if_pos e]
          have ek : i + 1 = k := by lia
          rw [ek] at hi' ⊢
          have h2 := K2 hi'
          have : ¬ hi k = x - 1 := fun z => c2 ⟨hi', z⟩
          lia
        · rw [if_neg e]; exact D.2 i hi'
      · rw [up]
        by_cases e : i = k - 1
        · rw [if_pos e]; exact ⟨hx.1, (bd i hi').2⟩
        · rw [if_neg e]; exact bd i hi'
  · by_cases c2 : adD n hi x k
    · simp only [if_neg c1, if_pos c2]
      obtain ⟨v1, v2⟩ := c2
      have up : ∀ i, up1 hi k x i = if i = k then x else hi i := fun i => rfl
      refine ⟨⟨fun i hi' => ?_, fun i hi' => ?_⟩, fun i hi' => ?_⟩
      · rw [up]
        by_cases e : i = k
        · rw [if_pos e, e]; have := D.1 k v1; lia
        · rw [if_neg e]; exact D.1 i hi'
      · rw [up]
        by_cases e : i + 1 = k
        · rw [if_pos e]
          have h1 := K1 i (by lia)
          have : ¬ lo i = x + 1 := fun z => c1 ⟨by lia, by rw [show k - 1 = i by lia]; exact z⟩
          lia
        · rw [if_neg e]; exact D.2 i hi'
      · rw [up]
        by_cases e : i = k
        · rw [if_pos e]; exact ⟨(bd i hi').1, hx.2⟩
        · rw [if_neg e]; exact bd i hi'
    · simp only [if_neg c1, if_neg c2]
      have I : ∀ (f : Nat → Int) i, inF f k x i = if i < k then f i else if i = k then x else f (i - 1) := fun f i => rfl
      have DD : (∀ i, i < n + 1 → inF lo k x i ≤ inF hi k x i) ∧ (∀ i, i + 1 < n + 1 → inF hi k x (i + 1) + 1 < inF lo k x i) ∧ ∀ i, i < n + 1 → 0 ≤ inF lo k x i ∧ inF hi k x i < 4611686018427387904 := by
        refine ⟨fun i hi' => ?_, fun i hi' => ?_, fun i hi' => ?_⟩
        · rw [I, I]
          by_cases e : i < k
          · rw [if_pos e, if_pos e]; exact D.1 i (by lia)
          · rw [if_neg e, if_neg e]
            by_cases e2 : i = k
            · rw [if_pos e2, if_pos e2]; exact Int.le_refl _
            · rw [if_neg e2, if_neg e2]; exact D.1 (i - 1) (by lia)
        · rw [I, I]
          by_cases e : i + 1 < k
          · rw [if_pos e, if_pos (by lia)]; exact D.2 i (by lia)
          · rw [if_neg e]
            by_cases e2 : i + 1 = k
            · rw [if_pos e2, if_pos (by lia)]
              have h1 := K1 i (by lia)
              have : ¬ lo i = x + 1 := fun z => c1 ⟨by lia, by rw [show k - 1 = i by lia]; exact z⟩
              lia
            · rw [if_neg e2, if_neg (by lia)]
              by_cases e3 : i = k
              · rw [if_pos e3, show i + 1 - 1 = k by lia]
                have h2 := K2 (by lia)
                have : ¬ hi k = x - 1 := fun z => c2 ⟨by lia, z⟩
                lia
              · rw [if_neg e3]
                have := D.2 (i - 1) (by lia)
                rw [show i - 1 + 1 = i + 1 - 1 by lia] at this
                exact this
        · rw [I, I]
          by_cases e : i < k
          · rw [if_pos e, if_pos e]; exact bd i (by lia)
          · rw [if_neg e, if_neg e]
            by_cases e2 : i = k
            · rw [if_pos e2, if_pos e2]; exact hx
            · rw [if_neg e2, if_neg e2]; exact bd (i - 1) (by lia)
      by_cases c3 : n < 64
      · simp only [if_pos c3]
        exact ⟨⟨DD.1, DD.2.1⟩, DD.2.2⟩
      · simp only [if_neg c3]
        exact ⟨⟨fun i hi' => DD.1 i (by lia), fun i hi' => DD.2.1 i (by lia)⟩, fun i hi' => DD.2.2 i (by lia)⟩
end
