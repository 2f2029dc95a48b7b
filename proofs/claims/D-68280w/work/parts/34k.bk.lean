/-! the book: scalars are set in class and model -/
section
variable {hc hc' hm hm' : Hp} {a m p s n fo : Nat} {tm sz mk : Nat → Int} {w : Nat → Nat} {v T T' : Int}
theorem flM_on (O : OnI hm hm') (e : ∀ x y, x ≠ m → hI hm' x y = hI hm x y) (m0 : 64 ≤ m) : flM hm' m s = flM hm m s ∧ dnM hm' m s = dnM hm m s := by
  have e1 : mkM hm' m s = mkM hm m s := funext fun k => by
    unfold mkM
    rw [e _ _ (by lia), e _ _ (by lia), e _ _ (by lia)]
  have e2 : szM hm' m s = szM hm m s := funext fun k => by
    unfold szM
    rw [e _ _ (by lia)]
  unfold flM dnM flS
  rw [e1, e2, e _ _ (by lia), e _ _ (by lia)]
  exact ⟨rfl, rfl⟩
theorem TmR.mono (K : TmR n tm sz T) (h : T ≤ T') : TmR n tm sz T' := ⟨fun k hk => by have := K.1 k hk; exact ⟨this.1, by lia, this.2.2⟩, K.2⟩
theorem BkR.sc (B : BkR hc a w hm m) (O : OnI hc hc') (e : ∀ x y, x ≠ a → x ≠ a + 2 → x ≠ a + 3 → hI hc' x y = hI hc x y) (OM : OnI hm hm') (eM : ∀ x y, x ≠ m → hI hm' x y = hI hm x y) (t : hI hm m 0 ≤ hI hm' m 0) (S : BkS hc' a hm' m) (BB : BkB hm' m) : BkR hc' a w hm' m := by
  obtain ⟨⟨L, LM⟩, bw, wa, sp, _, _⟩ := B
  have m0 := LM.1
  refine ⟨⟨L.of O.r O.l, LM.of OM.r OM.l⟩, fun x hx => by rw [O.n]; exact bw x hx, wa, fun s hs => ?_, S, BB⟩
  have MF : MFs hm hm' m s := ⟨fun i k hi _ => eM _ _ (by lia), fun i k h1 h2 _ => eM _ _ (by lia), fun i k hi _ => eM _ _ (by lia), fun k _ => eM _ _ (by lia), fun z => z.of OM.r OM.l⟩
  have g := (sp s hs).fr (hc' := hc') (w' := w) bw (O.gf (C := fun x => x = a ∨ x = a + 2 ∨ x = a + 3) (fun x y hx => e x y (fun z => hx (Or.inl z)) (fun z => hx (Or.inr (Or.inl z))) (fun z => hx (Or.inr (Or.inr z))))) (fun x hx z => by
    rcases z with rfl | rfl | rfl
    · rw [wa.1] at hx; lia
    · rw [wa.2.2.1] at hx; lia
    · rw [wa.2.2.2.1] at hx; lia) (fun _ _ => rfl) (by obtain ⟨_, _, _, _, _, W, _⟩ := sp s hs; exact W.2.2.2.2.2.2.2.2.2.2.2) MF
  obtain ⟨n, tm, sz, mk, fo, h1, h2, h3, h4, h5, h6⟩ := g
  exact ⟨n, tm, sz, mk, fo, h1, h2, h3, h4, h5, h6.mono t⟩
/-- the greatest acknowledged packet (6, 10), the time of a loss (8, 11) -/
theorem BkR.s1 {y z : Nat} (B : BkR hc a w hm m) (hs : s < 3) (hy : (y = 6 ∧ z = 10 ∧ -1 ≤ v ∧ v < hI hm (m + 1) s) ∨ (y = 8 ∧ z = 11)) : BkR (sI hc (a + 6 + 11 * s) y v) a w (sI hm (m + z) s v) m := by
  have B0 := B
  obtain ⟨⟨L, LM⟩, bw, wa, sp, S, BB⟩ := B
  have m0 := LM.1
  have a0 := L.1
  have eM : ∀ x k, ¬ (x = m + z ∧ k = s) → hI (sI hm (m + z) s v) x k = hI hm x k := fun x k h => by rw [hI_sI, if_neg h]
  have eC : ∀ x k, x ≠ a + 6 + 11 * s → hI (sI hc (a + 6 + 11 * s) y v) x k = hI hc x k := fun x k h => by rw [hI_sI, if_neg (fun q => h q.1)]
  have MF : ∀ s', s' ≠ s → MFs hm (sI hm (m + z) s v) m s' := fun s' h => ⟨fun i k hi hk => eM _ _ (by lia), fun i k h1 h2 _ => eM _ _ (by lia), fun i k hi _ => eM _ _ (by lia), fun k _ => eM _ _ (by lia), fun q => q⟩
  have fl : ∀ s', s' < 3 → flM (sI hm (m + z) s v) m s' = flM hm m s' ∧ dnM (sI hm (m + z) s v) m s' = dnM hm m s' := fun s' hs' => by
    have e1 : mkM (sI hm (m + z) s v) m s' = mkM hm m s' := funext fun k => by
      unfold mkM
      rw [eM _ _ (by lia), eM _ _ (by lia), eM _ _ (by lia)]
    have e2 : szM (sI hm (m + z) s v) m s' = szM hm m s' := funext fun k => by
      unfold szM
      rw [eM _ _ (by lia)]
    unfold flM dnM flS
    rw [e1, e2, eM _ _ (by lia), eM _ _ (by lia)]
    exact ⟨rfl, rfl⟩
  have mm : ∀ k, hI (sI hm (m + z) s v) m k = hI hm m k := fun k => eM _ _ (by lia)
  refine ⟨⟨L, LM⟩, bw, wa, fun s' hs' => ?_, ?_, ?_⟩
  · rw [mm]
    by_cases c : s' = s
    · subst c
      obtain ⟨n, tm, sz, mk, fo, W, K1, K2, Q, S1, T1⟩ := sp s' hs'
      have hn := K2.2.1
      obtain ⟨w1, w2, w3, w4, w5, w6, w7, w8, w9, w10, w11, w0⟩ := W
      have np : ∀ x, w x ≠ 10 * s' + 11 → x ≠ a + 6 + 11 * s' := fun x hx q => hx (by rw [q]; exact w1)
      refine ⟨n, tm, sz, mk, fo, ⟨w1, w2, w3, w4, w5, w6, w7, w8, w9, w10, w11, w0⟩, ?_, ?_, ?_, ?_, T1⟩
      · obtain ⟨k1, k2, k3, k4, k5, k6, k7⟩ := K1
        refine ⟨by rw [hI_sI, if_neg (by lia)]; exact k1, by rw [hI_sI, if_neg (by lia)]; exact k2, k3, k4, k5, fun i hi => ?_, k7⟩
        rw [hR_sI, hR_sI, hR_sI, eC _ _ (np _ (by lia)), eC _ _ (np _ (by lia)), eC _ _ (np _ (by lia))]
        exact k6 i hi
      · obtain ⟨⟨_, g0⟩, k1, k2, k3, k4, k5, k6⟩ := K2
        refine ⟨⟨LM, g0⟩, by rw [eM _ _ (by lia)]; exact k1, by rw [eM _ _ (by lia)]; exact k2, k3, k4, fun i hi => ?_, k6⟩
        rw [eM _ _ (by lia), eM _ _ (by lia), eM _ _ (by lia), eM _ _ (by lia), eM _ _ (by lia), eM _ _ (by lia)]
        exact k5 i hi
      · obtain ⟨f0, e0, V0, f1, e1, V1, q1, q2, q3, q4⟩ := Q
        refine ⟨f0, e0, V0, f1, e1, V1, q1.on OnI.refl.s (fun k => eC _ _ (by lia)) (fun k => eC _ _ (np _ (by lia))), q2.on OnI.refl.s (fun k => eC _ _ (by lia)) (fun k => eC _ _ (np _ (by lia))), fun d => ?_, fun d => ?_⟩
        · rw [eM _ _ (by lia)] at d
          obtain ⟨⟨z1, z2, z3⟩, ⟨z4, z5, z6⟩, z7⟩ := q3 d
          exact ⟨⟨by rw [eM _ _ (by lia)]; exact z1, by rw [eM _ _ (by lia)]; exact z2, fun j hj => by rw [eM _ _ (by lia)]; exact z3 j hj⟩, ⟨by rw [eM _ _ (by lia)]; exact z4, by rw [eM _ _ (by lia)]; exact z5, fun j hj => by rw [eM _ _ (by lia)]; exact z6 j hj⟩, z7⟩
        · rw [eM _ _ (by lia)] at d
          rw [eM _ _ (by lia), eM _ _ (by lia), eM _ _ (by lia), eM _ _ (by lia)]
          exact q4 d
      · obtain ⟨⟨s1, s1'⟩, ⟨s2, s3, s4⟩, s5, s6, s7, s8⟩ := S1
        have pc : ∀ k, k ≠ y → hI (sI hc (a + 6 + 11 * s') y v) (a + 6 + 11 * s') k = hI hc (a + 6 + 11 * s') k := fun k h => by rw [hI_sI, if_neg (fun q => h q.2)]
        have py : hI (sI hc (a + 6 + 11 * s') y v) (a + 6 + 11 * s') y = v := by rw [hI_sI, if_pos ⟨rfl, rfl⟩]
        have mz : hI (sI hm (m + z) s' v) (m + z) s' = v := by rw [hI_sI, if_pos ⟨rfl, rfl⟩]
        have e9 : hI (sI hm (m + z) s' v) (m + 9) s' = hI hm (m + 9) s' := eM _ _ (by lia)
        unfold ScR
        rw [e9, pc 10 (by lia), pc 4 (by lia), pc 5 (by lia), pc 7 (by lia)]
        refine ⟨⟨s1, s1'⟩, ?_, ?_, s6, s7, s8⟩
        · rcases hy with ⟨rfl, rfl, h1, h2⟩ | ⟨rfl, rfl⟩
          · rw [py, mz]; exact ⟨rfl, h1, by lia⟩
          · rw [pc 6 (by decide), eM _ _ (by lia)]; exact ⟨s2, s3, s4⟩
        · rcases hy with ⟨rfl, rfl, h1, h2⟩ | ⟨rfl, rfl⟩
          · rw [pc 8 (by decide), eM _ _ (by lia)]; exact s5
          · rw [py, mz]
    · exact (sp s' hs').fr bw (OnI.refl.s.gf (C := fun x => x = a + 6 + 11 * s) (fun x k hx => eC x k hx)) (fun x hx q => by rw [q, (B0.ws hs).1] at hx; lia) (fun _ _ => rfl) (B0.ws hs).2.2.2.2.2.2.2.2.2.2.2 (MF s' c)
  · obtain ⟨⟨b1, b2, b3, b4, b5⟩, ⟨b6, b7, b8, b9, b10⟩, b11, b12, b13, b14⟩ := S
    unfold BkS
    rw [(fl 0 (by decide)).1, (fl 1 (by decide)).1, (fl 2 (by decide)).1]
    have ca : ∀ k, hI (sI hc (a + 6 + 11 * s) y v) a k = hI hc a k := fun k => eC _ _ (by lia)
    have ca2 : ∀ k, hI (sI hc (a + 6 + 11 * s) y v) (a + 2) k = hI hc (a + 2) k := fun k => eC _ _ (by lia)
    have ca3 : ∀ k, hI (sI hc (a + 6 + 11 * s) y v) (a + 3) k = hI hc (a + 3) k := fun k => eC _ _ (by lia)
    simp only [ca, ca2, ca3, mm]
    exact ⟨⟨b1, b2, b3, b4, b5⟩, ⟨b6, b7, b8, b9, b10⟩, b11, b12, b13, b14⟩
  · unfold BkB
    rw [(fl 0 (by decide)).2, (fl 1 (by decide)).2, (fl 2 (by decide)).2]
    simp only [mm]
    exact BB
end
