/-! the book: the relation behind a packet that was sent -/
section
variable {hc hm hm' g o : Hp} {a m s n : Nat} {w : Nat → Nat} {z el co fi : Int}
theorem q_send (B : BkQ g a w hm m (hI hm m 0)) (hs : s < 3) (hn : hI hm (m + 1) s = (n : Int)) (n4 : n < 4096) (d : hI hm (m + 9) s = 0) (hz : 0 < z ∧ z < 32768) (he : el = 0 ∨ el = 1) (hco : co = 0 ∨ co = 1) (hf : fi = 0 ∨ fi = 1) (hl : n < ln g (hR g (a + 6 + 11 * s) 0)) (A : AdP g o (a + 6 + 11 * s) n (hI hm m 0) z el co fi) (M : OnI hm hm') (mF : ∀ x y, ¬ (x = m + 1 ∧ y = s) → ¬ (m + 2 ≤ x ∧ x ≤ m + 7 ∧ y = 4096 * s + n) → ¬ (x = m ∧ y = 14) → hI hm' x y = hI hm x y) (v1 : hI hm' (m + 1) s = ((n + 1 : Nat) : Int)) (v14 : hI hm' m 14 = hI hm m 0) (v2 : hI hm' (m + 2) (4096 * s + n) = z) (v3 : hI hm' (m + 3) (4096 * s + n) = hI hm m 0) (v4 : hI hm' (m + 4) (4096 * s + n) = 0) (v5 : hI hm' (m + 5) (4096 * s + n) = el) (v6 : hI hm' (m + 6) (4096 * s + n) = co) (v7 : co = 1 → hI hm' (m + 7) (4096 * s + n) = fi) (S0 : BkS hc a hm m) (BB : BkB hm m) (eg : ∀ x y, (x = a ∨ x = a + 2 ∨ x = a + 3) → ¬ (x = a ∧ y = 5) → ¬ (x = a + 3 ∧ y = 3) → hI g x y = hI hc x y) (g5 : hI g a 5 = hI hm m 0) (g3 : hI g (a + 3) 3 = flM hm m 0 + flM hm m 1 + flM hm m 2 + if co = 0 then 0 else z) : BkR o a w hm' m := by
  obtain ⟨tm, sz, mk, fo, W, K1, K2, Q, S, TT⟩ := B.opn hs hn
  have L := B.1.1
  have LM := B.1.2
  have a0 := L.1
  have m0 := LM.1
  have wa := B.2.2.1
  have bw := B.2.1
  obtain ⟨O, oF, oT, oS, oM, o3, o4, o5, o7⟩ := A
  have MO := MBk.of LM M.r M.l
  obtain ⟨v, hv⟩ : ∃ v, v = 4 * el + 8 * co + 16 * fi := ⟨_, rfl⟩
  have vv : v % 4 = 0 ∧ 0 ≤ v ∧ v < 32 := by lia
  have ve : v / 4 % 2 = el := by lia
  have vc : v / 8 % 2 = co := by lia
  have vf : v / 16 % 2 = fi := by lia
  have v8 : (v % 8 = 4) ↔ el = 1 := by lia
  rw [← hv] at oM
  have KS : PkM hm' m s (n + 1) (up1 tm n (hI hm m 0)) (up1 sz n z) (up1 mk n v) fo := K2.snd n4 MO v1 (mF _ _ (by lia) (by lia) (by lia)) (fun i k h1 h2 hk => mF _ _ (by lia) (by lia) (by lia)) vv ⟨by lia, hz.2⟩ v2 v3 v4 (by rw [v5, ve]) (by rw [v6, vc]) (fun q => by rw [v7 (by lia), vf])
  obtain ⟨t1, t2, t3, t4⟩ := ct_new (mk := mk) (sz := sz) (n := n) (v := v) (z := z)
  rw [if_pos vv.1] at t1
  rw [if_neg (show ¬ v % 4 = 1 by lia), Int.add_zero] at t4
  have tf : (if v % 4 = 0 ∧ v / 8 % 2 = 1 then z else 0) = if co = 0 then 0 else z := by
    rcases hco with c | c
    · rw [if_neg (show ¬ (v % 4 = 0 ∧ v / 8 % 2 = 1) by lia), if_pos c]
    · rw [if_pos (show v % 4 = 0 ∧ v / 8 % 2 = 1 from ⟨vv.1, by lia⟩), if_neg (show ¬ co = 0 by lia)]
  rw [tf] at t3
  have d' : hI hm' (m + 9) s = 0 := by rw [mF _ _ (by lia) (by lia) (by lia)]; exact d
  have fs : flM hm' m s = (flM hm m s + if co = 0 then 0 else z) ∧ dnM hm' m s = dnM hm m s := by
    rw [KS.fl.1, K2.fl.1, KS.fl.2, K2.fl.2]
    unfold flS
    rw [if_pos d', if_pos d, t3, t4]
    exact ⟨rfl, rfl⟩
  have MF : ∀ s', s' < 3 → s' ≠ s → MFs hm hm' m s' := fun s' h1 h2 => ⟨fun i y hi hy => mF _ _ (by lia) (by lia) (by lia), fun i y h1 h2 hy => mF _ _ (by lia) (by lia) (by lia), fun i y hi hy => mF _ _ (by lia) (by lia) (by lia), fun y hy => mF _ _ (by lia) (by lia) (by lia), fun _ => MO⟩
  have fo_ : ∀ s', s' < 3 → s' ≠ s → flM hm' m s' = flM hm m s' ∧ dnM hm' m s' = dnM hm m s' := fun s' h1 h2 => flM_fr (B.2.2.2 s' h1) (MF s' h1 h2)
  have T0 : hI hm' m 0 = hI hm m 0 := mF _ _ (by lia) (by lia) (by lia)
  have mS : ∀ y, y ≠ 14 → hI hm' m y = hI hm m y := fun y hy => mF _ _ (by lia) (by lia) (by lia)
  obtain ⟨p, ep⟩ : ∃ p, p = a + 6 + 11 * s := ⟨_, rfl⟩
  rw [← ep] at W K1 Q S hl oF oT oS oM o3 o4 o5 o7
  have W0 := W
  obtain ⟨w1, w2, w3, w4, w5, w6, w7, w8, w9, w10, w11, w0⟩ := W
  -- cells that were not written
  have eo : ∀ x y, w x ≠ 10 * s + 11 → w x ≠ 10 * s + 12 → w x ≠ 10 * s + 13 → w x ≠ 10 * s + 14 → hI o x y = hI g x y := fun x y h1 h2 h3 h4 => oF x y (fun q => h2 (by rw [q.1]; exact w2)) (fun q => h3 (by rw [q.1]; exact w3)) (fun q => h4 (by rw [q.1]; exact w4)) (fun q => h1 (by rw [q.1]; exact w1))
  have np : p ≠ hR g p 0 ∧ p ≠ hR g p 1 ∧ p ≠ hR g p 2 := ⟨wne (w := w) (by rw [w1, w2]; lia), wne (w := w) (by rw [w1, w3]; lia), wne (w := w) (by rw [w1, w4]; lia)⟩
  have nT : hR g p 0 ≠ hR g p 1 ∧ hR g p 0 ≠ hR g p 2 ∧ hR g p 1 ≠ hR g p 2 := ⟨wne (w := w) (by rw [w2, w3]; lia), wne (w := w) (by rw [w2, w4]; lia), wne (w := w) (by rw [w3, w4]; lia)⟩
  have op : ∀ y, y ≠ 3 → y ≠ 4 → y ≠ 5 → y ≠ 7 → hI o p y = hI g p y := fun y h1 h2 h3 h4 => oF p y (fun q => np.1 q.1) (fun q => np.2.1 q.1) (fun q => np.2.2 q.1) (by lia)
  have eT : ∀ k, k ≠ n → hI o (hR g p 0) k = hI g (hR g p 0) k := fun k hk => oF _ k (fun q => hk q.2) (fun q => nT.1 q.1) (fun q => nT.2.1 q.1) (fun q => np.1 q.1.symm)
  have eS : ∀ k, k ≠ n → hI o (hR g p 1) k = hI g (hR g p 1) k := fun k hk => oF _ k (fun q => nT.1 q.1.symm) (fun q => hk q.2) (fun q => nT.2.2 q.1) (fun q => np.2.1 q.1.symm)
  have eM : ∀ k, k ≠ n → hI o (hR g p 2) k = hI g (hR g p 2) k := fun k hk => oF _ k (fun q => nT.2.1 q.1.symm) (fun q => nT.2.2 q.1.symm) (fun q => hk q.2) (fun q => np.2.2 q.1.symm)
  have bO := ctO_0 mk n
  have bE := ctE_0 mk n
  have b0 := BB.1
  have SP : SpR o p w hm' m s (hI hm' m 0) := by
    rw [T0]
    refine ⟨n + 1, up1 tm n (hI hm m 0), up1 sz n z, up1 mk n v, fo, W0.on O, ?_, KS, ?_, ?_, ?_⟩
    · obtain ⟨k1, k2, k3, k4, k5, k6, k7⟩ := K1
      refine ⟨o3, by rw [op 9 (by decide) (by decide) (by decide) (by decide)]; exact k2, by lia, KS.2.2.2.2.1, by rw [O.r, O.l]; exact ⟨by lia, k5.2⟩, fun k hk => ?_, KS.2.2.2.2.2.2⟩
      rw [O.r]
      unfold up1
      by_cases c : k = n
      · rw [if_pos c, if_pos c, if_pos c, c]; exact ⟨oT, oS, oM⟩
      · rw [if_neg c, if_neg c, if_neg c, eT k c, eS k c, eM k c]; exact k6 k (by lia)
    · obtain ⟨f0, e0, V0, f1, e1, V1, q1, q2, q3, q4⟩ := Q
      obtain ⟨z1, z2, z3, z4, z5⟩ := q3 d
      have q14 : ∀ l, hI hm' (m + 14) l = hI hm (m + 14) l ∧ hI hm' (m + 13) l = hI hm (m + 13) l ∧ hI hm' (m + 12) l = hI hm (m + 12) l := fun l => ⟨mF _ _ (by lia) (by lia) (by lia), mF _ _ (by lia) (by lia) (by lia), mF _ _ (by lia) (by lia) (by lia)⟩
      have qs : ∀ l f e V, QMs hm m l f e V → QMs hm' m l f e V := fun l f e V q => ⟨by rw [(q14 l).1]; exact q.1, by rw [(q14 l).2.1]; exact q.2.1, fun j hj => by rw [(q14 _).2.2]; exact q.2.2 j hj⟩
      refine ⟨f0, e0, V0, f1, e1, V1, q1.on O (fun y => eo _ _ (by lia) (by lia) (by lia) (by lia)) (fun y => eo _ _ (by lia) (by lia) (by lia) (by lia)), q2.on O (fun y => eo _ _ (by lia) (by lia) (by lia) (by lia)) (fun y => eo _ _ (by lia) (by lia) (by lia) (by lia)), fun _ => ⟨qs _ _ _ _ z1, qs _ _ _ _ z2, by rw [t1]; lia, fun j hj => by have := z4 j hj; lia, fun j hj => by have := z5 j hj; lia⟩, fun q => absurd d' q⟩
    · obtain ⟨⟨s1, s1'⟩, ⟨s2, s3, s3'⟩, s4, s5, s6, s7⟩ := S
      rw [if_pos d] at s5 s6
      refine ⟨⟨?_, Or.inl d'⟩, ⟨?_, ?_, ?_⟩, ?_, ?_, ?_, fun k hk h1 h2 => ?_⟩
      · rw [op 10 (by decide) (by decide) (by decide) (by decide), d', s1, d]
      · rw [op 6 (by decide) (by decide) (by decide) (by decide), mF _ _ (by lia) (by lia) (by lia)]; exact s2
      · rw [mF _ _ (by lia) (by lia) (by lia)]; exact s3
      · rw [mF _ _ (by lia) (by lia) (by lia)]; lia
      · rw [op 8 (by decide) (by decide) (by decide) (by decide), mF _ _ (by lia) (by lia) (by lia)]; exact s4
      · rw [o4, s5, if_pos d', t1]; unfold w32; lia
      · rw [o5, s6, if_pos d', t2]
        rcases he with c | c
        · rw [if_pos c, if_neg (show ¬ v % 8 = 4 by lia)]; lia
        · rw [if_neg (show ¬ el = 0 by lia), if_pos (show v % 8 = 4 by lia)]; unfold w32; lia
      · rw [o7]
        by_cases c : k = n
        · have : up1 mk n v k = v := by unfold up1; rw [if_pos c]
          rw [this, ve] at h1
          rw [if_neg (show ¬ el = 0 by lia)]
          unfold up1; rw [if_pos c]
        · have u := h2 n (by lia) (by lia)
          have : up1 mk n v n = v := by unfold up1; rw [if_pos rfl]
          rw [this, ve] at u
          have : up1 mk n v k = mk k := by unfold up1; rw [if_neg c]
          rw [this] at h1
          rw [if_pos u, s7 k (by lia) h1 (fun j hj hj' => by
            have := h2 j hj (by lia)
            unfold up1 at this
            rw [if_neg (show ¬ j = n by lia)] at this
            exact this)]
          unfold up1; rw [if_neg c]
    · refine ⟨fun k hk => ?_, fun j k hj hk => ?_⟩
      · unfold up1
        by_cases c : k = n
        · rw [if_pos c, if_pos c]; exact ⟨b0.1, Int.le_refl _, hz.1⟩
        · rw [if_neg c, if_neg c]; exact TT.1 k (by lia)
      · unfold up1
        by_cases c : k = n
        · rw [if_pos c]
          by_cases c' : j = n
          · rw [if_pos c']; exact Int.le_refl _
          · rw [if_neg c']; exact (TT.1 j (by lia)).2.1
        · rw [if_neg c, if_neg (show ¬ j = n by lia)]; exact TT.2 j k hj (by lia)
  have eb : ∀ x y, (x = a ∨ x = a + 2 ∨ x = a + 3) → hI o x y = hI g x y := fun x y hx => by
    rcases hx with rfl | rfl | rfl
    · exact eo _ _ (by rw [wa.1]; lia) (by rw [wa.1]; lia) (by rw [wa.1]; lia) (by rw [wa.1]; lia)
    · exact eo _ _ (by rw [wa.2.2.1]; lia) (by rw [wa.2.2.1]; lia) (by rw [wa.2.2.1]; lia) (by rw [wa.2.2.1]; lia)
    · exact eo _ _ (by rw [wa.2.2.2.1]; lia) (by rw [wa.2.2.2.1]; lia) (by rw [wa.2.2.2.1]; lia) (by rw [wa.2.2.2.1]; lia)
  have ea : ∀ y, y ≠ 5 → hI o a y = hI hc a y := fun y hy => by rw [eb _ _ (Or.inl rfl)]; exact eg _ _ (Or.inl rfl) (by lia) (by lia)
  have e2 : ∀ y, hI o (a + 2) y = hI hc (a + 2) y := fun y => by rw [eb _ _ (Or.inr (Or.inl rfl))]; exact eg _ _ (Or.inr (Or.inl rfl)) (by lia) (by lia)
  have e3 : ∀ y, y ≠ 3 → hI o (a + 3) y = hI hc (a + 3) y := fun y hy => by rw [eb _ _ (Or.inr (Or.inr rfl))]; exact eg _ _ (Or.inr (Or.inr rfl)) (by lia) (by lia)
  have fsum : flM hm' m 0 + flM hm' m 1 + flM hm' m 2 = (flM hm m 0 + flM hm m 1 + flM hm m 2 + if co = 0 then 0 else z) ∧ dnM hm' m 0 + dnM hm' m 1 + dnM hm' m 2 = dnM hm m 0 + dnM hm m 1 + dnM hm m 2 := by
    rcases (show s = 0 ∨ s = 1 ∨ s = 2 by lia) with c | c | c
    · rw [c] at fs fo_
      rw [fs.1, fs.2, (fo_ 1 (by decide) (by decide)).1, (fo_ 2 (by decide) (by decide)).1, (fo_ 1 (by decide) (by decide)).2, (fo_ 2 (by decide) (by decide)).2]; exact ⟨by lia, rfl⟩
    · rw [c] at fs fo_
      rw [fs.1, fs.2, (fo_ 0 (by decide) (by decide)).1, (fo_ 2 (by decide) (by decide)).1, (fo_ 0 (by decide) (by decide)).2, (fo_ 2 (by decide) (by decide)).2]; exact ⟨by lia, rfl⟩
    · rw [c] at fs fo_
      rw [fs.1, fs.2, (fo_ 0 (by decide) (by decide)).1, (fo_ 1 (by decide) (by decide)).1, (fo_ 0 (by decide) (by decide)).2, (fo_ 1 (by decide) (by decide)).2]; exact ⟨by lia, rfl⟩
  refine ⟨⟨L.of O.r O.l, MO⟩, fun x hx => by rw [O.n]; exact bw x hx, wa, fun s' h1 => ?_, ?_, ?_⟩
  · by_cases c : s' = s
    · rw [c, ← ep]; exact SP
    · rw [T0]
      exact (B.2.2.2 s' h1).fr (C := fun x => w x / 10 = s + 1) bw (O.gf (fun x y hx => eo x y (by lia) (by lia) (by lia) (by lia))) (fun x hx => by lia) (fun _ _ => rfl) w0 (MF s' h1 c)
  · obtain ⟨⟨b1, b2, b3, b4, b5⟩, ⟨b6, b7, b8, b9, b10⟩, b11, b12, b13, b14⟩ := S0
    refine ⟨⟨?_, ?_, ?_, ?_, ?_⟩, ⟨?_, ?_, ?_, ?_, ?_⟩, ?_, ?_, ?_, ?_⟩
    · rw [ea 3 (by decide), T0]; exact b1
    · rw [ea 4 (by decide), mS 23 (by decide)]; exact b2
    · rw [eb _ _ (Or.inl rfl), g5, v14]
    · rw [ea 6 (by decide), mS 1 (by decide)]; exact b4
    · rw [ea 7 (by decide), mS 2 (by decide)]; exact b5
    · rw [e2, mS 18 (by decide)]; exact b6
    · rw [e2, mS 19 (by decide)]; exact b7
    · rw [e2, mS 20 (by decide)]; exact b8
    · rw [e2, mS 21 (by decide)]; exact b9
    · rw [e2, mS 22 (by decide)]; exact b10
    · rw [e3 0 (by decide), mS 24 (by decide)]; exact b11
    · rw [e3 1 (by decide), mS 25 (by decide)]; exact b12
    · rw [e3 2 (by decide), mS 26 (by decide)]; exact b13
    · rw [eb _ _ (Or.inr (Or.inr rfl)), g3, fsum.1]
  · unfold BkB
    rw [T0, mS 23 (by decide), mS 1 (by decide), mS 2 (by decide), mS 18 (by decide), mS 20 (by decide), mS 21 (by decide), mS 24 (by decide), mS 26 (by decide), mS 19 (by decide)]
    obtain ⟨b1, b2, b3, b4, b5, b6, b7, ⟨b8, b8'⟩, b9⟩ := BB
    exact ⟨b1, b2, b3, b4, b5, b6, b7, ⟨b8, by have := fsum.2; lia⟩, b9⟩
end
