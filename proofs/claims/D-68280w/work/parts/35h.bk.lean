/-! the book: send, class against model -/
section
variable {hc hm : Hp} {a m s n : Nat} {w : Nat → Nat} {X Y : Nat} {T z el co : Int}
theorem flM_le {p : Nat} (K : SpR hc p w hm m s T) : 0 ≤ flM hm m s ∧ flM hm m s ≤ 140000000 := by
  obtain ⟨n, tm, sz, mk, fo, _, _, K2, _⟩ := K
  have b := ctF_0 (mk := mk) (sz := sz) (n := n) (fun k hk => (K2.2.2.2.2.2.2 k hk).2)
  have := K2.2.2.2.1
  rw [K2.fl.1]; unfold flS
  by_cases c : hI hm (m + 9) s = 0
  · rw [if_pos c]; lia
  · rw [if_neg c]; lia
theorem j_send (B : BkR hc a w hm m) (BF : FiB hm m) (hs : s < 3) (hn : hI hm (m + 1) s = (n : Int)) (n4 : n < 4096) (d : hI hm (m + 9) s = 0) (hX : X ≤ CN) (hY : Y ≤ CZ) (rN : hN hc + bpot hc a ≤ X) (rZ : hZ hc + 2 * bpot hc a ≤ Y) (hz : 0 < z ∧ z < 32768) (he : el = 0 ∨ el = 1) (hco : co = 0 ∨ co = 1) : wp (f_cBook_send a (s : Int) z el co hc) (fun o => wp (f_mBook_send m (s : Int) z el co hm) (fun p => o.1 = (n : Int) ∧ p.1 = (n : Int) ∧ LsP hc a w m X Y o.2 p.2 ∧ FiB p.2 m ∧ OnI hm p.2 ∧ hI p.2 (m + 1) s = ((n + 1 : Nat) : Int) ∧ ∀ x y, ¬ (x = m + 1 ∧ y = s) → ¬ (m + 2 ≤ x ∧ x ≤ m + 7 ∧ y = 4096 * s + n) → ¬ (x = m ∧ y = 14) → hI p.2 x y = hI hm x y)) := by
  have L := B.1.1
  have LM := B.1.2
  have a0 := L.1
  have m0 := LM.1
  have bw := B.2.1
  have wa := B.2.2.1
  have S0 := B.2.2.2.2.1
  have BB := B.2.2.2.2.2
  have xs : ix (s : Int) 3 := ⟨by lia, by lia⟩
  have z6 : ¬ (a + 6 + 11 * s = 0) := by lia
  obtain ⟨FL, hFL⟩ : ∃ FL, FL = flM hm m 0 + flM hm m 1 + flM hm m 2 := ⟨_, rfl⟩
  have f0 := flM_le (B.2.2.2.1 0 (by decide))
  have f1 := flM_le (B.2.2.2.1 1 (by decide))
  have f2 := flM_le (B.2.2.2.1 2 (by decide))
  have fb : 0 ≤ FL ∧ FL ≤ 420000000 := by lia
  clear f0 f1 f2
  have c3 : hI hc (a + 3) 3 = FL := by rw [hFL]; exact S0.2.2.2.2.2
  have c0 : hI hc (a + 3) 0 = hI hm m 24 := S0.2.2.1
  have t3 : hI hc a 3 = hI hm m 0 := S0.1.1
  have go : ∀ h2 fi, OnI hc h2 → (∀ x y, ¬ (x = a + 3 ∧ y = 3) → hI h2 x y = hI hc x y) → (hI h2 (a + 3) 3 = FL + if co = 0 then 0 else z) → (fi = 0 ∨ fi = 1) → (co = 1 → fi = if FL + (if co = 0 then 0 else z) ≤ w32 (hI hm m 24 - 1200) then 0 else 1) → wp (f_cBook_send_b49 a (s : Int) z el co fi h2) (fun o => wp (f_mBook_send m (s : Int) z el co hm) (fun p => o.1 = (n : Int) ∧ p.1 = (n : Int) ∧ LsP hc a w m X Y o.2 p.2 ∧ FiB p.2 m ∧ OnI hm p.2 ∧ hI p.2 (m + 1) s = ((n + 1 : Nat) : Int) ∧ ∀ x y, ¬ (x = m + 1 ∧ y = s) → ¬ (m + 2 ≤ x ∧ x ≤ m + 7 ∧ y = 4096 * s + n) → ¬ (x = m ∧ y = 14) → hI p.2 x y = hI hm x y)) := fun h2 fi O2 i2 i23 hf fib => by
    obtain ⟨h4, e4⟩ : ∃ h4, h4 = sI h2 a 5 (hI h2 a 3) := ⟨_, rfl⟩
    have O4 : OnI hc h4 := by rw [e4]; exact O2.s
    have i4 : ∀ x y, ¬ (x = a ∧ y = 5) → ¬ (x = a + 3 ∧ y = 3) → hI h4 x y = hI hc x y := fun x y q1 q2 => by rw [e4, hI_sI, if_neg q1]; exact i2 x y q2
    have i45 : hI h4 a 5 = hI hm m 0 := by rw [e4, hI_sI, if_pos ⟨rfl, rfl⟩, i2 _ _ (by lia)]; exact t3
    have i43 : hI h4 a 3 = hI hm m 0 := by rw [i4 _ _ (by lia) (by lia)]; exact t3
    have i433 : hI h4 (a + 3) 3 = FL + if co = 0 then 0 else z := by rw [e4, hI_sI, if_neg (by lia)]; exact i23
    have B4 : BkQ h4 a w hm m (hI hm m 0) := ⟨⟨L.of O4.r O4.l, LM⟩, fun x hx => by rw [O4.n]; exact bw x hx, wa, fun s' h1 => (B.2.2.2.1 s' h1).fr (C := fun x => x = a ∨ x = a + 3) bw (O4.gf (fun x y hx => i4 x y (fun q => hx (Or.inl q.1)) (fun q => hx (Or.inr q.1)))) (fun x hx q => by
      rcases q with rfl | rfl
      · rw [wa.1] at hx; lia
      · rw [wa.2.2.2.1] at hx; lia) (fun _ _ => rfl) (by obtain ⟨_, _, _, _, _, W, _⟩ := B.2.2.2.1 s' h1; exact W.2.2.2.2.2.2.2.2.2.2.2) ⟨fun _ _ _ _ => rfl, fun _ _ _ _ _ => rfl, fun _ _ _ _ => rfl, fun _ _ => rfl, fun z => z⟩⟩
    have bp4 : bpot h4 a = bpot hc a := by unfold bpot bps; rw [O4.r, O4.l]
    unfold f_cBook_send_b49
    rw [lt1_eq, ← e4, O4.r, L.r0_0, if_neg (show ¬ (a + 1 = 0) by lia), O4.l, L.l1, if_pos xs, Int.toNat_natCast, (L.sp hs).1, if_neg z6, i43]
    refine wp_b2o (c_spAdd (X := X) (Y := Y) B4 hs hn n4 hX hY (by rw [O4.n, bp4]; exact rN) (by rw [O4.z, bp4]; exact rZ) hz he hco hf) fun r o _ ⟨o1, g, w', Bg, gI, we, gn, gX, gY, cm, nl, A⟩ => ?_
    rw [wp_some]
    refine wp_of (m_send B BF hs hn n4 d hz he hco) fun p _ ⟨p1, OM, mF, v1, v14, v2, v3, v4, v5, v6, v7⟩ => ?_
    have A0 := A
    obtain ⟨O, oF, _⟩ := A
    have lx : ∀ x, (x = a ∨ x = a + 2 ∨ x = a + 3) → x < hN h4 := fun x hx => by
      rw [O4.n]
      rcases hx with rfl | rfl | rfl
      · exact bw _ (by rw [wa.1]; lia)
      · exact bw _ (by rw [wa.2.2.1]; lia)
      · exact bw _ (by rw [wa.2.2.2.1]; lia)
    have BR : BkR o a w' p.2 m := q_send (hc := hc) Bg hs hn n4 d hz he hco hf nl A0 OM mF v1 v14 v2 v3 v4 v5 v6 (fun q => by rw [v7, fib q, hFL]) S0 BB (fun x y hx q1 q2 => by rw [gI x y (lx x hx)]; exact i4 x y q1 q2) (by rw [gI _ _ (lx a (Or.inl rfl))]; exact i45) (by rw [gI _ _ (lx (a + 3) (Or.inr (Or.inr rfl))), ← hFL]; exact i433)
    have Wg := Bg.ws hs
    obtain ⟨w1, w2, w3, w4, w5, w6, w7, w8, w9, w10, w11, w0⟩ := Wg
    have eo : ∀ x y, (w' x ≠ 10 * s + 11 ∨ 14 ≤ y) → w' x ≠ 10 * s + 12 → w' x ≠ 10 * s + 13 → w' x ≠ 10 * s + 14 → hI o x y = hI g x y := fun x y h1 h2 h3 h4 => oF x y (fun q => h2 (by rw [q.1]; exact w2)) (fun q => h3 (by rw [q.1]; exact w3)) (fun q => h4 (by rw [q.1]; exact w4)) (fun q => by
      rcases h1 with h1 | h1
      · exact h1 (by rw [q.1]; exact w1)
      · have := q.2; lia)
    have cmo : CmF a g o := fun s' h1 => by
      obtain ⟨u1, u2, u3, u4, u5, u6, u7, u8, u9, u10, u11, u0⟩ := Bg.ws h1
      refine ⟨fun y hy => eo _ _ (Or.inr hy) (by lia) (by lia) (by lia), fun i y h2 h3 => ⟨?_, by rw [O.j]⟩⟩
      rcases (show i = 8 ∨ i = 9 ∨ i = 10 by lia) with rfl | rfl | rfl
      · exact eo _ _ (Or.inl (by lia)) (by lia) (by lia) (by lia)
      · exact eo _ _ (Or.inl (by lia)) (by lia) (by lia) (by lia)
      · exact eo _ _ (Or.inl (by lia)) (by lia) (by lia) (by lia)
    have cm4 : CmF a hc h4 := CmF.of O4 (fun x y h1 _ _ => i4 x y (by lia) (by lia))
    have bpo : bpot o a = bpot g a := by unfold bpot bps; rw [O.r, O.l]
    refine ⟨o1, p1, ⟨w', BR, fun x hx hw => ?_, ?_, ?_, ?_, (cm4.tr cm).tr cmo⟩, fun x => ?_, OM, v1, mF⟩
    · rcases we x (by rw [O4.n]; exact hx) with q | q
      · rw [← q]; exact hw
      · exact absurd q.2 hw
    · show hN hc ≤ hN o
      rw [O.n, ← O4.n]; exact gn
    · show hN o + bpot o a ≤ X
      rw [O.n, bpo]; exact gX
    · show hZ o + 2 * bpot o a ≤ Y
      rw [O.z, bpo]; exact gY
    · by_cases c : x = 4096 * s + n
      · rw [c, v7]
        by_cases c' : flM hm m 0 + flM hm m 1 + flM hm m 2 + (if co = 0 then 0 else z) ≤ w32 (hI hm m 24 - 1200)
        · rw [if_pos c']; exact Or.inl rfl
        · rw [if_neg c']; exact Or.inr rfl
      · rw [mF _ _ (by lia) (by lia) (by lia)]; exact BF x
  unfold f_cBook_send
  by_cases c : co = 0
  · rw [if_pos c]
    unfold f_cBook_send_b18 f_cBook_send_b48
    rw [if_pos c]
    exact go hc 0 OnI.refl (fun _ _ _ => rfl) (by rw [if_pos c, c3]; lia) (Or.inl rfl) (fun q => by lia)
  · obtain ⟨h2, e2⟩ : ∃ h2, h2 = sI hc (a + 3) 3 (FL + z) := ⟨_, rfl⟩
    have O2 : OnI hc h2 := by rw [e2]; exact OnI.refl.s
    have i2 : ∀ x y, ¬ (x = a + 3 ∧ y = 3) → hI h2 x y = hI hc x y := fun x y q => by rw [e2, hI_sI, if_neg q]
    have i23 : hI h2 (a + 3) 3 = FL + z := by rw [e2, hI_sI, if_pos ⟨rfl, rfl⟩]
    have i20 : hI h2 (a + 3) 0 = hI hm m 24 := by rw [i2 _ _ (by lia)]; exact c0
    have ew : w32 (FL + z) = FL + z := by unfold w32; lia
    have i23' : hI h2 (a + 3) 3 = FL + if co = 0 then 0 else z := by rw [if_neg c]; exact i23
    rw [if_neg c, L.r0_2, if_neg (show ¬ (a + 3 = 0) by lia), c3, ew, lt1_eq, ← e2]
    unfold f_cBook_send_b18 f_cBook_send_b48
    rw [if_neg c, O2.r, L.r0_2, if_neg (show ¬ (a + 3 = 0) by lia), i23, i20]
    by_cases c' : FL + z ≤ w32 (hI hm m 24 - 1200)
    · rw [if_pos c']
      exact go h2 0 O2 i2 i23' (Or.inl rfl) (fun _ => by rw [if_neg c, if_pos c'])
    · rw [if_neg c']
      exact go h2 1 O2 i2 i23' (Or.inr rfl) (fun _ => by rw [if_neg c, if_neg c'])
end
