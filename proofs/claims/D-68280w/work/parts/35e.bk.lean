/-! the book: a packet is sent, the model -/
theorem ct_new {mk sz : Nat → Int} {n : Nat} {v z : Int} : ctO (up1 mk n v) (n + 1) = ctO mk n + (if v % 4 = 0 then 1 else 0) ∧ ctE (up1 mk n v) (n + 1) = ctE mk n + (if v % 8 = 4 then 1 else 0) ∧ ctF (up1 mk n v) (up1 sz n z) (n + 1) = ctF mk sz n + (if v % 4 = 0 ∧ v / 8 % 2 = 1 then z else 0) ∧ ctD (up1 mk n v) (up1 sz n z) (n + 1) = ctD mk sz n + (if v % 4 = 1 then z else 0) := by
  have ev : up1 mk n v n = v := by unfold up1; rw [if_pos rfl]
  have ez : up1 sz n z n = z := by unfold up1; rw [if_pos rfl]
  have cg : ∀ k, k ≤ n → ctO (up1 mk n v) k = ctO mk k ∧ ctE (up1 mk n v) k = ctE mk k ∧ ctF (up1 mk n v) (up1 sz n z) k = ctF mk sz k ∧ ctD (up1 mk n v) (up1 sz n z) k = ctD mk sz k := by
    intro k
    induction k with
    | zero => intro _; exact ⟨rfl, rfl, rfl, rfl⟩
    | succ k ih =>
      intro hk
      obtain ⟨i1, i2, i3, i4⟩ := ih (by lia)
      have m1 : up1 mk n v k = mk k := by unfold up1; rw [if_neg (by lia)]
      have s1 : up1 sz n z k = sz k := by unfold up1; rw [if_neg (by lia)]
      refine ⟨?_, ?_, ?_, ?_⟩
      · show ctO (up1 mk n v) k + _ = ctO mk k + _; rw [i1, m1]
      · show ctE (up1 mk n v) k + _ = ctE mk k + _; rw [i2, m1]
      · show ctF (up1 mk n v) (up1 sz n z) k + _ = ctF mk sz k + _; rw [i3, m1, s1]
      · show ctD (up1 mk n v) (up1 sz n z) k + _ = ctD mk sz k + _; rw [i4, m1, s1]
  obtain ⟨c1, c2, c3, c4⟩ := cg n (Nat.le_refl _)
  refine ⟨?_, ?_, ?_, ?_⟩
  · show ctO (up1 mk n v) n + _ = _; rw [c1, ev]
  · show ctE (up1 mk n v) n + _ = _; rw [c2, ev]
  · show ctF (up1 mk n v) (up1 sz n z) n + _ = _; rw [c3, ev, ez]
  · show ctD (up1 mk n v) (up1 sz n z) n + _ = _; rw [c4, ev, ez]
section
variable {hm : Hp} {m s n : Nat} {tm sz mk : Nat → Int} {fo : Nat} {T z el co : Int}
/-- the filling bits of the model are bits -/
def FiB (hm : Hp) (m : Nat) : Prop := ∀ x, hI hm (m + 7) x = 0 ∨ hI hm (m + 7) x = 1
/-- a packet comes behind the others, in the model -/
theorem PkM.snd {hm' : Hp} {v : Int} (K : PkM hm m s n tm sz mk fo) (n4 : n < 4096) (L : MBk hm' m) (e1 : hI hm' (m + 1) s = ((n + 1 : Nat) : Int)) (e8 : hI hm' (m + 8) s = hI hm (m + 8) s) (eO : ∀ i k, 2 ≤ i → i ≤ 7 → k < n → hI hm' (m + i) (4096 * s + k) = hI hm (m + i) (4096 * s + k)) (hv : v % 4 = 0 ∧ 0 ≤ v ∧ v < 32) (hz : 0 ≤ z ∧ z < 32768) (g2 : hI hm' (m + 2) (4096 * s + n) = z) (g3 : hI hm' (m + 3) (4096 * s + n) = T) (g4 : hI hm' (m + 4) (4096 * s + n) = 0) (g5 : hI hm' (m + 5) (4096 * s + n) = v / 4 % 2) (g6 : hI hm' (m + 6) (4096 * s + n) = v / 8 % 2) (g7 : v / 8 % 2 = 1 → hI hm' (m + 7) (4096 * s + n) = v / 16 % 2) : PkM hm' m s (n + 1) (up1 tm n T) (up1 sz n z) (up1 mk n v) fo := by
  obtain ⟨⟨_, g0⟩, k1, k2, k3, k4, k5, k6⟩ := K
  refine ⟨⟨L, g0⟩, e1, by rw [e8]; exact k2, by lia, ⟨by have := k4.1; lia, fun j hj => ?_, fun h => ?_⟩, fun i hi => ?_, fun i hi => ?_⟩
  · have := k4.1
    unfold up1; rw [if_neg (by lia)]; exact k4.2.1 j hj
  · unfold up1
    by_cases c : fo = n
    · rw [if_pos c]; exact hv.1
    · rw [if_neg c]; exact k4.2.2 (by have := k4.1; lia)
  · unfold up1
    by_cases c : i = n
    · subst c
      simp only [if_true]
      exact ⟨g2, g3, by rw [g4, hv.1], g5, g6, g7⟩
    · simp only [if_neg c]
      have hi' : i < n := by lia
      rw [eO 2 i (by decide) (by decide) hi', eO 3 i (by decide) (by decide) hi', eO 4 i (by decide) (by decide) hi', eO 5 i (by decide) (by decide) hi', eO 6 i (by decide) (by decide) hi', eO 7 i (by decide) (by decide) hi']
      exact k5 i hi'
  · unfold up1
    by_cases c : i = n
    · simp only [if_pos c]; exact ⟨hv.2, hz⟩
    · simp only [if_neg c]; exact k6 i (by lia)
/-- the model sends -/
theorem m_send {hc : Hp} {a : Nat} {w : Nat → Nat} (B : BkR hc a w hm m) (BF : FiB hm m) (hs : s < 3) (hn : hI hm (m + 1) s = (n : Int)) (n4 : n < 4096) (d : hI hm (m + 9) s = 0) (hz : 0 < z ∧ z < 32768) (he : el = 0 ∨ el = 1) (hco : co = 0 ∨ co = 1) : wp (f_mBook_send m (s : Int) z el co hm) (fun p => p.1 = (n : Int) ∧ OnI hm p.2 ∧ (∀ x y, ¬ (x = m + 1 ∧ y = s) → ¬ (m + 2 ≤ x ∧ x ≤ m + 7 ∧ y = 4096 * s + n) → ¬ (x = m ∧ y = 14) → hI p.2 x y = hI hm x y) ∧ hI p.2 (m + 1) s = ((n + 1 : Nat) : Int) ∧ hI p.2 m 14 = hI hm m 0 ∧ hI p.2 (m + 2) (4096 * s + n) = z ∧ hI p.2 (m + 3) (4096 * s + n) = hI hm m 0 ∧ hI p.2 (m + 4) (4096 * s + n) = 0 ∧ hI p.2 (m + 5) (4096 * s + n) = el ∧ hI p.2 (m + 6) (4096 * s + n) = co ∧ hI p.2 (m + 7) (4096 * s + n) = (if flM hm m 0 + flM hm m 1 + flM hm m 2 + (if co = 0 then 0 else z) ≤ w32 (hI hm m 24 - 1200) then 0 else 1)) := by
  obtain ⟨tm, sz, mk, fo, W, K1, K2, Q, S, TT⟩ := SpR.opn B hs hn
  have LM := B.1.2
  have m0 := LM.1
  have xs : ix (s : Int) 3 := ⟨by lia, by lia⟩
  have x2 : ix ((4096 * s + n : Nat) : Int) 12288 := ⟨by lia, by lia⟩
  obtain ⟨g, eg⟩ : ∃ g, g = sI (sI (sI (sI (sI (sI (sI hm (m + 2) (4096 * s + n) z) (m + 3) (4096 * s + n) (hI hm m 0)) (m + 4) (4096 * s + n) 0) (m + 5) (4096 * s + n) el) (m + 6) (4096 * s + n) co) (m + 1) s ((n + 1 : Nat) : Int)) m 14 (hI hm m 0) := ⟨_, rfl⟩
  have O : OnI hm g := by rw [eg]; exact OnI.refl.s.s.s.s.s.s.s
  have rI : ∀ x y, hI g x y = if x = m ∧ y = 14 then hI hm m 0 else if x = m + 1 ∧ y = s then ((n + 1 : Nat) : Int) else if x = m + 6 ∧ y = 4096 * s + n then co else if x = m + 5 ∧ y = 4096 * s + n then el else if x = m + 4 ∧ y = 4096 * s + n then 0 else if x = m + 3 ∧ y = 4096 * s + n then hI hm m 0 else if x = m + 2 ∧ y = 4096 * s + n then z else hI hm x y := fun x y => by rw [eg, hI_sI, hI_sI, hI_sI, hI_sI, hI_sI, hI_sI, hI_sI]
  have rO : ∀ x y, ¬ (x = m ∧ y = 14) → ¬ (x = m + 1 ∧ y = s) → ¬ (m + 2 ≤ x ∧ x ≤ m + 6 ∧ y = 4096 * s + n) → hI g x y = hI hm x y := fun x y q1 q2 q3 => by
    rw [rI, if_neg q1, if_neg q2, if_neg (by lia), if_neg (by lia), if_neg (by lia), if_neg (by lia), if_neg (by lia)]
  have v2 : hI g (m + 2) (4096 * s + n) = z := by rw [rI, if_neg (by lia), if_neg (by lia), if_neg (by lia), if_neg (by lia), if_neg (by lia), if_neg (by lia), if_pos ⟨rfl, rfl⟩]
  have v3 : hI g (m + 3) (4096 * s + n) = hI hm m 0 := by rw [rI, if_neg (by lia), if_neg (by lia), if_neg (by lia), if_neg (by lia), if_neg (by lia), if_pos ⟨rfl, rfl⟩]
  have v4 : hI g (m + 4) (4096 * s + n) = 0 := by rw [rI, if_neg (by lia), if_neg (by lia), if_neg (by lia), if_neg (by lia), if_pos ⟨rfl, rfl⟩]
  have v5 : hI g (m + 5) (4096 * s + n) = el := by rw [rI, if_neg (by lia), if_neg (by lia), if_neg (by lia), if_pos ⟨rfl, rfl⟩]
  have v6 : hI g (m + 6) (4096 * s + n) = co := by rw [rI, if_neg (by lia), if_neg (by lia), if_pos ⟨rfl, rfl⟩]
  have v1 : hI g (m + 1) s = ((n + 1 : Nat) : Int) := by rw [rI, if_neg (by lia), if_pos ⟨rfl, rfl⟩]
  have v14 : hI g m 14 = hI hm m 0 := by rw [rI, if_pos ⟨rfl, rfl⟩]
  have LG : MBk g m := LM.of O.r O.l
  obtain ⟨b, hb⟩ : ∃ b, b = hI hm (m + 7) (4096 * s + n) := ⟨_, rfl⟩
  have b01 : b = 0 ∨ b = 1 := by rw [hb]; exact BF _
  have b7 : hI g (m + 7) (4096 * s + n) = b := by rw [rO _ _ (by lia) (by lia) (by lia), hb]
  have KS : PkM g m s (n + 1) (up1 tm n (hI hm m 0)) (up1 sz n z) (up1 mk n (4 * el + 8 * co + 16 * b)) fo := K2.snd n4 LG v1 (rO _ _ (by lia) (by lia) (by lia)) (fun i k h1 h2 hk => rO _ _ (by lia) (by lia) (by lia)) (by rcases he with rfl | rfl <;> rcases hco with rfl | rfl <;> rcases b01 with h | h <;> rw [h] <;> decide) ⟨by lia, hz.2⟩ v2 v3 v4 (by rw [v5]; rcases he with rfl | rfl <;> rcases hco with rfl | rfl <;> rcases b01 with h | h <;> rw [h] <;> rfl) (by rw [v6]; rcases he with rfl | rfl <;> rcases hco with rfl | rfl <;> rcases b01 with h | h <;> rw [h] <;> rfl) (fun _ => by rw [b7]; rcases he with rfl | rfl <;> rcases hco with rfl | rfl <;> rcases b01 with h | h <;> rw [h] <;> rfl)
  have MF : ∀ s', s' < 3 → s' ≠ s → MFs hm g m s' := fun s' h1 h2 => ⟨fun i y hi hy => rO _ _ (by lia) (by lia) (by lia), fun i y h1 h2 hy => rO _ _ (by lia) (by lia) (by lia), fun i y hi hy => rO _ _ (by lia) (by lia) (by lia), fun y hy => rO _ _ (by lia) (by lia) (by lia), fun _ => LG⟩
  have d' : hI g (m + 9) s = 0 := by rw [rO _ _ (by lia) (by lia) (by lia)]; exact d
  have cf : (if (4 * el + 8 * co + 16 * b) % 4 = 0 ∧ (4 * el + 8 * co + 16 * b) / 8 % 2 = 1 then z else 0) = if co = 0 then 0 else z := by
    rcases he with rfl | rfl <;> rcases hco with rfl | rfl <;> rcases b01 with h | h <;> rw [h] <;> rfl
  have fs : flM g m s = flM hm m s + if co = 0 then 0 else z := by
    rw [KS.fl.1, K2.fl.1]
    unfold flS
    rw [if_pos d', if_pos d, ct_new.2.2.1, cf]
  have fo_ : ∀ s', s' < 3 → s' ≠ s → flM g m s' = flM hm m s' := fun s' h1 h2 => (flM_fr (B.2.2.2.1 s' h1) (MF s' h1 h2)).1
  have KA : ∃ (n' : Nat → Nat) (tm' sz' mk' : Nat → Nat → Int) (fo' : Nat → Nat), ∀ s', s' < 3 → PkM g m s' (n' s') (tm' s') (sz' s') (mk' s') (fo' s') := by
    have ex : ∀ s', s' < 3 → ∃ n' tm' sz' mk' fo', PkM g m s' n' tm' sz' mk' fo' := fun s' h1 => by
      by_cases c : s' = s
      · rw [c]; exact ⟨_, _, _, _, _, KS⟩
      · obtain ⟨n', tm', sz', mk', fo', _, _, K, _⟩ := B.2.2.2.1 s' h1
        exact ⟨n', tm', sz', mk', fo', K.fr (MF s' h1 c)⟩
    obtain ⟨n0, t0, z0, k0, f0, p0⟩ := ex 0 (by decide)
    obtain ⟨n1, t1, z1, k1, f1, p1⟩ := ex 1 (by decide)
    obtain ⟨n2, t2, z2, k2, f2, p2⟩ := ex 2 (by decide)
    refine ⟨fun i => if i = 0 then n0 else if i = 1 then n1 else n2, fun i => if i = 0 then t0 else if i = 1 then t1 else t2, fun i => if i = 0 then z0 else if i = 1 then z1 else z2, fun i => if i = 0 then k0 else if i = 1 then k1 else k2, fun i => if i = 0 then f0 else if i = 1 then f1 else f2, fun s' h1 => ?_⟩
    rcases (show s' = 0 ∨ s' = 1 ∨ s' = 2 by lia) with rfl | rfl | rfl
    · exact p0
    · exact p1
    · exact p2
  obtain ⟨n', tm', sz', mk', fo', KA⟩ := KA
  have fl := m_flight KA
  have sum : flA g m n' sz' mk' 3 = flM hm m 0 + flM hm m 1 + flM hm m 2 + if co = 0 then 0 else z := by
    show 0 + flS g m 0 (ctF (mk' 0) (sz' 0) (n' 0)) + flS g m 1 (ctF (mk' 1) (sz' 1) (n' 1)) + flS g m 2 (ctF (mk' 2) (sz' 2) (n' 2)) = _
    rw [← (KA 0 (by decide)).fl.1, ← (KA 1 (by decide)).fl.1, ← (KA 2 (by decide)).fl.1]
    rcases (show s = 0 ∨ s = 1 ∨ s = 2 by lia) with rfl | rfl | rfl
    · rw [fs, fo_ 1 (by decide) (by decide), fo_ 2 (by decide) (by decide)]; lia
    · rw [fs, fo_ 0 (by decide) (by decide), fo_ 2 (by decide) (by decide)]; lia
    · rw [fs, fo_ 0 (by decide) (by decide), fo_ 1 (by decide) (by decide)]; lia
  rw [sum] at fl
  have i80 : i8 0 = 0 := by decide
  have e01 : ¬ ¬ (el = 0 ∨ el = 1) := fun z => z he
  have c01 : ¬ ¬ (co = 0 ∨ co = 1) := fun z => z hco
  clear KA sum KS
  obtain ⟨g1, e1⟩ : ∃ g1, g1 = sI hm (m + 2) (4096 * s + n) z := ⟨_, rfl⟩
  obtain ⟨g2, e2⟩ : ∃ g2, g2 = sI g1 (m + 3) (4096 * s + n) (hI hm m 0) := ⟨_, rfl⟩
  obtain ⟨g3, e3⟩ : ∃ g3, g3 = sI g2 (m + 4) (4096 * s + n) 0 := ⟨_, rfl⟩
  obtain ⟨g4, e4⟩ : ∃ g4, g4 = sI g3 (m + 5) (4096 * s + n) el := ⟨_, rfl⟩
  obtain ⟨g5, e5⟩ : ∃ g5, g5 = sI g4 (m + 6) (4096 * s + n) co := ⟨_, rfl⟩
  obtain ⟨g6, e6⟩ : ∃ g6, g6 = sI g5 (m + 1) s ((n + 1 : Nat) : Int) := ⟨_, rfl⟩
  have e7 : g = sI g6 m 14 (hI hm m 0) := by rw [eg, e6, e5, e4, e3, e2, e1]
  have O1 : OnI hm g1 := by rw [e1]; exact OnI.refl.s
  have O2 : OnI hm g2 := by rw [e2]; exact O1.s
  have O3 : OnI hm g3 := by rw [e3]; exact O2.s
  have O4 : OnI hm g4 := by rw [e4]; exact O3.s
  have O5 : OnI hm g5 := by rw [e5]; exact O4.s
  have i1 : hI g1 m 0 = hI hm m 0 := by rw [e1, hI_sI, if_neg (by lia)]
  have i5 : ∀ x y, x = m ∨ x = m + 1 → hI g5 x y = hI hm x y := fun x y h => by rw [e5, hI_sI, if_neg (by lia), e4, hI_sI, if_neg (by lia), e3, hI_sI, if_neg (by lia), e2, hI_sI, if_neg (by lia), e1, hI_sI, if_neg (by lia)]
  have i5n : hI g5 (m + 1) s = (n : Int) := by rw [i5 _ _ (Or.inr rfl)]; exact hn
  have i6 : hI g6 m 0 = hI hm m 0 := by rw [e6, hI_sI, if_neg (by lia)]; exact i5 _ _ (Or.inl rfl)
  have g24 : hI g m 24 = hI hm m 24 := rO _ _ (by lia) (by lia) (by lia)
  have r9 : hR g m 9 = m + 7 := LG.r0_9
  have fin : ∀ u : Int, (u = 0 ∨ u = 1) → wp (f_mBook_send_b106 m (n : Int) (m + 7) ((4096 * s + n : Nat) : Int) u g) (fun p => p.1 = (n : Int) ∧ OnI hm p.2 ∧ (∀ x y, ¬ (x = m + 1 ∧ y = s) → ¬ (m + 2 ≤ x ∧ x ≤ m + 7 ∧ y = 4096 * s + n) → ¬ (x = m ∧ y = 14) → hI p.2 x y = hI hm x y) ∧ hI p.2 (m + 1) s = ((n + 1 : Nat) : Int) ∧ hI p.2 m 14 = hI hm m 0 ∧ hI p.2 (m + 2) (4096 * s + n) = z ∧ hI p.2 (m + 3) (4096 * s + n) = hI hm m 0 ∧ hI p.2 (m + 4) (4096 * s + n) = 0 ∧ hI p.2 (m + 5) (4096 * s + n) = el ∧ hI p.2 (m + 6) (4096 * s + n) = co ∧ hI p.2 (m + 7) (4096 * s + n) = u) := fun u hu => by
    have lg : ln g (m + 7) = 12288 := LG.l7
    unfold f_mBook_send_b106
    rw [if_neg (show ¬ (m + 7 = 0) by lia), lg, if_pos x2, if_neg (fun z => z hu), Int.toNat_natCast, lt1_eq, wp_some]
    refine ⟨rfl, O.s, fun x y q1 q2 q3 => ?_, ?_, ?_, ?_, ?_, ?_, ?_, ?_, ?_⟩
    · rw [hI_sI, if_neg (by lia)]; exact rO x y q3 q1 (by lia)
    · rw [hI_sI, if_neg (by lia)]; exact v1
    · rw [hI_sI, if_neg (by lia)]; exact v14
    · rw [hI_sI, if_neg (by lia)]; exact v2
    · rw [hI_sI, if_neg (by lia)]; exact v3
    · rw [hI_sI, if_neg (by lia)]; exact v4
    · rw [hI_sI, if_neg (by lia)]; exact v5
    · rw [hI_sI, if_neg (by lia)]; exact v6
    · rw [hI_sI, if_pos ⟨rfl, rfl⟩]
  unfold f_mBook_send
  rw [LM.r0_3, if_neg (show ¬ (m + 1 = 0) by lia), LM.l1, if_pos xs, Int.toNat_natCast, hn, lt1_eq, w4s hs (show n ≤ 4096 by lia), lt1_eq, LM.r0_4, if_neg (show ¬ (m + 2 = 0) by lia), LM.l2, if_pos x2, Int.toNat_natCast, lt1_eq, ← e1]
  rw [O1.r, LM.r0_5, if_neg (show ¬ (m + 3 = 0) by lia), O1.l, LM.l3, if_pos x2, i1, lt1_eq, ← e2]
  rw [O2.r, LM.r0_6, if_neg (show ¬ (m + 4 = 0) by lia), O2.l, LM.l4, if_pos x2, i80, lt1_eq, ← e3]
  rw [O3.r, LM.r0_7, if_neg (show ¬ (m + 5 = 0) by lia), O3.l, LM.l5, if_pos x2, if_neg e01, lt1_eq, ← e4]
  rw [O4.r, LM.r0_8, if_neg (show ¬ (m + 6 = 0) by lia), O4.l, LM.l6, if_pos x2, if_neg c01, lt1_eq, ← e5]
  rw [O5.r, LM.r0_3, if_neg (show ¬ (m + 1 = 0) by lia), O5.l, LM.l1, if_pos xs, if_pos xs, i5n, w_k1 (show n < 1000000000 by lia), lt1_eq, ← e6]
  rw [i6, lt1_eq, ← e7, fl, b2_some, g24, r9]
  by_cases c : flM hm m 0 + flM hm m 1 + flM hm m 2 + (if co = 0 then 0 else z) ≤ w32 (hI hm m 24 - 1200)
  · rw [if_pos c]
    simp only [if_pos c]
    exact fin 0 (Or.inl rfl)
  · rw [if_neg c]
    simp only [if_neg c]
    exact fin 1 (Or.inr rfl)
end
