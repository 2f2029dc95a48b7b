/-! the book: bytes in flight of the model; finding -/
section
variable {h : Hp} {m s n : Nat} {tm sz mk : Nat → Int} {fo k : Nat}
/-- bytes in flight of a space -/
def flS (h : Hp) (m s : Nat) (v : Int) : Int := if hI h (m + 9) s = 0 then v else 0
theorem m_fliL (K : PkM h m s n tm sz mk fo) {Q : Int × Hp → Prop} {k4 : Nat → Int → Int → Hp → Option (Int × Hp)} {v0 : Int} (hv0 : 0 ≤ v0 ∧ v0 ≤ 300000000) (KK : wp (k4 m (v0 + flS h m s (ctF mk sz n)) (w32 ((s : Int) + 1)) h) Q) (f : Nat) : ∀ (j : Nat) (v : Int), fo ≤ j → j ≤ n → n - j < f → v = v0 + flS h m s (ctF mk sz j) → wp (f_mBook_flight_b16_lp k4 f m v (s : Int) (j : Int) h) Q := by
  induction f with
  | zero => intro j v _ _ hf; lia
  | succ f ih =>
    intro j v hfo hj hf hv
    show wp (f_mBook_flight_b16 k4 (f_mBook_flight_b16_lp k4 f) m v (s : Int) (j : Int) h) Q
    have K' := K
    obtain ⟨⟨L, g0⟩, k1, k2, k3, k4', k5, k6⟩ := K
    have a0 := L.1
    have z1 : ¬ (m + 1 = 0) := by lia
    have z2 : ¬ (m + 6 = 0) := by lia
    have z3 : ¬ (m + 2 = 0) := by lia
    have x1 : ix (s : Int) 3 := ⟨by lia, by lia⟩
    unfold f_mBook_flight_b16 f_mBook_flight_b66 f_mBook_flight_b67
    simp only [L.r0_3, L.l1, if_neg z1, if_pos x1, Int.toNat_natCast, k1]
    by_cases c : (n : Int) ≤ j
    · have : j = n := by lia
      rw [if_pos c, hv, this]; exact KK
    · have hj' : j < n := by lia
      have x2 : ix ((4096 * s + j : Nat) : Int) 12288 := ⟨by lia, by lia⟩
      have bF := ctF_0 (mk := mk) (sz := sz) (n := j) (fun i hi => (k6 i (by lia)).2)
      have hmk := (k6 j hj').1
      have hsz := (k6 j hj').2
      have bv : 0 ≤ v ∧ v ≤ 500000000 := by rw [hv]; unfold flS; split <;> lia
      have wv0 : w32 (v + 0) = v := by rw [Int.add_zero]; exact w32_id ⟨by lia, by lia⟩
      have wv1 : w32 (v + sz j) = v + sz j := w32_id ⟨by lia, by lia⟩
      have cF1 : ctF mk sz (j + 1) = ctF mk sz j + if mk j % 4 = 0 ∧ mk j / 8 % 2 = 1 then sz j else 0 := rfl
      rw [if_neg c, K'.out hj', b2_some]
      simp only [L.r0_8, L.l6, L.r0_4, L.l2, if_neg z2, if_neg z3, w4s g0 (show j ≤ 4096 by lia), if_pos x2, Int.toNat_natCast, (k5 j hj').2.2.2.2.1, (k5 j hj').1, lt1_eq, wv0, wv1, w_k1 (show j < 1000000000 by lia)]
      by_cases d : hI h (m + 9) s = 0 ∧ mk j % 4 = 0
      · rw [if_pos d, if_neg (by decide)]
        by_cases e : mk j / 8 % 2 = 0
        · rw [if_pos e]
          refine ih (j + 1) v (by lia) (by lia) (by lia) ?_
          rw [hv]; unfold flS; rw [if_pos d.1, if_pos d.1, cF1, if_neg (by lia)]; lia
        · rw [if_neg e]
          refine ih (j + 1) (v + sz j) (by lia) (by lia) (by lia) ?_
          rw [hv]; unfold flS; rw [if_pos d.1, if_pos d.1, cF1, if_pos ⟨d.2, by lia⟩]; lia
      · rw [if_neg d, if_pos rfl]
        refine ih (j + 1) v (by lia) (by lia) (by lia) ?_
        rw [hv]; unfold flS
        by_cases e : hI h (m + 9) s = 0
        · have d2 : ¬ mk j % 4 = 0 := fun z => d ⟨e, z⟩
          rw [if_pos e, if_pos e, cF1, if_neg (fun z => d2 z.1)]; lia
        · rw [if_neg e, if_neg e]
end
section
variable {h : Hp} {m : Nat} {n : Nat → Nat} {tm sz mk : Nat → Nat → Int} {fo : Nat → Nat}
def flA (h : Hp) (m : Nat) (n : Nat → Nat) (sz mk : Nat → Nat → Int) : Nat → Int
  | 0 => 0
  | s + 1 => flA h m n sz mk s + flS h m s (ctF (mk s) (sz s) (n s))
theorem m_flight (K : ∀ s, s < 3 → PkM h m s (n s) (tm s) (sz s) (mk s) (fo s)) : f_mBook_flight m h = some (flA h m n sz mk 3, h) := by
  have bS : ∀ s, s < 3 → 0 ≤ flS h m s (ctF (mk s) (sz s) (n s)) ∧ flS h m s (ctF (mk s) (sz s) (n s)) ≤ 140000000 := fun s hs => by
    have b := ctF_0 (mk := mk s) (sz := sz s) (n := n s) (fun i hi => ((K s hs).2.2.2.2.2.2 i hi).2)
    have := (K s hs).2.2.2.1
    unfold flS; split <;> lia
  have L := (K 0 (by decide)).1.1
  have a0 := L.1
  have z1 : ¬ (m + 8 = 0) := by lia
  have b0 := bS 0 (by decide)
  have b1 := bS 1 (by decide)
  have step : ∀ (f : Nat) (s : Nat) (v : Int), s < 3 → v = flA h m n sz mk s → 0 ≤ v ∧ v ≤ 300000000 → wp (f_mBook_flight_b4_lp f m (v + flS h m s (ctF (mk s) (sz s) (n s))) ((s + 1 : Nat) : Int) h) (fun o => o = (flA h m n sz mk 3, h)) → wp (f_mBook_flight_b4_lp (f + 1) m v (s : Int) h) (fun o => o = (flA h m n sz mk 3, h)) := fun f s v hs hv hb q => by
    show wp (f_mBook_flight_b4 (f_mBook_flight_b4_lp f) m v (s : Int) h) _
    unfold f_mBook_flight_b4
    have Ks := K s hs
    have x1 : ix (s : Int) 3 := ⟨by lia, by lia⟩
    have z := ctO_fo Ks.2.2.2.2.1.2.1
    rw [if_neg (by lia), L.r0_10, if_neg z1, L.l8, if_pos x1, wp_lt1, Int.toNat_natCast, Ks.2.2.1]
    refine m_fliL Ks hb (by rw [w_k1 (by lia)]; exact q) FU (fo s) v (Nat.le_refl _) Ks.2.2.2.2.1.1 (by have := Ks.2.2.2.1; unfold FU; lia) ?_
    rw [z.2.2 (sz s)]; unfold flS; split <;> lia
  have g : wp (f_mBook_flight_b4_lp (999999996 + 1 + 1 + 1 + 1) m 0 ((0 : Nat) : Int) h) (fun o => o = (flA h m n sz mk 3, h)) := by
    refine step _ 0 0 (by decide) rfl ⟨by decide, by decide⟩ ?_
    refine step _ 1 _ (by decide) rfl ⟨by lia, by lia⟩ ?_
    refine step _ 2 _ (by decide) rfl ⟨by lia, by lia⟩ ?_
    show wp (f_mBook_flight_b4 _ m _ ((3 : Nat) : Int) h) _
    unfold f_mBook_flight_b4
    rw [if_pos (by decide), wp_some]; rfl
  obtain ⟨o, e, q⟩ := g
  show f_mBook_flight_b4_lp FU m 0 0 h = _
  rw [q] at e; exact e
end
section
variable {h : Hp} {m s n : Nat} {tm sz mk : Nat → Int} {fo k e : Nat}
/-- what finding leaves as it was: list 2 s + b, entry e -/
def FdF (h h' : Hp) (m s k b e : Nat) : Prop := OnI h h' ∧ ∀ x y, ¬ (x = m + 4 ∧ y = 4096 * s + k) → ¬ (x = m + 8 ∧ y = s) → ¬ (x = m + 12 ∧ y = 4096 * (2 * s + b) + e) → ¬ (x = m + 13 ∧ y = 2 * s + b) → hI h' x y = hI h x y
theorem m_findL {b : Nat} (hk : k < n) (f : Nat) : ∀ (j : Nat) (h' : Hp), j ≤ n → n - j < f → FdF h h' m s k b e → hI h' (m + 8) s = (j : Int) → MBk h m → s < 3 → hI h' (m + 1) s = (n : Int) → n ≤ 4096 → (∀ i, i < n → hI h' (m + 4) (4096 * s + i) = mk i % 4) → (∀ i, i < j → mk i % 4 ≠ 0) → wp (f_mBook_find_b55_lp f m (s : Int) h') (fun o => FdF h o m s k b e ∧ (∀ x y, ¬ (x = m + 8 ∧ y = s) → hI o x y = hI h' x y) ∧ ∃ fo' : Nat, hI o (m + 8) s = (fo' : Int) ∧ FoP n mk fo') := by
  induction f with
  | zero => intro j h' _ hf; lia
  | succ f ih =>
    intro j h' hj hf F g1 L g0 g2 g3 g4 g5
    show wp (f_mBook_find_b55 (f_mBook_find_b55_lp f) m (s : Int) h') _
    unfold f_mBook_find_b55
    have a0 := L.1
    have L' : MBk h' m := L.of F.1.r F.1.l
    have z1 : ¬ (m + 8 = 0) := by lia
    have z2 : ¬ (m + 1 = 0) := by lia
    have z3 : ¬ (m + 4 = 0) := by lia
    have x1 : ix (s : Int) 3 := ⟨by lia, by lia⟩
    simp only [L'.r0_10, L'.r0_3, L'.r0_6, L'.l8, L'.l1, L'.l4, if_neg z1, if_neg z2, if_neg z3, if_pos x1, Int.toNat_natCast, g1, g2, w4s g0 (show j ≤ 4096 by lia), lt1_eq, w_k1 (show j < 1000000000 by lia)]
    by_cases c : (n : Int) ≤ j
    · rw [if_pos c, wp_some]
      exact ⟨F, fun _ _ _ => rfl, j, g1, hj, g5, fun z => by lia⟩
    · have x2 : ix ((4096 * s + j : Nat) : Int) 12288 := ⟨by lia, by lia⟩
      rw [if_neg c]
      simp only [if_pos x2, g4 j (by lia)]
      by_cases d : mk j % 4 = 0
      · rw [if_pos d, wp_some]
        exact ⟨F, fun _ _ _ => rfl, j, g1, hj, g5, fun _ => d⟩
      · rw [if_neg d]
        refine wp_of (ih (j + 1) _ (by lia) (by lia) ⟨F.1.s, fun x y q1 q2 q3 q4 => by rw [hI_sI, if_neg q2]; exact F.2 x y q1 q2 q3 q4⟩ (by rw [hI_sI, if_pos ⟨rfl, rfl⟩]) L g0 (by rw [hI_sI, if_neg (by lia)]; exact g2) g3 (fun i hi => by rw [hI_sI, if_neg (by lia)]; exact g4 i hi) (fun i hi => ?_)) (fun o _ q => ?_)
        · by_cases c : i = j
          · rw [c]; exact d
          · exact g5 i (by lia)
        · exact ⟨q.1, fun x y hy => by rw [q.2.1 x y hy, hI_sI, if_neg hy], q.2.2⟩
theorem m_find {b : Nat} {st : Int} (K : PkM h m s n tm sz mk fo) (hk : k < n) (hm : mk k % 4 = 0) (hb : b < 2) (hs : st = ((b + 1 : Nat) : Int)) (he : e < 4096) (g : hI h (m + 13) (2 * s + b) = (e : Int)) : wp (f_mBook_find m (s : Int) (k : Int) st h) (fun o => FdF h o m s k b e ∧ hI o (m + 13) (2 * s + b) = ((e + 1 : Nat) : Int) ∧ hI o (m + 12) (4096 * (2 * s + b) + e) = (k : Int) ∧ ∃ fo', PkM o m s n tm sz (up1 mk k (mk k + st)) fo') := by
  have K' := K
  obtain ⟨⟨L, g0⟩, k1, k2, k3, k4, k5, k6⟩ := K
  have a0 := L.1
  have z1 : ¬ (m + 4 = 0) := by lia
  have z2 : ¬ (m + 13 = 0) := by lia
  have z3 : ¬ (m + 12 = 0) := by lia
  have w1 : w32 (w32 (w32 (2 * (s : Int)) + st) - 1) = ((2 * s + b : Nat) : Int) := by rw [hs]; unfold w32; lia
  have w2 : w32 (w32 (4096 * ((2 * s + b : Nat) : Int)) + (e : Int)) = ((4096 * (2 * s + b) + e : Nat) : Int) := by unfold w32; lia
  have x1 : ix ((4096 * s + k : Nat) : Int) 12288 := ⟨by lia, by lia⟩
  have x2 : ix ((2 * s + b : Nat) : Int) 6 := ⟨by lia, by lia⟩
  have x3 : ix ((4096 * (2 * s + b) + e : Nat) : Int) 24576 := ⟨by lia, by lia⟩
  have i1 : i8 (i8 st) = st := by rw [hs]; unfold i8; lia
  have i2 : i16 (i16 (k : Int)) = (k : Int) := by unfold i16; lia
  have r1 : hI (sI h (m + 4) (4096 * s + k) st) (m + 13) (2 * s + b) = (e : Int) := by rw [hI_sI, if_neg (by lia)]; exact g
  have r2 : hI (sI (sI h (m + 4) (4096 * s + k) st) (m + 12) (4096 * (2 * s + b) + e) (k : Int)) (m + 13) (2 * s + b) = (e : Int) := by rw [hI_sI, if_neg (by lia)]; exact r1
  unfold f_mBook_find
  simp only [lt1_eq, w1, hR_sI, ln_sI, L.r0_6, L.r0_16, L.r0_15, L.l4, L.l13, L.l12, if_neg z1, if_neg z2, if_neg z3, w4s g0 (show k ≤ 4096 by lia), if_pos x1, if_pos x2, Int.toNat_natCast, i1, r1, w2, if_pos x3, i2, r2, w_k1 (show e < 1000000000 by lia)]
  generalize eh : sI (sI (sI h (m + 4) (4096 * s + k) st) (m + 12) (4096 * (2 * s + b) + e) (k : Int)) (m + 13) (2 * s + b) ((e + 1 : Nat) : Int) = h2
  have rd : ∀ x y, hI h2 x y = if x = m + 13 ∧ y = 2 * s + b then ((e + 1 : Nat) : Int) else if x = m + 12 ∧ y = 4096 * (2 * s + b) + e then (k : Int) else if x = m + 4 ∧ y = 4096 * s + k then st else hI h x y := fun x y => by rw [← eh, hI_sI, hI_sI, hI_sI]
  have F2 : FdF h h2 m s k b e := ⟨by rw [← eh]; exact OnI.refl.s.s.s, fun x y q1 q2 q3 q4 => by rw [rd, if_neg q4, if_neg q3, if_neg q1]⟩
  have um : ∀ i, i < n → hI h2 (m + 4) (4096 * s + i) = up1 mk k (mk k + st) i % 4 := fun i hi => by
    rw [rd, if_neg (by lia), if_neg (by lia)]
    unfold up1
    by_cases c : i = k
    · rw [if_pos ⟨rfl, by lia⟩, if_pos c, hs]; lia
    · rw [if_neg (by lia), if_neg c]; exact (k5 i hi).2.2.1
  have fl : ∀ i, i < fo → up1 mk k (mk k + st) i % 4 ≠ 0 := fun i hi => by
    unfold up1
    by_cases c : i = k
    · rw [if_pos c]; lia
    · rw [if_neg c]; exact k4.2.1 i hi
  refine wp_of (m_findL (h := h) (m := m) (s := s) (n := n) (mk := up1 mk k (mk k + st)) (k := k) (e := e) (b := b) hk FU fo h2 k4.1 (by unfold FU; lia) F2 (by rw [rd, if_neg (by lia), if_neg (by lia), if_neg (by lia)]; exact k2) L g0 (by rw [rd, if_neg (by lia), if_neg (by lia), if_neg (by lia)]; exact k1) k3 um fl) (fun o _ q => ?_)
  obtain ⟨q1, q2, fo', q3, q4⟩ := q
  refine ⟨q1, by rw [q2 _ _ (by lia), rd, if_pos ⟨rfl, rfl⟩], by rw [q2 _ _ (by lia), rd, if_neg (by lia), if_pos ⟨rfl, rfl⟩], fo', ⟨L.of q1.1.r q1.1.l, g0⟩, by rw [q2 _ _ (by lia), rd, if_neg (by lia), if_neg (by lia), if_neg (by lia)]; exact k1, q3, k3, q4, fun i hi => ?_, fun i hi => ?_⟩
  · have v := k5 i hi
    have d : ∀ x, (x = m + 2 ∨ x = m + 3 ∨ x = m + 5 ∨ x = m + 6 ∨ x = m + 7) → hI o x (4096 * s + i) = hI h x (4096 * s + i) := fun x hx => by rw [q2 _ _ (by lia), rd, if_neg (by lia), if_neg (by lia), if_neg (by lia)]
    have u : up1 mk k (mk k + st) i / 4 = mk i / 4 := by
      unfold up1
      by_cases c : i = k
      · rw [if_pos c, c, hs]; lia
      · rw [if_neg c]
    have u8 : up1 mk k (mk k + st) i / 8 = mk i / 8 := by lia
    have u16 : up1 mk k (mk k + st) i / 16 = mk i / 16 := by lia
    rw [d (m + 2) (by lia), d (m + 3) (by lia), d (m + 5) (by lia), d (m + 6) (by lia), d (m + 7) (by lia), q2 (m + 4) _ (by lia), um i hi, u, u8, u16]
    exact ⟨v.1, v.2.1, rfl, v.2.2.2.1, v.2.2.2.2.1, v.2.2.2.2.2⟩
  · refine ⟨?_, (k6 i hi).2⟩
    unfold up1
    by_cases c : i = k
    · rw [if_pos c, hs]; have := (k6 k hk).1; lia
    · rw [if_neg c]; exact (k6 i hi).1
end
