/-! the book: packets of a space of the class -/
/-- the cells of space s at p, told by numbers -/
def SpW (h : Hp) (p s : Nat) (w : Nat → Nat) : Prop := w p = 10 * s + 11 ∧ w (hR h p 0) = 10 * s + 12 ∧ w (hR h p 1) = 10 * s + 13 ∧ w (hR h p 2) = 10 * s + 14 ∧ w (p + 4) = 10 * s + 15 ∧ w (hR h (p + 4) 0) = 10 * s + 16 ∧ w (p + 6) = 10 * s + 17 ∧ w (hR h (p + 6) 0) = 10 * s + 18 ∧ w (p + 8) = 10 * s + 19 ∧ w (p + 9) = 10 * s + 19 ∧ w (p + 10) = 10 * s + 19 ∧ w 0 = 0
def PkC (h : Hp) (p n : Nat) (tm sz mk : Nat → Int) (fo : Nat) : Prop := hI h p 3 = (n : Int) ∧ hI h p 9 = (fo : Int) ∧ n ≤ 4096 ∧ FoP n mk fo ∧ (n ≤ ln h (hR h p 0) ∧ ln h (hR h p 1) = ln h (hR h p 0) ∧ ln h (hR h p 2) = ln h (hR h p 0) ∧ 1 ≤ ln h (hR h p 0)) ∧ (∀ k, k < n → hI h (hR h p 0) k = tm k ∧ hI h (hR h p 1) k = sz k ∧ hI h (hR h p 2) k = mk k) ∧ (∀ k, k < n → (0 ≤ mk k ∧ mk k < 32) ∧ 0 ≤ sz k ∧ sz k < 32768)
section
variable {h : Hp} {p s n : Nat} {tm sz mk : Nat → Int} {fo k : Nat} {w : Nat → Nat} {a b : Nat}
theorem wne (e : w a ≠ w b) : a ≠ b := fun z => e (congrArg w z)
theorem c_is (W : SpW h p s w) (K : PkC h p n tm sz mk fo) (hk : k < n) {b : Int} (hb : b = 4 ∨ b = 8 ∨ b = 16) : f_cSpace_is p (k : Int) b h = some (mk k / b % 2, h) := by
  obtain ⟨k1, k2, k3, k4, ⟨k5, k6, k7⟩, k8, k9⟩ := K
  unfold f_cSpace_is
  have x1 : ix (k : Int) (ln h (hR h p 2)) := ⟨by lia, by lia⟩
  have z : hR h p 2 ≠ 0 := wne (w := w) (by rw [W.2.2.2.1, W.2.2.2.2.2.2.2.2.2.2.2]; lia)
  rw [if_neg z, if_pos x1, Int.toNat_natCast, (k8 k hk).2.2]
  have q := mk_and (k9 k hk).1
  rcases hb with rfl | rfl | rfl
  · by_cases c : mk k / 4 % 2 = 0
    · rw [if_pos (q.2.1.mpr c), c]
    · rw [if_neg (fun z => c (q.2.1.mp z)), show mk k / 4 % 2 = 1 by lia]
  · by_cases c : mk k / 8 % 2 = 0
    · rw [if_pos (q.2.2.1.mpr c), c]
    · rw [if_neg (fun z => c (q.2.2.1.mp z)), show mk k / 8 % 2 = 1 by lia]
  · by_cases c : mk k / 16 % 2 = 0
    · rw [if_pos (q.2.2.2.1.mpr c), c]
    · rw [if_neg (fun z => c (q.2.2.2.1.mp z)), show mk k / 16 % 2 = 1 by lia]
theorem c_state (W : SpW h p s w) (K : PkC h p n tm sz mk fo) (hk : k < n) (d : hI h p 10 = 0) : f_cSpace_state p (k : Int) h = some (mk k % 4, h) := by
  obtain ⟨k1, k2, k3, k4, ⟨k5, k6, k7⟩, k8, k9⟩ := K
  unfold f_cSpace_state
  have x1 : ix (k : Int) (ln h (hR h p 2)) := ⟨by lia, by lia⟩
  have z : hR h p 2 ≠ 0 := wne (w := w) (by rw [W.2.2.2.1, W.2.2.2.2.2.2.2.2.2.2.2]; lia)
  rw [if_pos d, if_neg z, if_pos x1, Int.toNat_natCast, (k8 k hk).2.2, (mk_and (k9 k hk).1).1]
/-- what settling leaves as it was -/
def StF (h h' : Hp) (p k : Nat) : Prop := OnI h h' ∧ ∀ x y, ¬ (x = hR h p 2 ∧ y = k) → ¬ (x = p ∧ (y = 4 ∨ y = 5 ∨ y = 9)) → hI h' x y = hI h x y
theorem c_settL (W : SpW h p s w) (hk : k < n) (f : Nat) : ∀ (j : Nat) (h' : Hp), j ≤ n → n - j < f → StF h h' p k → hI h' p 3 = (n : Int) → hI h' p 9 = (j : Int) → n ≤ 4096 → (n ≤ ln h (hR h p 0) ∧ ln h (hR h p 1) = ln h (hR h p 0) ∧ ln h (hR h p 2) = ln h (hR h p 0) ∧ 1 ≤ ln h (hR h p 0)) → (∀ i, i < n → hI h' (hR h p 0) i = tm i ∧ hI h' (hR h p 1) i = sz i ∧ hI h' (hR h p 2) i = mk i) → (∀ k, k < n → (0 ≤ mk k ∧ mk k < 32) ∧ 0 ≤ sz k ∧ sz k < 32768) → (∀ i, i < j → mk i % 4 ≠ 0) → wp (f_cSpace_settle_b47_lp f p (k : Int) h') (fun o => o.1 = (if mk k / 8 % 2 = 1 then sz k else 0) ∧ StF h o.2 p k ∧ hI o.2 p 4 = hI h' p 4 ∧ hI o.2 p 5 = hI h' p 5 ∧ ∃ fo', PkC o.2 p n tm sz mk fo') := by
  induction f with
  | zero => intro j h' _ hf; lia
  | succ f ih =>
    intro j h' hj hf F g1 g2 g3 g4 g5 g6 g7
    show wp (f_cSpace_settle_b47 (f_cSpace_settle_b47_lp f) p (k : Int) h') _
    unfold f_cSpace_settle_b47
    obtain ⟨w1, w2, w3, w4, w5, w6, w7, w8, w9, w10, w11, w0⟩ := W
    have z1 : hR h p 1 ≠ 0 := wne (w := w) (by rw [w3, w0]; lia)
    have z2 : hR h p 2 ≠ 0 := wne (w := w) (by rw [w4, w0]; lia)
    have p0 : hR h p 0 ≠ p := wne (w := w) (by rw [w2, w1]; lia)
    have p1 : hR h p 1 ≠ p := wne (w := w) (by rw [w3, w1]; lia)
    have p2 : hR h p 2 ≠ p := wne (w := w) (by rw [w4, w1]; lia)
    have fin : (j < n → mk j % 4 = 0) → wp (f_cSpace_settle_b85 p (k : Int) h') (fun o => o.1 = (if mk k / 8 % 2 = 1 then sz k else 0) ∧ StF h o.2 p k ∧ hI o.2 p 4 = hI h' p 4 ∧ hI o.2 p 5 = hI h' p 5 ∧ ∃ fo', PkC o.2 p n tm sz mk fo') := fun e => by
      have K : PkC h' p n tm sz mk j := ⟨g1, g2, g3, ⟨hj, g7, e⟩, by rw [F.1.r, F.1.l]; exact g4, by rw [F.1.r]; exact g5, g6⟩
      have W' : SpW h' p s w := by unfold SpW; rw [F.1.r]; exact ⟨w1, w2, w3, w4, w5, w6, w7, w8, w9, w10, w11, w0⟩
      unfold f_cSpace_settle_b85
      rw [c_is W' K hk (b := 8) (by decide), b2_some, F.1.r, F.1.l]
      have x1 : ix (k : Int) (ln h (hR h p 1)) := ⟨by lia, by lia⟩
      by_cases c : mk k / 8 % 2 = 0
      · rw [if_pos c, wp_some, if_neg (by lia)]
        exact ⟨rfl, F, rfl, rfl, j, K⟩
      · rw [if_neg c, if_neg z1, if_pos x1, wp_some, if_pos (by lia), Int.toNat_natCast]
        exact ⟨(g5 k hk).2.1, F, rfl, rfl, j, K⟩
    rw [g1, g2]
    by_cases c : (n : Int) ≤ j
    · rw [if_pos c]; exact fin (by lia)
    · have x2 : ix (j : Int) (ln h (hR h p 2)) := ⟨by lia, by lia⟩
      have q := (mk_and (g6 j (by lia)).1).1
      rw [if_neg c, F.1.r, if_neg z2, F.1.l, if_pos x2, Int.toNat_natCast, (g5 j (by lia)).2.2, q]
      by_cases c2 : mk j % 4 = 0
      · rw [if_pos c2]; exact fin (fun _ => c2)
      · rw [if_neg c2, wp_lt1, w_k1 (by lia)]
        refine wp_of (ih (j + 1) _ (by lia) (by lia) ⟨F.1.s, fun x y q1 q2 => by rw [hI_sI, if_neg (by lia)]; exact F.2 x y q1 q2⟩ (by rw [hI_sI, if_neg (by lia)]; exact g1) (by rw [hI_sI, if_pos ⟨rfl, rfl⟩]) g3 g4 (fun i hi => ?_) g6 (fun i hi => ?_)) (fun o _ q => ?_)
        · rw [hI_sI, if_neg (fun z => p0 z.1), hI_sI, if_neg (fun z => p1 z.1), hI_sI, if_neg (fun z => p2 z.1)]; exact g5 i hi
        · by_cases e : i = j
          · rw [e]; exact c2
          · exact g7 i (by lia)
        · obtain ⟨q1, q2, q3, q4, q5⟩ := q
          rw [hI_sI, if_neg (by lia)] at q3 q4
          exact ⟨q1, q2, q3, q4, q5⟩
theorem c_settle {st : Int} (W : SpW h p s w) (K : PkC h p n tm sz mk fo) (hk : k < n) (hm : mk k % 4 = 0) (hs : st = 1 ∨ st = 2) (g4 : hI h p 4 = ctO mk n) (g5 : hI h p 5 = ctE mk n) : wp (f_cSpace_settle p (k : Int) st h) (fun o => o.1 = (if mk k / 8 % 2 = 1 then sz k else 0) ∧ StF h o.2 p k ∧ hI o.2 p 4 = ctO (up1 mk k (mk k + st)) n ∧ hI o.2 p 5 = ctE (up1 mk k (mk k + st)) n ∧ ∃ fo', PkC o.2 p n tm sz (up1 mk k (mk k + st)) fo') := by
  have W' := W
  obtain ⟨k1, k2, k3, k4, ⟨k5, k6, k7⟩, k8, k9⟩ := K
  obtain ⟨w1, w2, w3, w4, w5, w6, w7, w8, w9, w10, w11, w0⟩ := W
  have z2 : hR h p 2 ≠ 0 := wne (w := w) (by rw [w4, w0]; lia)
  have p0 : hR h p 0 ≠ p := wne (w := w) (by rw [w2, w1]; lia)
  have p1 : hR h p 1 ≠ p := wne (w := w) (by rw [w3, w1]; lia)
  have p2 : hR h p 2 ≠ p := wne (w := w) (by rw [w4, w1]; lia)
  have p3 : hR h p 0 ≠ hR h p 2 := wne (w := w) (by rw [w2, w4]; lia)
  have p4 : hR h p 1 ≠ hR h p 2 := wne (w := w) (by rw [w3, w4]; lia)
  have x1 : ix (k : Int) (ln h (hR h p 2)) := ⟨by lia, by lia⟩
  have q := mk_and (k9 k hk).1
  have em : i8 (i8 (iOr (iAnd (mk k) (-4)) st)) = mk k + st := by
    rcases hs with rfl | rfl
    · exact (q.2.2.2.2 hm).1
    · exact (q.2.2.2.2 hm).2
  have b0 := ctO_0 mk n
  have b1 := ctE_0 mk n
  have um : up1 mk k (mk k + st) k = mk k + st := by unfold up1; rw [if_pos rfl]
  have u1 := ctO_up (v := mk k + st) hm (by lia) n
  have u2 := ctE_up (v := mk k + st) hm (by lia) n
  unfold f_cSpace_settle
  simp only [if_neg z2, if_pos x1, Int.toNat_natCast, (k8 k hk).2.2, em, lt1_eq]
  have e1 : hI (sI h (hR h p 2) k (mk k + st)) p 4 = ctO mk n := by rw [hI_sI, if_neg (fun z => p2 z.1.symm)]; exact g4
  rw [e1]
  generalize eh : sI (sI h (hR h p 2) k (mk k + st)) p 4 (w32 (ctO mk n - 1)) = h5
  have F5 : StF h h5 p k := by
    rw [← eh]
    exact ⟨OnI.refl.s.s, fun x y q1 q2 => by rw [hI_sI, if_neg (by lia), hI_sI, if_neg q1]⟩
  have K5 : ∀ i, i < n → hI h5 (hR h p 0) i = tm i ∧ hI h5 (hR h p 1) i = sz i ∧ hI h5 (hR h p 2) i = up1 mk k (mk k + st) i := fun i hi => by
    rw [← eh, hI_sI, if_neg (fun z => p0 z.1), hI_sI, if_neg (fun z => p3 z.1), hI_sI, if_neg (fun z => p1 z.1), hI_sI, if_neg (fun z => p4 z.1), hI_sI, if_neg (fun z => p2 z.1), hI_sI]
    unfold up1
    by_cases e : i = k
    · rw [if_pos ⟨rfl, e⟩, if_pos e]; exact ⟨(k8 i hi).1, (k8 i hi).2.1, rfl⟩
    · rw [if_neg (fun z => e z.2), if_neg e]; exact k8 i hi
  have M5 : ∀ i, i < n → (0 ≤ up1 mk k (mk k + st) i ∧ up1 mk k (mk k + st) i < 32) ∧ 0 ≤ sz i ∧ sz i < 32768 := fun i hi => by
    refine ⟨?_, (k9 i hi).2⟩
    unfold up1
    by_cases e : i = k
    · rw [if_pos e]; have := (k9 k hk).1; lia
    · rw [if_neg e]; exact (k9 i hi).1
  have N5 : hI h5 p 3 = (n : Int) := by rw [← eh, hI_sI, if_neg (by lia), hI_sI, if_neg (fun z => p2 z.1.symm)]; exact k1
  have O5 : hI h5 p 9 = (fo : Int) := by rw [← eh, hI_sI, if_neg (by lia), hI_sI, if_neg (fun z => p2 z.1.symm)]; exact k2
  have c4 : hI h5 p 4 = ctO (up1 mk k (mk k + st)) n := by rw [← eh, hI_sI, if_pos ⟨rfl, rfl⟩, u1, if_pos hk, w32_id ⟨by lia, by lia⟩]
  have c5 : hI h5 p 5 = ctE mk n := by rw [← eh, hI_sI, if_neg (by lia), hI_sI, if_neg (fun z => p2 z.1.symm)]; exact g5
  have is4 : f_cSpace_is p (k : Int) 4 h5 = some (mk k / 4 % 2, h5) := by
    unfold f_cSpace_is
    rw [F5.1.r, F5.1.l, if_neg z2, if_pos x1, Int.toNat_natCast, (K5 k hk).2.2, um]
    have q2 := mk_and (M5 k hk).1
    rw [um] at q2
    by_cases c : mk k / 4 % 2 = 0
    · rw [if_pos (q2.2.1.mpr (by lia)), c]
    · rw [if_neg (fun z => by have := q2.2.1.mp z; lia), show mk k / 4 % 2 = 1 by lia]
  rw [is4, b2_some]
  have fl : ∀ i, i < fo → up1 mk k (mk k + st) i % 4 ≠ 0 := fun i hi => by
    unfold up1
    by_cases e : i = k
    · rw [if_pos e]; lia
    · rw [if_neg e]; exact k4.2.1 i hi
  by_cases c : mk k / 4 % 2 = 0
  · rw [if_pos c]
    refine wp_of (c_settL W' hk FU fo h5 k4.1 (by unfold FU; lia) F5 N5 O5 k3 ⟨k5, k6, k7⟩ K5 M5 fl) (fun o _ r => ?_)
    obtain ⟨r1, r2, r3, r4, r5⟩ := r
    refine ⟨?_, r2, by rw [r3, c4], by rw [r4, c5, u2, if_neg (by lia)]; lia, r5⟩
    rw [r1, um]
    by_cases d : mk k / 8 % 2 = 1
    · rw [if_pos d, if_pos (by lia)]
    · rw [if_neg d, if_neg (by lia)]
  · rw [if_neg c, c5]
    have F6 : StF h (sI h5 p 5 (w32 (ctE mk n - 1))) p k := ⟨F5.1.s, fun x y q1 q2 => by rw [hI_sI, if_neg (by lia)]; exact F5.2 x y q1 q2⟩
    refine wp_of (c_settL (tm := tm) W' hk FU fo (sI h5 p 5 (w32 (ctE mk n - 1))) k4.1 (by unfold FU; lia) F6 (by rw [hI_sI, if_neg (by lia)]; exact N5) (by rw [hI_sI, if_neg (by lia)]; exact O5) k3 ⟨k5, k6, k7⟩ (fun i hi => ?_) M5 fl) (fun o _ r => ?_)
    · rw [hI_sI, if_neg (fun z => p0 z.1), hI_sI, if_neg (fun z => p1 z.1), hI_sI, if_neg (fun z => p2 z.1)]; exact K5 i hi
    · obtain ⟨r1, r2, r3, r4, r5⟩ := r
      rw [hI_sI, if_neg (by lia)] at r3
      rw [hI_sI, if_pos ⟨rfl, rfl⟩] at r4
      refine ⟨?_, r2, by rw [r3, c4], by rw [r4, u2, if_pos ⟨hk, by lia⟩, w32_id ⟨by lia, by lia⟩], r5⟩
      rw [r1, um]
      by_cases d : mk k / 8 % 2 = 1
      · rw [if_pos d, if_pos (by lia)]
      · rw [if_neg d, if_neg (by lia)]
end
