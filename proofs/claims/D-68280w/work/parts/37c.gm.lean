/-! the greeting, model: a message goes out -/
section
variable {h h' : Hp} {e S : Nat} {s : GSt}
/-- of whom a message's bytes are: random, own, proof -/
def sMsgB (t own : Nat) (R O P : Nat → Int) : Nat → Int := fun j => if t < 8 then (if j < 32 then R j else O (j - 32)) else if t = 8 then O j else P j
def sMsgN (t own : Nat) : Nat := if t = 1 then 32 + own else if t = 8 then own else 32
section
variable {l z t own : Nat} {v2 v4 : Int} {F : Nat → Int}
theorem m_gs88 (L : MGr h e) (hl : l < 2) (ht : t < 8) (hz : z + 36 ≤ 1024) (hF : ∀ j, j < 32 → hI h (e + 2) j = F (4 + j)) (f : Nat) : ∀ k, k ≤ 32 → 32 - k < f → f_mGreet_says_b88_lp f e (t : Int) v2 (l : Int) v4 (k : Int) (RB h (e + 5) l (e + 4) (1024 * l + z) z (4 + k) F) = f_mGreet_says_b119 e (t : Int) v2 (l : Int) v4 (RB h (e + 5) l (e + 4) (1024 * l + z) z 36 F) := by
  have l0 := L.1
  induction f with
  | zero => intro k h1 h2; lia
  | succ f ih =>
    intro k h1 h2
    show f_mGreet_says_b88 (f_mGreet_says_b88_lp f) e (t : Int) v2 (l : Int) v4 (k : Int) _ = _
    unfold f_mGreet_says_b88
    by_cases c : k = 32
    · subst c
      rw [if_pos (by decide)]
    · have L1 : MGr (RB h (e + 5) l (e + 4) (1024 * l + z) z (4 + k) F) e := L.of rfl rfl
      have ew : w32 ((k : Int) + 1) = ((k + 1 : Nat) : Int) := by unfold w32; lia
      rw [if_neg (show ¬ 32 ≤ (k : Int) by lia), if_neg (show ¬ 8 ≤ (t : Int) by lia), L1.r0_3, if_neg (by lia), L1.l2, if_pos (show ix (k : Int) 32 from ⟨by lia, by lia⟩), Int.toNat_natCast, m_gsnd L hl (by lia) (by rw [hI_RB, if_neg (by lia), if_neg (by lia)]; exact hF k (by lia)), b1_some, ew]
      exact ih (k + 1) (by lia) (by lia)
theorem m_gs122 {n0 : Nat} (L : MGr h e) (hl : l < 2) (ht : t = 1 ∨ t = 8) (ho : hI h e 5 = (own : Int)) (o3 : own ≤ 300) (hz : z + n0 + own ≤ 1024) (hF : ∀ j, j < own → hI h (e + 3) j = F (n0 + j)) (f : Nat) : ∀ k, k ≤ own → own - k < f → f_mGreet_says_b122_lp f e (t : Int) v2 (l : Int) v4 (k : Int) (RB h (e + 5) l (e + 4) (1024 * l + z) z (n0 + k) F) = f_mGreet_says_b160 e (t : Int) v2 (l : Int) v4 (RB h (e + 5) l (e + 4) (1024 * l + z) z (n0 + own) F) := by
  have l0 := L.1
  induction f with
  | zero => intro k h1 h2; lia
  | succ f ih =>
    intro k h1 h2
    show f_mGreet_says_b122 (f_mGreet_says_b122_lp f) e (t : Int) v2 (l : Int) v4 (k : Int) _ = _
    have io : hI (RB h (e + 5) l (e + 4) (1024 * l + z) z (n0 + k) F) e 5 = (own : Int) := by rw [hI_RB, if_neg (by lia), if_neg (by lia), ho]
    unfold f_mGreet_says_b122
    rw [io]
    by_cases c : k = own
    · subst c
      rw [if_pos (Int.le_refl _)]
    · have L1 : MGr (RB h (e + 5) l (e + 4) (1024 * l + z) z (n0 + k) F) e := L.of rfl rfl
      have ew : w32 ((k : Int) + 1) = ((k + 1 : Nat) : Int) := by unfold w32; lia
      have go : f_mGreet_says_b142 (f_mGreet_says_b122_lp f) e (t : Int) v2 (l : Int) v4 (k : Int) (RB h (e + 5) l (e + 4) (1024 * l + z) z (n0 + k) F) = f_mGreet_says_b160 e (t : Int) v2 (l : Int) v4 (RB h (e + 5) l (e + 4) (1024 * l + z) z (n0 + own) F) := by
        unfold f_mGreet_says_b142
        rw [L1.r0_4, if_neg (by lia), L1.l3, if_pos (show ix (k : Int) 300 from ⟨by lia, by lia⟩), Int.toNat_natCast, m_gsnd L hl (by lia) (by rw [hI_RB, if_neg (by lia), if_neg (by lia)]; exact hF k (by lia)), b1_some, ew]
        exact ih (k + 1) (by lia) (by lia)
      rw [if_neg (show ¬ (own : Int) ≤ (k : Int) by lia)]
      rcases ht with q | q
      · rw [if_pos (show (t : Int) = 1 by lia)]; exact go
      · rw [if_neg (show ¬ (t : Int) = 1 by lia), if_neg (show ¬ ((t : Int) ≠ 8) by lia)]; exact go
theorem m_gs163 {n0 : Nat} (L : MGr h e) (hl : l < 2) (hz : z + n0 + 32 ≤ 1024) (hF : ∀ j, j < 32 → hI h (e + 13) j = F (n0 + j)) (f : Nat) : ∀ k, k ≤ 32 → 32 - k < f → f_mGreet_says_b163_lp f e 20 v2 (l : Int) v4 (k : Int) (RB h (e + 5) l (e + 4) (1024 * l + z) z (n0 + k) F) = f_mGreet_says_b194 e v2 (l : Int) v4 (RB h (e + 5) l (e + 4) (1024 * l + z) z (n0 + 32) F) := by
  have l0 := L.1
  induction f with
  | zero => intro k h1 h2; lia
  | succ f ih =>
    intro k h1 h2
    show f_mGreet_says_b163 (f_mGreet_says_b163_lp f) e 20 v2 (l : Int) v4 (k : Int) _ = _
    unfold f_mGreet_says_b163
    by_cases c : k = 32
    · subst c
      rw [if_pos (by decide)]
    · have L1 : MGr (RB h (e + 5) l (e + 4) (1024 * l + z) z (n0 + k) F) e := L.of rfl rfl
      have ew : w32 ((k : Int) + 1) = ((k + 1 : Nat) : Int) := by unfold w32; lia
      rw [if_neg (show ¬ 32 ≤ (k : Int) by lia), if_neg (fun q => q rfl), L1.r0_21, if_neg (by lia), L1.l13, if_pos (show ix (k : Int) 32 from ⟨by lia, by lia⟩), Int.toNat_natCast, m_gsnd L hl (by lia) (by rw [hI_RB, if_neg (by lia), if_neg (by lia)]; exact hF k (by lia)), b1_some, ew]
      exact ih (k + 1) (by lia) (by lia)
/-- what was sent is noted -/
theorem m_gs198 {tz n : Nat} (L : MGr h e) (hl : l < 2) (hv : v2 ≠ 0) (hs : hI h (e + 5) l = ((z + n : Nat) : Int)) (hz : z + n ≤ 1024) (htz : tz + n ≤ 1024) (hF : ∀ j, j < n → hI h (e + 4) (1024 * l + z + j) = F j) (f : Nat) : ∀ k, k ≤ n → n - k < f → f_mGreet_says_b198_lp f e v2 (l : Int) ((z + k : Nat) : Int) (RB h e 16 (e + 9) tz tz k F) = some (RB h e 16 (e + 9) tz tz n F) := by
  have l0 := L.1
  induction f with
  | zero => intro k h1 h2; lia
  | succ f ih =>
    intro k h1 h2
    show f_mGreet_says_b198 (f_mGreet_says_b198_lp f) e v2 (l : Int) ((z + k : Nat) : Int) _ = _
    have L1 : MGr (RB h e 16 (e + 9) tz tz k F) e := L.of rfl rfl
    have xl : ix (l : Int) 2 := ⟨by lia, by lia⟩
    have i5 : hI (RB h e 16 (e + 9) tz tz k F) (e + 5) l = ((z + n : Nat) : Int) := by rw [hI_RB, if_neg (by lia), if_neg (by lia), hs]
    unfold f_mGreet_says_b198
    rw [L1.r0_10, if_neg (by lia), L1.l5, if_pos xl, Int.toNat_natCast, i5]
    by_cases c : k = n
    · subst c
      rw [if_pos (Int.le_refl _)]
    · have ew : w32 (((z + k : Nat) : Int) + 1) = ((z + (k + 1) : Nat) : Int) := by unfold w32; lia
      have e1 : w32 (w32 (1024 * (l : Int)) + ((z + k : Nat) : Int)) = ((1024 * l + z + k : Nat) : Int) := by unfold w32; lia
      rw [if_neg (show ¬ ((z + n : Nat) : Int) ≤ ((z + k : Nat) : Int) by lia), if_neg hv, L1.r0_9, if_neg (by lia), e1, L1.l4, if_pos (show ix ((1024 * l + z + k : Nat) : Int) 2048 from ⟨by lia, by lia⟩), Int.toNat_natCast, m_gnote L (by lia) (by rw [hI_RB, if_neg (by lia), if_neg (by lia)]; exact hF k (by lia)), b1_some, ew]
      exact ih (k + 1) (by lia) (by lia)
theorem m_gs198n (hv : v2 = 0) (L : MGr h e) (hl : l < 2) {f : Nat} : f_mGreet_says_b198_lp (f + 1) e v2 (l : Int) v4 h = some h := by
  have l0 := L.1
  show f_mGreet_says_b198 (f_mGreet_says_b198_lp f) e v2 (l : Int) v4 h = _
  unfold f_mGreet_says_b198
  rw [L.r0_10, if_neg (by lia), L.l5, if_pos (show ix (l : Int) 2 from ⟨by lia, by lia⟩)]
  by_cases c : hI h (e + 5) (Int.toNat (l : Int)) ≤ v4
  · rw [if_pos c]
  · rw [if_neg c, if_pos hv]
end
/-- types 1, 2, 8, 20; noted or not -/
theorem m_gsays {l t n : Nat} {v2 : Int} {B : Nat → Int} (G : GM h e S s) (V : GV s) (t0 : s.1 12 = 0) (el : l = if t < 8 then 0 else 1) (ht : t = 1 ∨ t = 2 ∨ t = 8 ∨ t = 20) (en : n = sMsgN t (s.1 1).toNat)
    (hB : ∀ j, j < n → B j = sMsgB t (s.1 1).toNat (s.2 1) (s.2 2) (fun j => hI h (e + 13) j) j) (hBv : ∀ j, j < n → 0 ≤ B j ∧ B j < 256) (z1 : s.1 (8 + l) + (4 + n) ≤ 1024) (tz1 : s.1 7 + (4 + n) ≤ 1024) :
    ∃ h', f_mGreet_says e (t : Int) v2 h = some h' ∧ GM h' e S (if v2 = 0 then sSend s l t n B else sSays s l t n B) ∧ FX (inE S e) h h' := by
  obtain ⟨LG, LS, M, eS, Se⟩ := G.1
  have l0 := LG.1
  have v1 := V.2.1
  have hl : l < 2 := by rw [el]; split <;> decide
  have v8 := V.2.2.2.2.1 (8 + l) (by lia) (by lia)
  have v7 := V.2.2.2.2.1 7 (by decide) (by decide)
  obtain ⟨z, ez⟩ : ∃ z, z = (s.1 (8 + l)).toNat := ⟨_, rfl⟩
  obtain ⟨tz, etz⟩ : ∃ tz, tz = (s.1 7).toNat := ⟨_, rfl⟩
  obtain ⟨own, eo⟩ : ∃ own, own = (s.1 1).toNat := ⟨_, rfl⟩
  rw [← eo] at en hB
  obtain ⟨F, eF⟩ : ∃ F, F = sBody t n B := ⟨_, rfl⟩
  have n2 : n ≤ 332 := by rw [en]; unfold sMsgN; split; lia; split <;> lia
  have io : hI h e 5 = (own : Int) := by
    have := G.i (k := 1) (by decide) (fun z => by lia) (x := 0) (y := 5) rfl rfl
    rw [Nat.add_zero] at this; rw [this]; lia
  have m8 : gMc (8 + l) = 5 ∧ gMs (8 + l) = l ∧ gMr (8 + l - 4) = 4 ∧ gMo (8 + l - 4) = 1024 * l := by rcases (show l = 0 ∨ l = 1 by lia) with rfl | rfl <;> exact ⟨rfl, rfl, rfl, rfl⟩
  have iz : hI h (e + 5) l = (z : Int) := by
    have := G.i (k := 8 + l) (by lia) (fun z => by lia) m8.1 m8.2.1
    rw [this]; lia
  have FB : ∀ j, F (4 + j) = B j := fun j => by rw [eF]; unfold sBody; rw [if_neg (by lia), if_neg (by lia), if_neg (by lia), if_neg (by lia)]; exact congrArg B (by lia)
  have G1 := G.app (k := 8 + l) (N := 4 + n) (F := F) V (by lia) (by lia)
  rw [m8.1, m8.2.1, m8.2.2.1, m8.2.2.2, ← ez] at G1
  have V1 : GV (sApp s (8 + l) (4 + n) F) := V.app (by lia) (by lia) (by rw [eF]; exact sBody_lt (by lia) (by lia) hBv)
  have e17 : (sApp s (8 + l) (4 + n) F).1 7 = s.1 7 := sApp_ne (by omega)
  have G2 := G1.app (k := 7) (N := 4 + n) (F := F) V1 (by decide) (by rw [e17]; lia)
  rw [e17, show gMc 7 = 0 from rfl, show gMs 7 = 16 from rfl, show gMr (7 - 4) = 9 from rfl, show gMo (7 - 4) = 0 from rfl, ← etz, Nat.zero_add, Nat.add_zero] at G2
  obtain ⟨h1, eh1⟩ : ∃ h1, h1 = RB h (e + 5) l (e + 4) (1024 * l + z) z (4 + n) F := ⟨_, rfl⟩
  rw [← eh1] at G1 G2
  have L1 := G1.1.1
  have F1 : FX (inE S e) h h1 := by rw [eh1]; exact FX.RB (by lia) (by lia)
  have st : RB h (e + 5) l (e + 4) (1024 * l + z) z 0 F = h := RB_0 iz
  have xl : ix (l : Int) 2 := ⟨by lia, by lia⟩
  have hd : f_mGreet_says e (t : Int) v2 h = f_mGreet_says_b88_lp FU e (t : Int) v2 (l : Int) (z : Int) 0 (RB h (e + 5) l (e + 4) (1024 * l + z) z 4 F) := by
    have e8 : iShr (n : Int) 8 = F 2 := by
      have := iShr_eq (x := (n : Int)) ⟨by lia, by lia⟩ (n := 8) (by decide)
      rw [show ((8 : Nat) : Int) = 8 from rfl] at this
      rw [this, eF]; show (n : Int) / 2 ^ 8 = (n : Int) / 256; rfl
    have e25 : iAnd (n : Int) 255 = F 3 := by
      rw [iAnd_mask (n := 8) (by decide) (by decide), eF]; rfl
    have b50 : f_mGreet_says_b50 e (t : Int) v2 (l : Int) (z : Int) (n : Int) h = f_mGreet_says_b88_lp FU e (t : Int) v2 (l : Int) (z : Int) 0 (RB h (e + 5) l (e + 4) (1024 * l + z) z 4 F) := by
      have p0 := m_gsnd (h := h) (e := e) (l := l) (z := z) (n := 0) (F := F) (v := (t : Int)) LG hl (by lia) (by rw [eF]; rfl)
      have p1 := m_gsnd (h := h) (e := e) (l := l) (z := z) (n := 1) (F := F) (v := 0) LG hl (by lia) (by rw [eF]; rfl)
      have p2 := m_gsnd (h := h) (e := e) (l := l) (z := z) (n := 2) (F := F) (v := iShr (n : Int) 8) LG hl (by lia) e8
      have p3 := m_gsnd (h := h) (e := e) (l := l) (z := z) (n := 3) (F := F) (v := iAnd (n : Int) 255) LG hl (by lia) e25
      rw [st] at p0
      unfold f_mGreet_says_b50
      rw [p0, b1_some, p1, b1_some, p2, b1_some, p3, b1_some]
    have b11 : f_mGreet_says_b11 e (t : Int) v2 (l : Int) h = f_mGreet_says_b50 e (t : Int) v2 (l : Int) (z : Int) (n : Int) h := by
      have ew : w32 (32 + (own : Int)) = ((32 + own : Nat) : Int) := by unfold w32; lia
      unfold f_mGreet_says_b11
      rw [LG.r0_10, if_neg (by lia), LG.l5, if_pos xl, Int.toNat_natCast, iz, lt1_eq, io, ew]
      rcases ht with q | q | q | q
      · rw [if_neg (show ¬ ((t : Int) ≠ 1) by lia), en]; unfold sMsgN; rw [if_pos q]
      · rw [if_pos (show (t : Int) ≠ 1 by lia), if_pos (show (t : Int) ≠ 8 by lia), en]; unfold sMsgN; rw [if_neg (by lia), if_neg (by lia)]; rfl
      · rw [if_pos (show (t : Int) ≠ 1 by lia), if_neg (show ¬ ((t : Int) ≠ 8) by lia), en]; unfold sMsgN; rw [if_neg (by lia), if_pos q]
      · rw [if_pos (show (t : Int) ≠ 1 by lia), if_pos (show (t : Int) ≠ 8 by lia), en]; unfold sMsgN; rw [if_neg (by lia), if_neg (by lia)]; rfl
    rw [← b50, ← b11]
    unfold f_mGreet_says
    by_cases c : t < 8
    · rw [if_neg (show ¬ 8 ≤ (t : Int) by lia), el, if_pos c]; rfl
    · rw [if_pos (show 8 ≤ (t : Int) by lia), el, if_neg c]; rfl
  obtain ⟨FF, hF, F9⟩ : ∃ FF, FF + 1 = FU ∧ 1024 ≤ FF := ⟨FU - 1, by decide, by decide⟩
  have r1 : t < 8 → ∀ j, j < 32 → j < n → hI h (e + 2) j = B j := fun q j hj hn => by
    rw [hB j hn]; unfold sMsgB; rw [if_pos q, if_pos hj]
    have := G.b (r := 1) (by decide) (gHas_o (by decide)) (j := j) (by rw [gLn_32 (by decide)]; exact hj) (x := 2) (o := 0) rfl rfl
    rw [Nat.zero_add] at this; exact this
  have ro : ∀ j, j < own → hI h (e + 3) j = s.2 2 j := fun j hj => by
    have := G.b (r := 2) (by decide) (gHas_o (by decide)) (j := j) (by rw [gLn_2, ← eo]; exact hj) (x := 3) (o := 0) rfl rfl
    rw [Nat.zero_add] at this; exact this
  have mid : f_mGreet_says_b88_lp FU e (t : Int) v2 (l : Int) (z : Int) 0 (RB h (e + 5) l (e + 4) (1024 * l + z) z 4 F) = f_mGreet_says_b194 e v2 (l : Int) (z : Int) h1 := by
    have s88 : t < 8 → 36 ≤ 4 + n → f_mGreet_says_b88_lp FU e (t : Int) v2 (l : Int) (z : Int) 0 (RB h (e + 5) l (e + 4) (1024 * l + z) z 4 F) = f_mGreet_says_b122_lp FU e (t : Int) v2 (l : Int) (z : Int) 0 (RB h (e + 5) l (e + 4) (1024 * l + z) z 36 F) := fun q q2 => by
      have := m_gs88 (h := h) (e := e) (l := l) (z := z) (t := t) (v2 := v2) (v4 := (z : Int)) (F := F) LG hl q (by lia) (fun j hj => by rw [FB]; exact r1 q j hj (by lia)) (FF + 1) 0 (by decide) (by lia)
      rw [hF] at this
      exact this
    have n88 : ∀ g : Hp, 8 ≤ t → f_mGreet_says_b88_lp FU e (t : Int) v2 (l : Int) (z : Int) 0 g = f_mGreet_says_b122_lp FU e (t : Int) v2 (l : Int) (z : Int) 0 g := fun g q => by
      rw [← hF]
      show f_mGreet_says_b88 (f_mGreet_says_b88_lp FF) e (t : Int) v2 (l : Int) (z : Int) 0 g = _
      unfold f_mGreet_says_b88
      rw [if_neg (by decide), if_pos (show 8 ≤ (t : Int) by lia)]
      unfold f_mGreet_says_b119
      rw [← hF]
    have n122 : ∀ g : Hp, t ≠ 1 → t ≠ 8 → f_mGreet_says_b122_lp FU e (t : Int) v2 (l : Int) (z : Int) 0 g = f_mGreet_says_b163_lp FU e (t : Int) v2 (l : Int) (z : Int) 0 g := fun g q1 q8 => by
      have : f_mGreet_says_b122_lp (FF + 1) e (t : Int) v2 (l : Int) (z : Int) 0 g = f_mGreet_says_b160 e (t : Int) v2 (l : Int) (z : Int) g := by
        show f_mGreet_says_b122 (f_mGreet_says_b122_lp FF) e (t : Int) v2 (l : Int) (z : Int) 0 g = _
        unfold f_mGreet_says_b122
        by_cases c : hI g e 5 ≤ 0
        · rw [if_pos c]
        · rw [if_neg c, if_neg (show ¬ (t : Int) = 1 by lia), if_pos (show (t : Int) ≠ 8 by lia)]
      rw [hF] at this
      exact this
    have s122 : ∀ n0, (t = 1 ∨ t = 8) → n0 + own = 4 + n → (∀ j, j < own → F (n0 + j) = s.2 2 j) → f_mGreet_says_b122_lp FU e (t : Int) v2 (l : Int) (z : Int) 0 (RB h (e + 5) l (e + 4) (1024 * l + z) z n0 F) = f_mGreet_says_b163_lp FU e (t : Int) v2 (l : Int) (z : Int) 0 h1 := fun n0 q q2 q3 => by
      have := m_gs122 (h := h) (e := e) (l := l) (z := z) (t := t) (own := own) (v2 := v2) (v4 := (z : Int)) (F := F) (n0 := n0) LG hl q io (by lia) (by lia) (fun j hj => by rw [q3 j hj]; exact ro j hj) (FF + 1) 0 (by lia) (by lia)
      rw [hF, Nat.add_zero, q2, ← eh1] at this
      exact this
    have n163 : ∀ g : Hp, t ≠ 20 → f_mGreet_says_b163_lp FU e (t : Int) v2 (l : Int) (z : Int) 0 g = f_mGreet_says_b194 e v2 (l : Int) (z : Int) g := fun g q => by
      rw [← hF]
      show f_mGreet_says_b163 (f_mGreet_says_b163_lp FF) e (t : Int) v2 (l : Int) (z : Int) 0 g = _
      unfold f_mGreet_says_b163
      rw [if_neg (by decide), if_pos (show (t : Int) ≠ 20 by lia)]
    rcases ht with q | q | q | q
    · have nn : n = 32 + own := by rw [en]; unfold sMsgN; rw [if_pos q]
      rw [s88 (by lia) (by lia), s122 36 (Or.inl q) (by lia) (fun j hj => by
        have := FB (32 + j)
        rw [show 4 + (32 + j) = 36 + j by lia] at this
        rw [this, hB _ (by lia)]; unfold sMsgB; rw [if_pos (by lia), if_neg (by lia)]; exact congrArg (s.2 2) (by lia)), n163 _ (by lia)]
    · have nn : n = 32 := by rw [en]; unfold sMsgN; rw [if_neg (by lia), if_neg (by lia)]
      rw [s88 (by lia) (by lia), n122 _ (by lia) (by lia), n163 _ (by lia), eh1, nn]
    · have nn : n = own := by rw [en]; unfold sMsgN; rw [if_neg (by lia), if_pos q]
      rw [n88 _ (by lia), s122 4 (Or.inr q) (by lia) (fun j hj => by rw [FB, hB _ (by lia)]; unfold sMsgB; rw [if_neg (by lia), if_pos q]), n163 _ (by lia)]
    · have nn : n = 32 := by rw [en]; unfold sMsgN; rw [if_neg (by lia), if_neg (by lia)]
      have := m_gs163 (h := h) (e := e) (l := l) (z := z) (v2 := v2) (v4 := (z : Int)) (F := F) (n0 := 4) LG hl (by lia) (fun j hj => by rw [FB, hB _ (by lia)]; unfold sMsgB; rw [if_neg (by lia), if_neg (by lia)]) (FF + 1) 0 (by decide) (by lia)
      rw [hF, Nat.add_zero, show 4 + 32 = 4 + n by lia, ← eh1] at this
      rw [n88 _ (by lia), n122 _ (by lia) (by lia), q]
      exact this
  rw [hd, mid]
  unfold f_mGreet_says_b194
  rw [← hF]
  by_cases c : v2 = 0
  · rw [if_pos c]
    exact ⟨h1, m_gs198n c L1 hl, by have := G1; rw [eF] at this; exact this, F1⟩
  · rw [if_neg c]
    have i7 : hI h1 e 16 = (tz : Int) := by
      have := G1.i (k := 7) (by decide) (fun _ => (sApp_ne (by omega)).trans t0) (x := 0) (y := 16) rfl rfl
      rw [Nat.add_zero, e17] at this; rw [this]; lia
    have st1 : RB h1 e 16 (e + 9) tz tz 0 F = h1 := RB_0 i7
    have := m_gs198 (h := h1) (e := e) (l := l) (z := z) (tz := tz) (n := 4 + n) (v2 := v2) (F := F) L1 hl c (by rw [eh1, hI_RB, if_pos ⟨rfl, rfl⟩]) (by lia) (by lia) (fun j hj => by rw [eh1, hI_RB, if_neg (by lia), if_pos ⟨rfl, by lia, by lia⟩]; exact congrArg F (by lia)) (FF + 1) 0 (by lia) (by lia)
    rw [st1, Nat.add_zero] at this
    refine ⟨_, this, ?_, F1.tr (FX.RB (by lia) (by lia))⟩
    rw [Nat.add_zero] at G2
    rw [eF] at G2 ⊢
    exact G2
end
