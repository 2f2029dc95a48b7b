/-! the greeting, class: rows grow, numbers change, messages are sent -/
section
variable {h h' : Hp} {g : Nat} {s : GSt}
theorem gc_rk : ∀ k, k < 12 → k ≠ 6 → ∀ r, r < 16 → gCr r ≠ gCc k := by decide
theorem gc_s1 : ∀ k, k < 12 → 7 ≤ k → gCs k = 1 := by decide
theorem gHas_up {k r : Nat} {v : Int} {f : Nat → Nat → Int} (hk : k ≠ 6 ∧ k ≠ 12) : gHas (up1 s.1 k v, f) r ↔ gHas s r := by
  exact gHas_eq (up1_ne (by omega)) (up1_ne (by omega))
theorem GC.app {k N : Nat} {F : Nat → Int} (G : GC h g s) (hk : 7 ≤ k ∧ k < 12) (V : 0 ≤ s.1 k) : GC (RB h (g + gCc k) 1 (g + gCr (k - 4)) (s.1 k).toNat (s.1 k).toNat N (fun j => i8 (F j))) g (sApp s k N F) := by
  obtain ⟨X, g1, g2, g3⟩ := G
  obtain ⟨z, ez⟩ : ∃ z, z = (s.1 k).toNat := ⟨_, rfl⟩
  rw [← ez]
  have FF : FX (fun x => x = g + gCc k ∨ x = g + gCr (k - 4)) h (RB h (g + gCc k) 1 (g + gCr (k - 4)) z z N (fun j => i8 (F j))) := FX.RB (Or.inl rfl) (Or.inr rfl)
  have c42 : g + 42 ≠ g + gCc k ∧ g + 42 ≠ g + gCr (k - 4) := by
    have := gc_0 k (by lia) (by lia)
    have := gc_r (k - 4) (by lia)
    lia
  refine ⟨X.fx' FF (fun x q => by lia), fun k' h1 h2 h3 => ?_, ?_, fun r hr hh j hj => ?_⟩
  · show hI _ _ _ = up1 s.1 k (s.1 k + N) k'
    have nr := gc_rk k' h1 h2 (k - 4) (by lia)
    rw [hI_RB]
    by_cases c : k' = k
    · subst c
      rw [if_pos ⟨rfl, gc_s1 k' h1 hk.1⟩, up1_eq]; lia
    · have := gc_kk k' h1 h2 k hk.2 (by lia) c
      rw [gc_s1 k hk.2 hk.1] at this
      rw [if_neg (fun e => this ⟨by lia, e.2⟩), if_neg (fun e => nr (by lia)), up1_ne c]
      exact g1 k' h1 h2 (fun e => by have q : up1 s.1 k (s.1 k + N) 12 = 0 := h3 e; rw [up1_ne (by omega)] at q; exact q)
  · show gLv _ g = up1 s.1 k (s.1 k + N) 6 ∧ _
    rw [up1_ne (by lia), gLv_fx FF (by lia)]
    refine ⟨g2.1, fun k' hk' => by rw [FF.i (by lia)]; exact g2.2 k' hk'⟩
  · have hh' : gHas s r := (gHas_up (s := s) (k := k) (by lia)).1 hh
    have nr := gc_rk k hk.2 (by lia) r hr
    rw [hI_RB, if_neg (fun e => nr (by lia))]
    show _ = i8 (if r + 4 = k ∧ (s.1 k).toNat ≤ j then F (j - (s.1 k).toNat) else s.2 r j)
    rw [← ez]
    by_cases c : r + 4 = k
    · have ln1 : gLn (sApp s k N F) r = z + N := by
        rw [gLn_num (by lia), c]
        show (up1 s.1 k (s.1 k + N) k).toNat = _
        rw [up1_eq]; lia
      rw [ln1] at hj
      by_cases d : z ≤ j
      · rw [if_pos ⟨by rw [show k - 4 = r by lia], d, hj⟩, if_pos ⟨c, d⟩]
      · rw [if_neg (by lia), if_neg (by lia)]
        exact g3 r hr hh' j (by rw [gLn_num (by lia), c]; lia)
    · have := gc_rr r hr (k - 4) (by lia) (by lia)
      rw [if_neg (fun e => this (by lia)), if_neg (fun e => c e.1)]
      refine g3 r hr hh' j ?_
      have e : gLn (sApp s k N F) r = gLn s r := gLn_eq (fun _ => up1_ne (by omega)) (fun _ => up1_ne (by omega)) (fun _ => up1_ne c)
      rw [e] at hj; exact hj
theorem GC.num {k : Nat} {v : Int} (G : GC h g s) (hk : k < 12 ∧ k ≠ 6) (hl : ∀ r, gLn (sNum s k v) r ≤ gLn s r) : GC (sI h (g + gCc k) (gCs k) v) g (sNum s k v) := by
  obtain ⟨X, g1, g2, g3⟩ := G
  have FF : FX (fun x => x = g + gCc k) h (sI h (g + gCc k) (gCs k) v) := FX.sI rfl
  have c42 : g + 42 ≠ g + gCc k := by have := gc_0 k hk.1 hk.2; lia
  refine ⟨X.fx' FF (fun x q => by lia), fun k' h1 h2 h3 => ?_, ?_, fun r hr hh j hj => ?_⟩
  · show hI _ _ _ = up1 s.1 k v k'
    rw [hI_sI]
    by_cases c : k' = k
    · rw [c, if_pos ⟨rfl, rfl⟩, up1_eq]
    · have := gc_kk k' h1 h2 k hk.1 hk.2 c
      rw [if_neg (fun e => this ⟨by lia, e.2⟩), up1_ne c]
      exact g1 k' h1 h2 (fun e => by have q : up1 s.1 k v 12 = 0 := h3 e; rw [up1_ne (by omega)] at q; exact q)
  · show gLv _ g = up1 s.1 k v 6 ∧ _
    rw [up1_ne (by lia), gLv_fx FF (by lia)]
    refine ⟨g2.1, fun k' hk' => by rw [FF.i (by lia)]; exact g2.2 k' hk'⟩
  · have hh' : gHas s r := (gHas_up (s := s) (k := k) (by lia)).1 hh
    have nr := gc_rk k hk.1 hk.2 r hr
    rw [hI_sI, if_neg (fun e => nr (by lia))]
    exact g3 r hr hh' j (Nat.lt_of_lt_of_le hj (hl r))
theorem gLn_nm {k : Nat} {v : Int} (hk : k ≠ 1 ∧ k ≠ 5 ∧ (k < 7 ∨ 12 ≤ k)) (r : Nat) : gLn (sNum s k v) r ≤ gLn s r := Nat.le_of_eq (gLn_up hk)
theorem gLn_n0 {k : Nat} (hk : 7 ≤ k ∧ k < 12) (r : Nat) : gLn (sNum s k 0) r ≤ gLn s r := by
  by_cases c : r + 4 = k
  · rw [gLn_num (by omega)]
    have e : (sNum s k 0).1 (r + 4) = 0 := by rw [c]; exact up1_eq
    rw [e]; exact Nat.zero_le _
  · exact Nat.le_of_eq (gLn_eq (fun _ => up1_ne (by omega)) (fun _ => up1_ne (by omega)) (fun _ => up1_ne c))
theorem GC.gho (G : GC h g s) (F : FX (fun x => x = g + 23 ∨ x = g + 24) h h') : GC h' g (sNum s 12 1) := by
  have e12 : (sNum s 12 1).1 12 = 1 := sNum_eq
  refine G.st F (fun x q => by have := G.1.1.1; lia) (fun k hk k6 k7 => Or.inl ⟨?_, sNum_ne (by omega), fun e => ?_⟩) (G.lv F (by omega) (sNum_ne (by decide))) (fun r hr hh => Or.inl ⟨?_, ?_, gLn_nm (by decide) r, rfl⟩)
  · by_cases c : k = 7
    · have := k7 c; lia
    · have := (by decide : ∀ k, k < 12 → k = 7 ∨ (gCc k ≠ 23 ∧ gCc k ≠ 24)) k hk; omega
  · have := k7 e; lia
  · by_cases c : r = 3
    · have := hh.2 c; lia
    · have := (by decide : ∀ r, r < 16 → r = 3 ∨ (gCr r ≠ 23 ∧ gCr r ≠ 24)) r hr; omega
  · refine ⟨fun e => ?_, fun e => ?_⟩
    · exact hh.1 e
    · have := hh.2 e; lia
theorem GC.i {k : Nat} (G : GC h g s) (hk : k < 12) (k6 : k ≠ 6) (k7 : k = 7 → s.1 12 = 0) {x y : Nat} (ex : gCc k = x) (ey : gCs k = y) : hI h (g + x) y = s.1 k := by rw [← ex, ← ey]; exact G.2.1 k hk k6 k7
theorem GC.b {r j : Nat} (G : GC h g s) (hr : r < 16) (hh : gHas s r) (hj : j < gLn s r) {x : Nat} (ex : gCr r = x) : hI h (g + x) j = i8 (s.2 r j) := by rw [← ex]; exact G.2.2.2 r hr hh j hj
theorem gHas_o {r : Nat} (h : r ≠ 3 ∧ r ≠ 10 ∧ r ≠ 11) : gHas s r := ⟨fun z => by lia, fun z => by lia⟩
/-- a message goes out: its bytes lie in rows a and bb -/
theorem c_gsays {l t n na a bb : Nat} {B : Nat → Int} (G : GC h g s) (V : GV s) (t0 : s.1 12 = 0) (hl : l < 2) (a0 : a ≠ 0) (b0 : bb ≠ 0) (az : a ≠ g + 23 ∧ a ≠ g + 24 ∧ a ≠ g + 26 + 2 * l ∧ a ≠ g + 27 + 2 * l) (bz : bb ≠ g + 23 ∧ bb ≠ g + 24 ∧ bb ≠ g + 26 + 2 * l ∧ bb ≠ g + 27 + 2 * l)
    (nn : na ≤ n) (n1 : n < 65536) (al : na ≤ ln h a) (bl : n - na ≤ ln h bb) (hA : ∀ j, j < na → hI h a j = i8 (B j)) (hB : ∀ j, j < n - na → hI h bb j = i8 (B (na + j))) (z1 : s.1 (8 + l) + (4 + n) ≤ 1024) (tz1 : s.1 7 + (4 + n) ≤ 1024) :
    ∃ h', f_cGreeting_sends g (l : Int) (t : Int) a (na : Int) bb ((n - na : Nat) : Int) h = some h' ∧ GC h' g (sSays s l t n B) ∧ GC h' g (sNum (sSend s l t n B) 12 1) ∧ FX (fun x => x = g + 23 ∨ x = g + 24 ∨ x = g + 26 + 2 * l ∨ x = g + 27 + 2 * l) h h' := by
  have v8 := V.2.2.2.2.1 (8 + l) (by lia) (by lia)
  have v7 := V.2.2.2.2.1 7 (by decide) (by decide)
  have c8 : gCc (8 + l) = 26 + 2 * l ∧ gCr (8 + l - 4) = 27 + 2 * l := by rcases (show l = 0 ∨ l = 1 by lia) with rfl | rfl <;> exact ⟨rfl, rfl⟩
  have G1 := G.app (k := 8 + l) (N := 4 + n) (F := sBody t n B) (by lia) v8.1
  have e7 : (sSend s l t n B).1 7 = s.1 7 := sApp_ne (by omega)
  have G2 := GC.app (s := sSend s l t n B) (k := 7) (N := 4 + n) (F := sBody t n B) G1 (by decide) (by rw [e7]; exact v7.1)
  rw [e7, c8.1, c8.2, show g + (26 + 2 * l) = g + 26 + 2 * l by lia, show g + (27 + 2 * l) = g + 27 + 2 * l by lia] at G2
  rw [c8.1, c8.2, show g + (26 + 2 * l) = g + 26 + 2 * l by lia, show g + (27 + 2 * l) = g + 27 + 2 * l by lia] at G1
  refine ⟨_, c_gsends (h := h) (g := g) (l := l) (t := t) (n := n) (na := na) (a := a) (bb := bb) (z := (s.1 (8 + l)).toNat) (tz := (s.1 7).toNat) (B := B) G.1.1 hl a0 b0 az bz nn n1 al bl hA hB ?_ ?_ (by lia) (by lia), G2, ?_, ?_⟩
  · have := G.i (k := 8 + l) (by lia) (by lia) (fun z => by lia) c8.1 (gc_s1 _ (by lia) (by lia))
    rw [show g + (26 + 2 * l) = g + 26 + 2 * l by lia] at this
    rw [this]; lia
  · have := G.i (k := 7) (by lia) (by lia) (fun _ => t0) (x := 23) (y := 1) rfl rfl
    rw [this]; lia
  · exact G1.gho (FX.RB (Or.inl rfl) (Or.inr rfl))
  · exact FX.tr (FX.RB (by lia) (by lia)) (FX.RB (by lia) (by lia))
theorem c_gtold {l n : Nat} (G : GC h g s) (V : GV s) (t0 : s.1 12 = 0) (hl : l < 2) (hn : s.1 (10 + l) = n) (z1 : s.1 7 + n ≤ 1024) : ∃ h', f_cRow_add (g + 23) (g + 32 + 2 * l) 0 (n : Int) h = some h' ∧ GC h' g (sApp s 7 n (s.2 (6 + l))) ∧ FX (fun x => x = g + 23 ∨ x = g + 24) h h' := by
  have L := G.1.1
  have v7 := V.2.2.2.2.1 7 (by decide) (by decide)
  have v10 := V.2.2.2.2.1 (10 + l) (by lia) (by lia)
  have i7 := G.i (k := 7) (by lia) (by lia) (fun _ => t0) (x := 23) (y := 1) rfl rfl
  have G1 := G.app (k := 7) (N := n) (F := s.2 (6 + l)) (by lia) v7.1
  have lw : ln h (g + 32 + 2 * l) = 1024 := by rcases (show l = 0 ∨ l = 1 by lia) with rfl | rfl; exact L.l32; exact L.l34
  have st : RB h (g + 23) 1 (g + 24) (s.1 7).toNat (s.1 7).toNat 0 (fun j => i8 (s.2 (6 + l) j)) = h := RB_0 (by rw [i7]; lia)
  have p := c_radd (h := h) (y := g + 23) (b := g + 24) (z := (s.1 7).toNat) (n := 0) (m := n) (src := g + 32 + 2 * l) (sp := 0) (F := fun j => i8 (s.2 (6 + l) j)) (by lia) (by lia) (by lia) L.r23_0 (by rw [L.l24]; lia) (by lia) (by lia) (fun j hj => by
    rw [st, Nat.zero_add]
    have := G.b (r := 6 + l) (by lia) (gHas_o (by lia)) (by rw [gLn_num (by lia), show 6 + l + 4 = 10 + l by lia, hn]; exact hj) (x := 32 + 2 * l) (by rcases (show l = 0 ∨ l = 1 by lia) with rfl | rfl <;> rfl)
    rw [show g + 32 + 2 * l = g + (32 + 2 * l) by lia]; exact this)
  rw [st, Nat.zero_add] at p
  exact ⟨_, p, G1, FX.RB (Or.inl rfl) (Or.inr rfl)⟩
theorem c_gkeep {l p n : Nat} (G : GC h g s) (V : GV s) (hl : l < 2) (hn : n ≤ 300) (hp : (p : Int) + n ≤ s.1 (10 + l)) : ∃ h', f_cGreeting_keep g (g + 31 + 2 * l) (p : Int) (n : Int) h = some h' ∧ GC h' g (sKeep s l p n) ∧ FX (fun x => x = g ∨ x = g + 48) h h' := by
  have L := G.1.1
  have l0 := L.1
  have v10 := V.2.2.2.2.1 (10 + l) (by lia) (by lia)
  have ry : hR h (g + 31 + 2 * l) 0 = g + 32 + 2 * l := by rcases (show l = 0 ∨ l = 1 by lia) with rfl | rfl; exact L.r31_0; exact L.r33_0
  have lw : ln h (g + 32 + 2 * l) = 1024 := by rcases (show l = 0 ∨ l = 1 by lia) with rfl | rfl; exact L.l32; exact L.l34
  have FF : FX (fun x => x = g ∨ x = g + 48) h (sI (cpI h (g + 32 + 2 * l) p (g + 48) 0 n) g 18 (n : Int)) := FX.tr (FX.cI (Or.inr rfl)) (FX.sI (Or.inl rfl))
  refine ⟨sI (cpI h (g + 32 + 2 * l) p (g + 48) 0 n) g 18 (n : Int), ?_, ?_, FF⟩
  · unfold f_cGreeting_keep
    rw [if_neg (by lia), ry, if_neg (by lia), L.r0_17, if_neg (by lia), lw, L.l48, if_pos ⟨by lia, by lia, by lia, by lia, by lia⟩, lt1_eq, lt1_eq]
    rfl
  · refine G.st FF (fun x q => by lia) (fun k hk k6 k7 => ?_) (G.lv FF (by omega) rfl) (fun r hr hh => ?_)
    · right
      show _ = up1 s.1 5 n k
      rw [hI_sI, hI_cI]
      by_cases c : k = 5
      · subst c; rw [if_pos ⟨rfl, rfl⟩, up1_eq]
      · have q : ¬ (gCc k = 0 ∧ gCs k = 18) ∧ gCc k ≠ 48 := by
          have := (by decide : ∀ k, k < 12 → k = 6 ∨ k = 5 ∨ (¬ (gCc k = 0 ∧ gCs k = 18) ∧ gCc k ≠ 48)) k hk
          rcases this with z | z | z
          · exact absurd z k6
          · exact absurd z c
          · exact z
        rw [if_neg (fun e => q.1 ⟨by lia, e.2⟩), if_neg (fun e => q.2 (by lia)), up1_ne c]
        exact G.2.1 k hk k6 (fun e => k7 e)
    · by_cases c : r = 8
      · subst c
        right; intro j hj
        rw [gLn_8] at hj
        have hj' : j < n := by
          have : (sKeep s l p n).1 5 = n := by show up1 s.1 5 _ 5 = _; exact up1_eq
          lia
        show hI _ (g + 48) j = i8 (s.2 (6 + l) (p + j))
        rw [hI_sI, if_neg (by lia), hI_cI, if_pos ⟨rfl, by lia, by lia⟩, Nat.sub_zero]
        have := G.b (r := 6 + l) (j := p + j) (by lia) (gHas_o (by lia)) (by rw [gLn_num (by lia), show 6 + l + 4 = 10 + l by lia]; lia) (x := 32 + 2 * l) (by rcases (show l = 0 ∨ l = 1 by lia) with rfl | rfl <;> rfl)
        rw [show g + 32 + 2 * l = g + (32 + 2 * l) by lia]; exact this
      · left
        refine ⟨?_, ?_, ?_, ?_⟩
        · have := (by decide : ∀ r, r < 16 → r = 8 ∨ (gCr r ≠ 0 ∧ gCr r ≠ 48)) r hr; omega
        · exact (gHas_up (s := s) (k := 5) (by decide)).1 hh
        · exact Nat.le_of_eq (gLn_eq (fun _ => rfl) (fun z => absurd z c) (fun _ => up1_ne (by omega)))
        · funext j
          show (if r = 8 then s.2 (6 + l) (p + j) else s.2 r j) = s.2 r j
          rw [if_neg c]
theorem c_gfails {w : Int} (G : GC h g s) : ∃ h', f_cGreeting_fails g w h = some (w, h') ∧ GC h' g (sFail s w) ∧ FX (fun x => x = g ∨ x = g + 31 ∨ x = g + 33) h h' := by
  have L := G.1.1
  have l0 := L.1
  have G1 := G.num (k := 4) (v := w) (by decide) (gLn_nm (by decide))
  have G2 := G1.num (k := 2) (v := 0) (by decide) (gLn_nm (by decide))
  have G3 := G2.num (k := 10) (v := 0) (by decide) (gLn_n0 (by decide))
  have G4 := G3.num (k := 11) (v := 0) (by decide) (gLn_n0 (by decide))
  refine ⟨_, ?_, G4, ?_⟩
  · unfold f_cGreeting_fails f_cRow_clear
    have L2 : LGr (sI (sI h g 19 w) g 20 0) g := L.of rfl rfl
    have L3 : LGr (sI (sI (sI h g 19 w) g 20 0) (g + 31) 1 0) g := L.of rfl rfl
    rw [lt1_eq, lt1_eq, L2.r0_9, if_neg (by lia), L2.l30, if_pos (by decide), show Int.toNat 0 = 0 from rfl, L2.r30_0, if_neg (by lia), lt1_eq, b1_some, L3.r0_9, if_neg (by lia), L3.l30, if_pos (by decide), show Int.toNat 1 = 1 from rfl, L3.r30_1, if_neg (by lia), lt1_eq, b1_some]
    rfl
  · exact FX.tr (FX.tr (FX.tr (FX.sI (Or.inl rfl)) (FX.sI (Or.inl rfl))) (FX.sI (Or.inr (Or.inl rfl)))) (FX.sI (Or.inr (Or.inr rfl)))
end
