/-! streams, class: isGone, both ways -/
section
variable {h h' h1 h4 h0 : Hp} {p m n i j k x a y s : Nat} {fr c a' b' last arr v : Int} {F T X F7 T7 X7 : Nat → Int} {L : Nat → List Nat} {z z' : HSt} {S S6 S7 S6' S7' : Int → Prop} {w w' : Nat → Nat} {l : List Nat}
theorem HC.xz (C : HC h0 a w s z) (hi : i < 256) (x0 : hR h0 (a + 1) i ≠ 0) (ex : x = hR h0 (a + 1) i) (Z : GZ h0 h (a + 8) x) : hR h a 6 = a + 8 ∧ a + 8 ≠ 0 ∧ x ≠ 0 := by
  have xw : w x = 1000 + i := by rw [ex]; exact C.xw hi x0
  have l0 := C.L.1
  refine ⟨?_, by omega, by rw [ex]; exact x0⟩
  rw [((Z.keep C (y := a) (by rw [show a = a + 0 from rfl, C.W.own 0]; decide) (by rw [show a = a + 0 from rfl, C.W.own 0]; decide)).2.2 (fun t => by rw [← t, show a = a + 0 from rfl, C.W.own 0] at xw; omega)).r]
  exact C.L.rr.2.2.2.2.2.1
theorem zGm_a (j : Nat) (q : p ≤ j ∧ j < p + n) : zGm z i p n 1 j = 3 := by
  unfold zGm
  rw [if_pos q]
  split <;> rfl
theorem zGm_o (j : Nat) (q : ¬ (p ≤ j ∧ j < p + n)) : zGm z i p n arr j = zM z i j := by
  unfold zGm
  rw [if_neg q]
theorem zGm_l (j : Nat) (q : p ≤ j ∧ j < p + n) (ha : arr ≠ 1) : zGm z i p n arr j = if zM z i j = 3 then 3 else 2 := by
  unfold zGm
  rw [if_pos q, if_neg ha]
theorem GS.lim (V : HV s z) (hi : i < 256) {v : Int} (j : Int) (h : 0 ≤ j ∧ zM z i j.toNat = v) (hv : v ≠ 0) : j < zP z 2 i := by
  have v6 := ((V.S hi).2.2.2.2.2.1 j.toNat).2.2
  have v4 := (V.S hi).2.2.2.1.1
  by_cases q : zP z 3 i ≤ (j.toNat : Int)
  · have := v6.2 q; omega
  · omega
/-- arrived: the ranges -/
theorem c_gArA (C : HC h a w s z) (V : HV s z) (hi : i < 256) (x0 : hR h (a + 1) i ≠ 0) (ex : x = hR h (a + 1) i) (hn : 0 < n) (hp : ((p + n : Nat) : Int) ≤ zP z 3 i) (rN : hN h + spN h (a + 8) ≤ CN) (rZ : hZ h + spZ h (a + 8) ≤ CZ) : ∃ h4 l F7 T7 X7 S6 S7, f_cHall_isGone a x (p : Int) (n : Int) last 1 h = f_cHall_isGone_b47 a x last h4 ∧ GS h4 a x i z l F7 T7 X7 S6 S7 ∧ GZ h h4 (a + 8) x ∧ (∀ j : Nat, S6 j ↔ zGm z i p n 1 j = 2) ∧ ∀ j : Nat, S7 j ↔ zGm z i p n 1 j = 3 := by
  have v4 := (V.S hi).2.2.2.1.1
  obtain ⟨l, F, T, X, G⟩ := GS.of C V hi x0
  rw [← ex] at G
  obtain ⟨m, fr, F, T, X, L, P, ⟨c6, c7⟩, e6, e7, _, oth⟩ := G
  obtain ⟨r6, n8, xz⟩ := C.xz hi x0 ex (GZ.rf (h := h) (x := x))
  have hpn : p + n ≤ 100000 := by omega
  obtain ⟨c1, h1, a1, a2⟩ := ps_add (n := 2 + 2 * i) (a' := (p : Int)) (b' := ((p + n : Nat) : Int)) P V (by omega) (by omega) c7 ⟨by omega, by omega, by omega⟩ rN rZ
  obtain ⟨⟨l2, F2, T2, X2, G2⟩, Z2⟩ := (gs_put C hi x0 ex GZ.rf P c6 c7 e6 e7 oth).2 c1 _ h1 a2 (fun j hj => by
    rcases hj with t | t
    · exact GS.lim V hi j ((e7 j).1 t) (by decide)
    · omega)
  obtain ⟨q6, _, _⟩ := C.xz hi x0 ex Z2
  obtain ⟨m2, fr2, F2', T2', X2', L2, P2, ⟨d6, d7⟩, f6, f7, _, oth2⟩ := G2
  obtain ⟨c3, h3, a3, a4⟩ := ps_cut (n := 1 + 2 * i) (a' := (p : Int)) (b' := ((p + n : Nat) : Int)) P2 V (by omega) (by omega) d6 ⟨by omega, by omega⟩ (Nat.le_trans Z2.2.2.2.1 rN) (Nat.le_trans Z2.2.2.2.2 rZ)
  obtain ⟨G4, Z4⟩ := (gs_put C hi x0 ex Z2 P2 d6 d7 f6 f7 oth2).1 c3 _ h3 a4 (fun j hj => GS.lim V hi j ((f6 j).1 hj.1) (by decide))
  refine ⟨_, _, _, _, _, _, _, ?_, G4, Z4, fun j => ?_, fun j => ?_⟩
  · unfold f_cHall_isGone
    rw [if_neg (by decide), if_neg (by omega), if_neg xz, r6, if_neg n8, pl_w hpn, a1, b2_some, lt1_eq, q6, if_neg n8, a3, b2_some, lt1_eq]
  · rw [f6]
    simp only [Int.toNat_natCast]
    by_cases q : p ≤ j ∧ j < p + n
    · rw [zGm_a j q]
      exact ⟨fun t => absurd ⟨by omega, by omega⟩ t.2, fun t => by omega⟩
    · rw [zGm_o j q]
      exact ⟨fun t => t.1.2, fun t => ⟨⟨by omega, t⟩, fun t2 => q ⟨by omega, by omega⟩⟩⟩
  · rw [e7]
    simp only [Int.toNat_natCast]
    by_cases q : p ≤ j ∧ j < p + n
    · rw [zGm_a j q]
      exact ⟨fun _ => rfl, fun _ => Or.inr ⟨by omega, by omega⟩⟩
    · rw [zGm_o j q]
      refine ⟨fun t => t.elim (fun t => t.2) (fun t => absurd ⟨by omega, by omega⟩ q), fun t => Or.inl ⟨by omega, t⟩⟩
/-- lost: what is here goes out of what is lost again -/
theorem c_gLoop (C : HC h0 a w s z) (V : HV s z) (hi : i < 256) (x0 : hR h0 (a + 1) i ≠ 0) (ex : x = hR h0 (a + 1) i) (hn : 0 < n) (hl7 : RnL F7 T7 (-1) l) (rN : hN h0 + spN h0 (a + 8) ≤ CN) (rZ : hZ h0 + spZ h0 (a + 8) ≤ CZ) : ∀ (l2 : List Nat) (f : Nat) (kk : Int) (h : Hp) (S6 : Int → Prop), ChX X7 kk l2 → (∀ k, k ∈ l2 → k ∈ l) → GS h a x i z l F7 T7 X7 S6 S7 → GZ h0 h (a + 8) x → (∀ j, S6 j → j < zP z 2 i) → l2.length < f →
    ∃ h', f_cHall_isGone_b126_lp f a x (n : Int) last kk h = f_cHall_isGone_b186 a x last h' ∧ GS h' a x i z l F7 T7 X7 (fun j => S6 j ∧ ¬ inS F7 T7 l2 j) S7 ∧ GZ h0 h' (a + 8) x := by
  intro l2
  induction l2 with
  | nil =>
    intro f kk h S6 C2 _ G Z hS hf
    obtain ⟨f, rfl⟩ : ∃ f', f = f' + 1 := ⟨f - 1, by omega⟩
    refine ⟨h, ?_, G.st (fun j => ⟨fun t => t.1, fun t => ⟨t, inS_nil⟩⟩) (fun _ => Iff.rfl), Z⟩
    unfold f_cHall_isGone_b126_lp f_cHall_isGone_b126
    rw [if_pos (show kk = -1 from C2)]
  | cons k l2 ih =>
    intro f kk h S6 C2 sub G Z hS hf
    obtain ⟨f, rfl⟩ : ∃ f', f = f' + 1 := ⟨f - 1, by omega⟩
    obtain ⟨ek, C2'⟩ := C2
    have kl := sub k List.mem_cons_self
    obtain ⟨r6, n8, xz⟩ := C.xz hi x0 ex Z
    obtain ⟨m, fr, F, T, X, L, P, ⟨c6, c7⟩, e6, e7, ⟨el, ed⟩, oth⟩ := G
    have km : k < m := P.2.2.1.2.2.1 (2 + 2 * i) k (by rw [el]; exact kl)
    have pi := P.1.i
    have px := P.1.xk km
    have dk := ed k kl
    have vk := pi.2.2.2.2 k km
    have rg := hl7.le k kl
    obtain ⟨c3, h3, a3, a4⟩ := ps_cut (n := 1 + 2 * i) (a' := F7 k) (b' := T7 k) P V (by omega) (by omega) c6 ⟨by omega, rg.2.1⟩ (Nat.le_trans Z.2.2.2.1 rN) (Nat.le_trans Z.2.2.2.2 rZ)
    obtain ⟨G4, Z4⟩ := (gs_put C hi x0 ex Z P c6 c7 e6 e7 oth).1 c3 _ h3 a4 (fun j hj => hS j ((e6 j).1 hj.1))
    obtain ⟨q6, _, _⟩ := C.xz hi x0 ex Z4
    have G4' : GS (sI h3 x 6 c3) a x i z l F7 T7 X7 (fun j => S6 j ∧ ¬ (F7 k ≤ j ∧ j < T7 k)) S7 := by
      obtain ⟨m4, fr4, F4, T4, X4, L4, g1, g2, g3, g4, ⟨g5, g6⟩, g7⟩ := G4
      refine ⟨m4, fr4, F4, T4, X4, L4, g1, g2, fun j => (g3 j).trans ?_, g4, ⟨by rw [g5, el], fun q hq => ?_⟩, g7⟩
      · show (inS F T (L (1 + 2 * i)) j ∧ ¬ (F7 k ≤ j ∧ j < T7 k)) ↔ (S6 j ∧ ¬ (F7 k ≤ j ∧ j < T7 k))
        rw [e6 j]
      · have a := g6 q (by rw [el]; exact hq)
        have b := ed q hq
        exact ⟨a.1.trans b.1, a.2.1.trans b.2.1, a.2.2.trans b.2.2⟩
    -- the next node, read behind the cut
    have nx : ∃ hz : hR (sI h3 x 6 c3) (a + 8) 2 ≠ 0 ∧ ix (k : Int) (ln (sI h3 x 6 c3) (hR (sI h3 x 6 c3) (a + 8) 2)), hI (sI h3 x 6 c3) (hR (sI h3 x 6 c3) (a + 8) 2) k = X7 k := by
      obtain ⟨m4, fr4, F4, T4, X4, L4, g1, g2, g3, g4, ⟨g5, g6⟩, g7⟩ := G4'
      have km4 : k < m4 := g1.2.2.1.2.2.1 (2 + 2 * i) k (by rw [g5]; exact kl)
      exact ⟨⟨g1.1.i.2.2.1, (g1.1.xk km4).2.2⟩, by rw [(g1.1.i.2.2.2.2 k km4).2.2]; exact (g6 k kl).2.2⟩
    obtain ⟨⟨nx0, nx1⟩, nx2⟩ := nx
    obtain ⟨h', u1, u2, u3⟩ := ih f (X7 k) _ _ C2' (fun q hq => sub q (List.mem_cons_of_mem _ hq)) G4' Z4 (fun j hj => hS j hj.1) (by rw [List.length_cons] at hf; omega)
    refine ⟨h', ?_, u2.st (fun j => ?_) (fun _ => Iff.rfl), u3⟩
    · unfold f_cHall_isGone_b126_lp f_cHall_isGone_b126
      rw [ek, if_neg (pl_n k), if_neg (by omega), if_neg xz, r6, if_neg n8, if_neg pi.1, if_pos px.1, if_neg pi.2.1, if_pos px.2.1, Int.toNat_natCast, vk.1, vk.2.1, dk.1, dk.2.1, a3, b2_some, lt1_eq, q6, if_neg n8, if_neg nx0, if_pos nx1, nx2, lt1_eq]
      exact u1
    · rw [inS_cons]
      constructor
      · rintro ⟨t1, t2⟩
        exact ⟨⟨t1, fun t => t2 (Or.inl t)⟩, fun t => t2 (Or.inr t)⟩
      · rintro ⟨⟨t1, t2⟩, t3⟩
        exact ⟨t1, fun t => t.elim t2 t3⟩
/-- lost: the end -/
theorem c_gLost (C : HC h a w s z) (V : HV s z) (hi : i < 256) (x0 : hR h (a + 1) i ≠ 0) (ex : x = hR h (a + 1) i) (Z : GZ h h4 (a + 8) x) (G : GS h4 a x i z l F7 T7 X7 S6 S7) (ha : arr ≠ 1) (s6 : ∀ j : Nat, S6 j ↔ zGm z i p n arr j = 2) (s7 : ∀ j : Nat, S7 j ↔ zGm z i p n arr j = 3) (hl : last = 0 ∨ last = 1) : ∃ h' w', f_cHall_isGone_b186 a x last h4 = some h' ∧ HC h' a w' s (zGoS z i p n last arr) ∧ HO h a w z h' w' (zGoS z i p n last arr) := by
  obtain ⟨t0, t1, t2, t3, t8, t9, t10, t11⟩ := C.xs hi x0
  rw [← ex] at t0 t1 t2 t3 t8 t9 t10 t11
  have xz : x ≠ 0 := by rw [ex]; exact x0
  obtain ⟨g1, g2, g3, g4, g5, g6⟩ := zGoS_w (z := z) (i := i) (p := p) (n := n) (last := last) (arr := arr)
  have v5 := (V.S hi).2.2.2.2.1.2.1
  -- what is here is as it was
  have same : ctV (zGm z i p n arr) 3 (zP z 2 i).toNat = ctV (zM z i) 3 (zP z 2 i).toNat := ctV_cg (fun j _ => by
    by_cases q : p ≤ j ∧ j < p + n
    · rw [zGm_l j q ha]
      by_cases t : zM z i j = 3
      · rw [if_pos t]; exact ⟨fun _ => t, fun _ => rfl⟩
      · rw [if_neg t]; exact ⟨fun t2 => absurd t2 (by decide), fun t2 => absurd t2 t⟩
    · rw [zGm_o j q])
  have z4e : zG4 z i last arr = if last = 1 ∧ zP z 4 i ≠ 4 then 3 else zP z 4 i := by unfold zG4; rw [if_neg ha]
  have z1e : zG1 z i p n last arr = zP z 1 i := by
    unfold zG1
    rw [if_neg]
    rintro ⟨q1, q2, q3⟩
    rw [same] at q3
    refine (v5 q1).2 ⟨?_, q3⟩
    rw [z4e] at q2
    split at q2
    · omega
    · exact q2
  have z1 : zP (zGoS z i p n last arr) 1 i = zP z 1 i := by rw [← z1e]; unfold zGoS; rw [zP_uPe]
  have z4 : zP (zGoS z i p n last arr) 4 i = zG4 z i last arr := by unfold zGoS; rw [zP_uPn (by decide), zP_uPe]
  have zo : ∀ f, f ≠ 1 → f ≠ 4 → zP (zGoS z i p n last arr) f i = zP z f i := fun f f1 f4 => by unfold zGoS; rw [zP_uPn f1, zP_uPn f4]; rfl
  have k4 : ∀ k, k ≠ 6 → k ≠ 7 → hI h4 x k = hI h x k := Z.2.1
  have fin : ∀ h', OnI h4 h' → (∀ y k, y ≠ x → hI h' y k = hI h4 y k) → (∀ k, k ≠ 3 → hI h' x k = hI h4 x k) → hI h' x 3 = zG4 z i last arr → GS h' a x i z l F7 T7 X7 S6 S7 → ∃ w', HC h' a w' s (zGoS z i p n last arr) ∧ HO h a w z h' w' (zGoS z i p n last arr) := fun h' O eo ek e3 G' => by
    refine gz_end C hi x0 ex Z O eo (fun k k1 k2 => ek k (by omega)) ?_ G' (fun j => by rw [g6]; exact s6 j) (fun j => by rw [g6]; exact s7 j) g1 g2 g3 g4 g5
    unfold HCs
    rw [z1, z4, zo 2 (by decide) (by decide), zo 3 (by decide) (by decide), zo 5 (by decide) (by decide), zo 6 (by decide) (by decide), zo 7 (by decide) (by decide), zo 8 (by decide) (by decide), e3, ek 0 (by decide), ek 1 (by decide), ek 2 (by decide), ek 11 (by decide), k4 0 (by decide) (by decide), k4 1 (by decide) (by decide), k4 2 (by decide) (by decide), k4 11 (by decide) (by decide), O.j, Z.2.2.1, Z.2.2.1, Z.2.2.1]
    exact ⟨t0, t1, t2, rfl, t8, t9, t10, t11⟩
  unfold f_cHall_isGone_b186
  rcases hl with e | e
  · rw [if_pos e]
    obtain ⟨w', r1, r2⟩ := fin h4 OnI.refl (fun _ _ _ => rfl) (fun _ _ => rfl) (by rw [k4 3 (by decide) (by decide), t3, z4e, if_neg (by omega)]) G
    exact ⟨h4, w', rfl, r1, r2⟩
  · rw [if_neg (by omega), if_neg xz, k4 3 (by decide) (by decide), t3]
    by_cases q : zP z 4 i = 4
    · rw [if_pos q]
      obtain ⟨w', r1, r2⟩ := fin h4 OnI.refl (fun _ _ _ => rfl) (fun _ _ => rfl) (by rw [k4 3 (by decide) (by decide), t3, z4e, if_neg (fun t => t.2 q)]) G
      exact ⟨h4, w', rfl, r1, r2⟩
    · rw [if_neg q, lt1_eq]
      obtain ⟨w', r1, r2⟩ := fin (sI h4 x 3 3) OnI.refl.s (fun y k hy => by rw [hI_sI, if_neg (fun t => hy t.1)]) (fun k hk => by rw [hI_sI, if_neg (fun t => hk t.2)]) (by rw [hI_sI, if_pos ⟨rfl, rfl⟩, z4e, if_pos ⟨e, q⟩]) (GS.wr C hi x0 ex Z.1 (by decide) G)
      exact ⟨_, w', rfl, r1, r2⟩
theorem c_hIsGone (C : HC h a w s z) (V : HV s z) (hi : i < 256) (x0 : hR h (a + 1) i ≠ 0) (hp : ((p + n : Nat) : Int) ≤ zP z 3 i) (hl : last = 0 ∨ last = 1) (ha : arr = 0 ∨ arr = 1) (rN : hrN h a z ≤ CN) (rZ : hrZ h a z ≤ CZ) : ∃ h' w', f_cHall_isGone a (hR h (a + 1) i) (p : Int) (n : Int) last arr h = some h' ∧ HC h' a w' s (zGoS z i p n last arr) ∧ HO h a w z h' w' (zGoS z i p n last arr) := by
  obtain ⟨x, ex⟩ : ∃ x, x = hR h (a + 1) i := ⟨_, rfl⟩
  rw [← ex]
  have rN' : hN h + spN h (a + 8) ≤ CN := by unfold hrN at rN; omega
  have rZ' : hZ h + spZ h (a + 8) ≤ CZ := by unfold hrZ at rZ; omega
  have v4 := (V.S hi).2.2.2.1.1
  obtain ⟨l, F, T, X, G⟩ := GS.of C V hi x0
  rw [← ex] at G
  by_cases n0 : n = 0
  · have mm : ∀ j, zGm z i p n arr j = zM z i j := fun j => zGm_o j (by omega)
    have s6 : ∀ j : Nat, (0 ≤ (j : Int) ∧ zM z i (j : Int).toNat = 2) ↔ zGm z i p n arr j = 2 := fun j => by rw [mm, Int.toNat_natCast]; exact ⟨fun t => t.2, fun t => ⟨by omega, t⟩⟩
    have s7 : ∀ j : Nat, (0 ≤ (j : Int) ∧ zM z i (j : Int).toNat = 3) ↔ zGm z i p n arr j = 3 := fun j => by rw [mm, Int.toNat_natCast]; exact ⟨fun t => t.2, fun t => ⟨by omega, t⟩⟩
    have xz : x ≠ 0 := by rw [ex]; exact x0
    unfold f_cHall_isGone
    rcases ha with e | e
    · subst e
      rw [if_pos rfl, if_pos (by omega)]
      unfold f_cHall_isGone_b120
      rw [if_neg xz, lt1_eq]
      obtain ⟨f, hF, F9⟩ := fu_ex
      have : f_cHall_isGone_b126_lp FU a x (n : Int) last (hI h x 7) h = f_cHall_isGone_b186 a x last h := by
        rw [← hF]
        obtain ⟨f, rfl⟩ : ∃ f', f = f' + 1 := ⟨f - 1, by omega⟩
        unfold f_cHall_isGone_b126_lp f_cHall_isGone_b126
        by_cases q : hI h x 7 = -1
        · rw [if_pos q]
        · rw [if_neg q, if_pos (by omega)]
      rw [this]
      exact c_gLost C V hi x0 ex GZ.rf G (by decide) s6 s7 hl
    · subst e
      rw [if_neg (by decide), if_pos (by omega)]
      exact c_gArr C V hi x0 ex GZ.rf G s6 s7 hl
  · rcases ha with e | e
    · subst e
      obtain ⟨m, fr, F, T, X, L, P, ⟨c6, c7⟩, e6, e7, _, oth⟩ := G
      obtain ⟨r6, n8, xz⟩ := C.xz hi x0 ex (GZ.rf (h := h) (x := x))
      have hpn : p + n ≤ 100000 := by omega
      obtain ⟨c1, h1, a1, a2⟩ := ps_add (n := 1 + 2 * i) (a' := (p : Int)) (b' := ((p + n : Nat) : Int)) P V (by omega) (by omega) c6 ⟨by omega, by omega, by omega⟩ rN' rZ'
      have lim6 : ∀ j, (inS F T (L (1 + 2 * i)) j ∨ ((p : Int) ≤ j ∧ j < ((p + n : Nat) : Int))) → j < zP z 2 i := fun j hj => by
        rcases hj with t | t
        · exact GS.lim V hi j ((e6 j).1 t) (by decide)
        · omega
      obtain ⟨G2, Z2⟩ := (gs_put C hi x0 ex GZ.rf P c6 c7 e6 e7 oth).1 c1 _ h1 a2 lim6
      have ra := P.2.2.2 (2 + 2 * i) (by omega) (by omega)
      have ll := RnL.len' ra.1 (P.TT V (by omega) (by omega))
      have c7' : ChX X (hI (sI h1 x 6 c1) x 7) (L (2 + 2 * i)) := by
        obtain ⟨m4, fr4, F4, T4, X4, L4, g1, g2, g3, g4, ⟨g5, g6⟩, g7⟩ := id G2
        have := g2.2
        rw [g5] at this
        exact this.cg (fun k hk => ((g6 k hk).2.2).symm)
      obtain ⟨FF, hF, F9⟩ := fu_ex
      obtain ⟨h4, u1, u2, u3⟩ := c_gLoop (n := n) (last := last) C V hi x0 ex (by omega) ra.1 rN' rZ' (L (2 + 2 * i)) FF _ _ _ c7' (fun _ hk => hk) G2 Z2 lim6 (by omega)
      have run : f_cHall_isGone a x (p : Int) (n : Int) last 0 h = f_cHall_isGone_b186 a x last h4 := by
        unfold f_cHall_isGone f_cHall_isGone_b120
        rw [if_pos rfl, if_neg (by omega), if_neg xz, r6, if_neg n8, pl_w hpn, a1, b2_some, lt1_eq, if_neg xz, lt1_eq, ← hF]
        exact u1
      rw [run]
      refine c_gLost C V hi x0 ex u3 u2 (by decide) (fun j => ?_) (fun j => ?_) hl
      · show ((inS F T (L (1 + 2 * i)) j ∨ ((p : Int) ≤ j ∧ (j : Int) < ((p + n : Nat) : Int))) ∧ ¬ inS F T (L (2 + 2 * i)) j) ↔ _
        rw [e6, e7]
        simp only [Int.toNat_natCast]
        by_cases q : p ≤ j ∧ j < p + n
        · rw [zGm_l j q (by decide)]
          by_cases t : zM z i j = 3
          · rw [if_pos t]; exact ⟨fun t2 => absurd ⟨by omega, t⟩ t2.2, fun t2 => absurd t2 (by decide)⟩
          · rw [if_neg t]; exact ⟨fun _ => rfl, fun _ => ⟨Or.inr ⟨by omega, by omega⟩, fun t2 => t t2.2⟩⟩
        · rw [zGm_o j q]
          refine ⟨fun t2 => t2.1.elim (fun t3 => t3.2) (fun t3 => absurd ⟨by omega, by omega⟩ q), fun t2 => ⟨Or.inl ⟨by omega, t2⟩, fun t3 => by rw [t2] at t3; exact absurd t3.2 (by decide)⟩⟩
      · simp only [Int.toNat_natCast]
        by_cases q : p ≤ j ∧ j < p + n
        · rw [zGm_l j q (by decide)]
          by_cases t : zM z i j = 3
          · rw [if_pos t]; exact ⟨fun _ => rfl, fun _ => ⟨by omega, t⟩⟩
          · rw [if_neg t]; exact ⟨fun t2 => absurd t2.2 t, fun t2 => absurd t2 (by decide)⟩
        · rw [zGm_o j q]
          exact ⟨fun t2 => t2.2, fun t2 => ⟨by omega, t2⟩⟩
    · subst e
      obtain ⟨h4, l, F7, T7, X7, S6, S7, u1, u2, u3, u4, u5⟩ := c_gArA (last := last) C V hi x0 ex (by omega) hp rN' rZ'
      rw [u1]
      exact c_gArr C V hi x0 ex u3 u2 u4 u5 hl
end
