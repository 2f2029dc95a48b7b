/-! the greeting, model: digests, codes, secrets -/
abbrev SX (S x : Nat) : Prop := x = S ∨ (S + 3 ≤ x ∧ x ≤ S + 23)
abbrev inE (S e x : Nat) : Prop := SX S x ∨ (e ≤ x ∧ x ≤ e + 14)
section
variable {h h' : Hp} {e S : Nat} {s s' : GSt} {D : Nat → Prop}
theorem GY.fx (Y : GY h e S) (F : FX D h h') (c : ∀ x, D x → x ≠ S + 1 ∧ x ≠ S + 2) : GY h' e S := by
  obtain ⟨y1, y2, y3, y4, y5⟩ := Y
  exact ⟨y1.of F.r F.l, y2.of F.r F.l, y3.fe (fun x k hx => F.j (fun z => by have := c x z; lia)), by rw [F.r]; exact y4, y5⟩
theorem GM.st (G : GM h e S s) (F : FX D h h') (c : ∀ x, D x → x ≠ S + 1 ∧ x ≠ S + 2)
    (num : ∀ k, k < 12 → (k = 7 → s'.1 12 = 0) → (¬ D (e + gMc k) ∧ s'.1 k = s.1 k ∧ (k = 7 → s.1 12 = 0)) ∨ hI h' (e + gMc k) (gMs k) = s'.1 k)
    (row : ∀ r, r < 16 → gHas s' r → (¬ D (e + gMr r) ∧ gHas s r ∧ gLn s' r ≤ gLn s r ∧ s'.2 r = s.2 r) ∨ ∀ j, j < gLn s' r → hI h' (e + gMr r) (gMo r + j) = s'.2 r j) : GM h' e S s' := by
  obtain ⟨X, g1, g3⟩ := G
  refine ⟨X.fx F c, fun k hk k7 => ?_, fun r hr hh j hj => ?_⟩
  · rcases num k hk k7 with ⟨q1, q2, q3⟩ | q
    · rw [F.i q1, q2]; exact g1 k hk q3
    · exact q
  · rcases row r hr hh with ⟨q1, q2, q3, q4⟩ | q
    · rw [F.i q1, q4]; exact g3 r hr q2 j (by lia)
    · exact q j hj
theorem gm_0 : ∀ k, k < 12 → gMc k = 0 ∨ gMc k = 5 ∨ gMc k = 7 := by decide
theorem gm_r : ∀ r, r < 16 → gMr r ≠ 0 ∧ gMr r ≠ 5 ∧ gMr r ≠ 7 ∧ gMr r ≠ 12 ∧ gMr r ≠ 13 ∧ gMr r ≠ 14 ∧ gMr r < 12 := by decide
theorem gm_rk : ∀ k, k < 12 → ∀ r, r < 16 → gMr r ≠ gMc k := by decide
theorem gm_kk : ∀ k, k < 12 → ∀ k', k' < 12 → k ≠ k' → ¬ (gMc k = gMc k' ∧ gMs k = gMs k') := by decide
theorem gm_rr : ∀ r, r < 16 → ∀ r', r' < 16 → r ≠ r' → gMr r = gMr r' → (gMo r + 1024 ≤ gMo r' ∨ gMo r' + 1024 ≤ gMo r) ∨ (10 ≤ r ∧ 10 ≤ r' ∧ (gMo r + 32 ≤ gMo r' ∨ gMo r' + 32 ≤ gMo r)) := fun r h1 r' h2 h3 h4 => by
  have := (by decide : ∀ r, r < 16 → ∀ r', r' < 16 → r = r' ∨ gMr r ≠ gMr r' ∨ ((gMo r + 1024 ≤ gMo r' ∨ gMo r' + 1024 ≤ gMo r) ∨ (10 ≤ r ∧ 10 ≤ r' ∧ (gMo r + 32 ≤ gMo r' ∨ gMo r' + 32 ≤ gMo r)))) r h1 r' h2
  rcases this with z | z | z
  · exact absurd z h3
  · exact absurd h4 z
  · exact z
theorem GM.i {k : Nat} (G : GM h e S s) (hk : k < 12) (k7 : k = 7 → s.1 12 = 0) {x y : Nat} (ex : gMc k = x) (ey : gMs k = y) : hI h (e + x) y = s.1 k := by rw [← ex, ← ey]; exact G.2.1 k hk k7
theorem GM.b {r j : Nat} (G : GM h e S s) (hr : r < 16) (hh : gHas s r) (hj : j < gLn s r) {x o : Nat} (ex : gMr r = x) (eo : gMo r = o) : hI h (e + x) (o + j) = s.2 r j := by rw [← ex, ← eo]; exact G.2.2 r hr hh j hj
theorem GM.bv {r j : Nat} (G : GM h e S s) (V : GV s) (hr : r < 16) (hh : gHas s r) (hj : j < gLn s r) {x o : Nat} (ex : gMr r = x) (eo : gMo r = o) : 0 ≤ hI h (e + x) (o + j) ∧ hI h (e + x) (o + j) < 256 ∧ hI h (e + x) (o + j) = s.2 r j % 256 := by
  have v := V.2.2.2.2.2 r hr hh j hj
  rw [G.b hr hh hj ex eo]; exact ⟨v.1, v.2, by lia⟩
theorem m_gdig (G : GM h e S s) (V : GV s) (t : s.1 12 = 0) : wp (f_mSeals_digest S (e + 9) (s.1 7) (e + 12) h) (fun h' => (∀ k, k < 32 → hI h' (e + 12) k = sDig s k) ∧ FX (fun x => SX S x ∨ x = e + 12) h h' ∧ GM h' e S s) := by
  obtain ⟨LG, LS, M, eS, Se⟩ := G.1
  have l0 := LG.1
  have v7 := V.2.2.2.2.1 7 (by decide) (by decide)
  have e7 : s.1 7 = (((s.1 7).toNat : Nat) : Int) := by lia
  rw [e7]
  refine wp_of (m_digest (s := S) (row := e + 9) (n := (s.1 7).toNat) (to := e + 12) (T := s.2 3) LS M (by lia) (by lia) (by rw [LG.l9]; lia) (by lia) (by lia) (by lia) (by rw [LG.l12]; decide) (fun j hj => ?_)) (fun h1 e1 q1 => ?_)
  · have := G.bv V (r := 3) (j := j) (by decide) ⟨fun z => by lia, fun _ => t⟩ (by rw [gLn_num (by decide)]; exact hj) (x := 9) (o := 0) rfl rfl
    rw [Nat.zero_add] at this; exact this
  · have F : FX (fun x => SX S x ∨ x = e + 12) h h1 := (FX.fe (fe_mSeals_digest _ _ _ _ _ _ e1) (fun x k q => by simp only [wI_mSeals_digest, LS.r0, LS.r1, LS.r2, LS.r3, LS.r4, LS.r5, LS.r6, LS.r7, LS.r8, LS.r9, LS.r10] at q <;> omega) (fun x k q => by simp only [wJ_mSeals_digest, LS.r0, LS.r1, LS.r2, LS.r3, LS.r4, LS.r5, LS.r6, LS.r7, LS.r8, LS.r9, LS.r10] at q <;> omega))
    refine ⟨q1.1, F, G.st F (fun x q => by lia) (fun k hk k7 => Or.inl ⟨?_, rfl, k7⟩) (fun r hr hh => Or.inl ⟨?_, hh, Nat.le_refl _, rfl⟩)⟩
    · have := gm_0 k hk; omega
    · have := gm_r r hr; omega
theorem m_gmac {key at_ n row fr size to : Nat} {K T : Nat → Int} (Y : GY h e S) (r0 : key ≠ 0) (rd : key < S ∨ S + 23 < key) (n1 : n ≤ 64) (kl : at_ + n ≤ ln h key) (kz : at_ + 64 < 2147483648) (hK : ∀ j, j < n → 0 ≤ hI h key (at_ + j) ∧ hI h key (at_ + j) < 256 ∧ hI h key (at_ + j) = K j % 256)
    (w0 : row ≠ 0) (wd : row < S ∨ S + 23 < row) (wl : fr + size ≤ ln h row) (wz : fr + size < 2147483648) (hs : size + 136 ≤ 2400) (t0 : to ≠ 0) (td : to < S ∨ S + 23 < to) (tl : 32 ≤ ln h to) (hT : ∀ j, j < size → 0 ≤ hI h row (fr + j) ∧ hI h row (fr + j) < 256 ∧ hI h row (fr + j) = T j % 256) :
    wp (f_mSeals_mac S key (at_ : Int) (n : Int) row (fr : Int) (size : Int) to h) (fun h' => (∀ k, k < 32 → hI h' to k = HMAC n K size T k) ∧ FX (fun x => SX S x ∨ x = to) h h') := by
  obtain ⟨LG, LS, M, eS, Se⟩ := Y
  refine wp_of (m_mac (s := S) LS M r0 rd n1 kl kz hK w0 wd wl wz hs t0 td tl hT) (fun h1 e1 q1 => ⟨q1.1, ?_⟩)
  exact (FX.fe (fe_mSeals_mac _ _ _ _ _ _ _ _ _ _ e1) (fun x k q => by simp only [wI_mSeals_mac, LS.r0, LS.r1, LS.r2, LS.r3, LS.r4, LS.r5, LS.r6, LS.r7, LS.r8, LS.r9, LS.r10] at q <;> omega) (fun x k q => by simp only [wJ_mSeals_mac, LS.r0, LS.r1, LS.r2, LS.r3, LS.r4, LS.r5, LS.r6, LS.r7, LS.r8, LS.r9, LS.r10] at q <;> omega))
theorem m_glab {key at_ l ctx m to place : Nat} {K C : Nat → Int} (Y : GY h e S) (hl : l < 11) (hm : m ≤ 32) (k0 : key ≠ 0) (kd : key < S ∨ S + 23 < key) (kl : at_ + 32 ≤ ln h key) (kz : at_ + 64 < 2147483648) (hK : ∀ j, j < 32 → 0 ≤ hI h key (at_ + j) ∧ hI h key (at_ + j) < 256 ∧ hI h key (at_ + j) = K j % 256)
    (hC : ∀ j, j < m → 0 ≤ C j ∧ C j < 256) (hctx : m = 0 ∨ (ctx ≠ 0 ∧ (ctx < S ∨ S + 23 < ctx))) (cl : m = 0 ∨ m ≤ ln h ctx) (hcx : ∀ j, j < m → hI h ctx j = C j) (t0 : to ≠ 0) (td : to < S ∨ S + 23 < to) (pz : place + 32 < 2147483648) (tl : place + 32 ≤ ln h to) :
    wp (f_mSeals_label S key (at_ : Int) (l : Int) ctx (m : Int) 32 to (place : Int) h) (fun h' => (∀ k, k < 32 → hI h' to (place + k) = LAB l 32 m K C k) ∧ (∀ j, (j < place ∨ place + 32 ≤ j) → hI h' to j = hI h to j) ∧ FX (fun x => SX S x ∨ x = to) h h') := by
  obtain ⟨LG, LS, M, eS, Se⟩ := Y
  refine wp_of (m_label (s := S) (key := key) (at_ := at_) (to := to) (place := place) (wanted := 32) (l := l) (m := m) (ctx := ctx) (K := K) (C := C) (O := hI h to) hl hm hC hctx ⟨LS, M, ⟨by decide, t0, td, pz, tl, fun _ _ => rfl⟩, ⟨k0, kd, kl, kz⟩, hK⟩ cl hcx) (fun h1 e1 q1 => ⟨q1.1, q1.2, ?_⟩)
  exact (FX.fe (fe_mSeals_label _ _ _ _ _ _ _ _ _ _ _ e1) (fun x k q => by simp only [wI_mSeals_label, LS.r0, LS.r1, LS.r2, LS.r3, LS.r4, LS.r5, LS.r6, LS.r7, LS.r8, LS.r9, LS.r10, LS.r12, LS.r14] at q <;> omega) (fun x k q => by simp only [wJ_mSeals_label, LS.r0, LS.r1, LS.r2, LS.r3, LS.r4, LS.r5, LS.r6, LS.r7, LS.r8, LS.r9, LS.r10, LS.r12, LS.r14] at q <;> omega))
theorem sDig_lt (k : Nat) : 0 ≤ sDig s k ∧ sDig s k < 256 := SHA_lt _ _ _
theorem mod_b {x : Int} (h : 0 ≤ x ∧ x < 256) : 0 ≤ x ∧ x < 256 ∧ x = x % 256 := ⟨h.1, h.2, by lia⟩
/-- two labels behind one another into the secrets -/
theorem m_gsec {base l lv : Nat} {K C : Nat → Int} (Y : GY h e S) (hl : l + 1 < 11) (hv : lv < 3) (hb : base = e + 11 ∨ base = e + 14) (hK : ∀ j, j < 32 → hI h base j = K j ∧ 0 ≤ K j ∧ K j < 256) (hC : ∀ j, j < 32 → hI h (e + 12) j = C j ∧ 0 ≤ C j ∧ C j < 256) {Q : Hp → Prop}
    (q : ∀ h', (∀ k, k < 32 → hI h' (e + 10) (64 * lv + k) = LAB l 32 32 K C k) → (∀ k, k < 32 → hI h' (e + 10) (64 * lv + 32 + k) = LAB (l + 1) 32 32 K C k) → (∀ j, (j < 64 * lv ∨ 64 * lv + 64 ≤ j) → hI h' (e + 10) j = hI h (e + 10) j) → FX (fun x => SX S x ∨ x = e + 10) h h' → Q h') :
    wp (f_mSeals_label S base 0 (l : Int) (e + 12) 32 32 (e + 10) ((64 * lv : Nat) : Int) h) (fun h1 => wp (f_mSeals_label S base 0 ((l + 1 : Nat) : Int) (e + 12) 32 32 (e + 10) ((64 * lv + 32 : Nat) : Int) h1) Q) := by
  have Y0 := Y
  obtain ⟨LG, LS, M, eS, Se⟩ := Y
  have l0 := LG.1
  have lb : ln h base = 32 := by rcases hb with z | z; rw [z, LG.l11]; rw [z, LG.l14]
  refine wp_of (m_glab (key := base) (at_ := 0) (l := l) (ctx := e + 12) (m := 32) (to := e + 10) (place := 64 * lv) (K := K) (C := C) Y0 (by lia) (by decide) (by lia) (by lia) (by rw [lb]; decide) (by decide) (fun j hj => by rw [Nat.zero_add, (hK j hj).1]; exact mod_b (hK j hj).2) (fun j hj => (hC j hj).2) (Or.inr ⟨by lia, by lia⟩) (Or.inr (by rw [LG.l12]; decide)) (fun j hj => (hC j hj).1) (by lia) (by lia) (by lia) (by rw [LG.l10]; lia)) (fun h1 e1 q1 => ?_)
  obtain ⟨a1, a2, F1⟩ := q1
  have Y1 := Y0.fx F1 (fun x q => by lia)
  refine wp_of (m_glab (key := base) (at_ := 0) (l := l + 1) (ctx := e + 12) (m := 32) (to := e + 10) (place := 64 * lv + 32) (K := K) (C := C) Y1 (by lia) (by decide) (by lia) (by lia) (by rw [F1.l, lb]; decide) (by decide) (fun j hj => by rw [Nat.zero_add, F1.i (by lia), (hK j hj).1]; exact mod_b (hK j hj).2) (fun j hj => (hC j hj).2) (Or.inr ⟨by lia, by lia⟩) (Or.inr (by rw [F1.l, LG.l12]; decide)) (fun j hj => by rw [F1.i (by lia)]; exact (hC j hj).1) (by lia) (by lia) (by lia) (by rw [F1.l, LG.l10]; lia)) (fun h2 e2 q2 => ?_)
  obtain ⟨b1, b2, F2⟩ := q2
  refine q h2 (fun k hk => ?_) b1 (fun j hj => ?_) (F1.tr F2)
  · rw [b2 _ (by lia)]; exact a1 k hk
  · rw [b2 _ (by lia), a2 _ (by lia)]
theorem m_ggre (G : GM h e S s) (V : GV s) (t : s.1 12 = 0) (hl : 0 ≤ s.1 6) : ∃ h', f_mGreet_greets e h = some h' ∧ GM h' e S (sGreets s) ∧ FX (inE S e) h h' := by
  obtain ⟨LG, LS, M, eS, Se⟩ := G.1
  have l0 := LG.1
  have i16 : hI h e 16 = s.1 7 := G.i (k := 7) (by decide) (fun _ => t) (x := 0) (y := 16) rfl rfl
  have goal : wp (f_mGreet_greets e h) (fun h' => GM h' e S (sGreets s) ∧ FX (inE S e) h h') := by
    unfold f_mGreet_greets
    rw [eS, wp_cn]
    refine ⟨by have := LS.1; lia, ?_⟩
    rw [LG.r0_15, LG.r0_20, i16]
    refine wp_b1o (m_gdig G V t) (fun h1 e1 q1 => ?_)
    obtain ⟨d1, F1, G1⟩ := q1
    obtain ⟨LG1, LS1, M1, eS1, Se1⟩ := G1.1
    rw [eS1, wp_cn]
    refine ⟨by have := LS.1; lia, ?_⟩
    rw [LG1.r0_2, LG1.r0_20, LG1.r0_19]
    refine wp_b1o (m_gmac (key := e + 1) (at_ := 0) (n := 32) (row := e + 12) (fr := 0) (size := 32) (to := e + 11) (K := s.2 0) (T := sDig s) G1.1 (by lia) (by lia) (by decide) (by rw [LG1.l1]; decide) (by decide) (fun j hj => G1.bv V (r := 0) (by decide) (gHas_o (by decide)) (by rw [gLn_32 (by decide)]; exact hj) rfl rfl) (by lia) (by lia) (by rw [LG1.l12]; decide) (by decide) (by decide) (by lia) (by lia) (by rw [LG1.l11]; decide) (fun j hj => by rw [Nat.zero_add, d1 j hj]; exact mod_b (sDig_lt j))) (fun h2 e2 q2 => ?_)
    obtain ⟨d2, F2⟩ := q2
    have Y2 := G1.1.fx F2 (fun x q => by lia)
    obtain ⟨LG2, LS2, M2, eS2, Se2⟩ := id Y2
    obtain ⟨F, hF⟩ : ∃ F, F + 3 = FU := ⟨FU - 3, by decide⟩
    rw [← hF]
    show wp (f_mGreet_greets_b46 (f_mGreet_greets_b46_lp (F + 2)) e 0 h2) _
    unfold f_mGreet_greets_b46
    rw [if_neg (by decide), eS2, wp_cn]
    refine ⟨by have := LS.1; lia, ?_⟩
    rw [LG2.r0_19, LG2.r0_20, LG2.r0_17, wp_b1]
    refine wp_of (m_gsec (base := e + 11) (l := 6) (lv := 1) (K := sGre s) (C := sDig s) Y2 (by decide) (by decide) (Or.inl rfl) (fun j hj => ⟨d2 j hj, HMAC_lt _ _ _ _ _⟩) (fun j hj => ⟨by rw [F2.i (by lia)]; exact d1 j hj, sDig_lt j⟩) (Q := fun h' => GM (sI h' e 18 1) e S (sGreets s) ∧ FX (inE S e) h (sI h' e 18 1)) ?_) (fun h3 e3 q3 => ?_)
    · intro h4 a1 a2 a3 F4
      have FF : FX (fun x => SX S x ∨ x = e + 10 ∨ x = e + 11 ∨ x = e + 12) h h4 := ((F1.mono (fun x q => by lia)).tr (F2.mono (fun x q => by lia))).tr (F4.mono (fun x q => by lia))
      have F5 : FX (fun x => SX S x ∨ x = e + 10 ∨ x = e + 11 ∨ x = e + 12 ∨ x = e) h (sI h4 e 18 1) := (FF.mono (fun x q => by lia)).tr (FX.sI (by lia))
      refine ⟨G.st F5 (fun x q => by lia) (fun k hk k7 => Or.inr ?_) (fun r hr hh => ?_), F5.mono (fun x q => by lia)⟩
      · show _ = up1 s.1 6 1 k
        by_cases c : k = 6
        · subst c; rw [up1_eq]; rw [hI_sI, if_pos ⟨rfl, rfl⟩]
        · have := gm_0 k hk
          have q := gm_kk k hk 6 (by decide) c
          rw [up1_ne c, hI_sI, if_neg (fun z => q ⟨by rw [show gMc 6 = 0 from rfl]; lia, z.2⟩), FF.i (by lia)]
          exact G.2.1 k hk k7
      · by_cases c9 : r = 9
        · subst c9
          right; intro j hj
          rw [gLn_32 (by decide)] at hj
          show hI _ (e + 11) (0 + j) = sGre s j
          rw [hI_sI, if_neg (by lia), F4.i (by lia), Nat.zero_add]; exact d2 j hj
        · by_cases c10 : 10 ≤ r
          · right; intro j hj
            rw [gLn_32 (by lia)] at hj
            have ro := (by decide : ∀ r, r < 16 → 10 ≤ r → gMr r = 10 ∧ gMo r = 32 * (r - 10)) r hr c10
            rw [ro.1, ro.2, hI_sI, if_neg (by lia)]
            show _ = (if r = 9 then sGre s else if r = 12 then LAB 6 32 32 (sGre s) (sDig s) else if r = 13 then LAB 7 32 32 (sGre s) (sDig s) else s.2 r) j
            rw [if_neg c9]
            by_cases c12 : r = 12
            · rw [if_pos c12, c12]; exact a1 j hj
            · rw [if_neg c12]
              by_cases c13 : r = 13
              · rw [if_pos c13, c13]; exact a2 j hj
              · rw [if_neg c13, a3 _ (by lia), F2.i (by lia), F1.i (by lia)]
                have := G.2.2 r hr ⟨fun _ => hl, hh.2⟩ j (by rw [gLn_32 (by lia)]; exact hj)
                rw [ro.1, ro.2] at this; exact this
          · refine Or.inl ⟨?_, ⟨fun _ => hl, hh.2⟩, by unfold sGreets; rw [gLn_up (by decide)]; exact Nat.le_refl _, ?_⟩
            · have := (by decide : ∀ r, r < 16 → r = 9 ∨ 10 ≤ r ∨ (gMr r < 10 ∧ gMr r ≠ 0)) r hr; omega
            · show (if r = 9 then sGre s else if r = 12 then LAB 6 32 32 (sGre s) (sDig s) else if r = 13 then LAB 7 32 32 (sGre s) (sDig s) else s.2 r) = s.2 r
              rw [if_neg c9, if_neg (by lia), if_neg (by lia)]
    · have F3 : FX (fun x => SX S x ∨ x = e + 10) h2 h3 := (FX.fe (fe_mSeals_label _ _ _ _ _ _ _ _ _ _ _ e3) (fun x k q => by simp only [wI_mSeals_label, LS2.r0, LS2.r1, LS2.r2, LS2.r3, LS2.r4, LS2.r5, LS2.r6, LS2.r7, LS2.r8, LS2.r9, LS2.r10, LS2.r12, LS2.r14] at q <;> omega) (fun x k q => by simp only [wJ_mSeals_label, LS2.r0, LS2.r1, LS2.r2, LS2.r3, LS2.r4, LS2.r5, LS2.r6, LS2.r7, LS2.r8, LS2.r9, LS2.r10, LS2.r12, LS2.r14] at q <;> omega))
      have Y3 := Y2.fx F3 (fun x q => by lia)
      obtain ⟨LG3, LS3, M3, eS3, Se3⟩ := id Y3
      show wp (f_mGreet_greets_b46 (f_mGreet_greets_b46_lp (F + 1)) e 1 h3) _
      unfold f_mGreet_greets_b46
      rw [if_neg (by decide), eS3, wp_cn]
      refine ⟨by have := LS.1; lia, ?_⟩
      rw [LG3.r0_19, LG3.r0_20, LG3.r0_17, wp_b1]
      refine wp_of q3 (fun h4 e4 q4 => ?_)
      show wp (f_mGreet_greets_b46 (f_mGreet_greets_b46_lp F) e 2 h4) _
      unfold f_mGreet_greets_b46
      rw [if_pos (by decide), wp_lt1, wp_some]
      exact q4
  exact goal
theorem m_gtlk (G : GM h e S s) (V : GV s) (t : s.1 12 = 0) (hl : 0 ≤ s.1 6) : ∃ h', f_mGreet_talks e h = some h' ∧ GM h' e S (sTalks s) ∧ FX (inE S e) h h' := by
  obtain ⟨LG, LS, M, eS, Se⟩ := G.1
  have l0 := LG.1
  have i16 : hI h e 16 = s.1 7 := G.i (k := 7) (by decide) (fun _ => t) (x := 0) (y := 16) rfl rfl
  have goal : wp (f_mGreet_talks e h) (fun h' => GM h' e S (sTalks s) ∧ FX (inE S e) h h') := by
    unfold f_mGreet_talks
    rw [eS, wp_cn]
    refine ⟨by have := LS.1; lia, ?_⟩
    rw [LG.r0_15, LG.r0_20, i16]
    refine wp_b1o (m_gdig G V t) (fun h1 e1 q1 => ?_)
    obtain ⟨d1, F1, G1⟩ := q1
    obtain ⟨LG1, LS1, M1, eS1, Se1⟩ := G1.1
    rw [eS1, wp_cn]
    refine ⟨by have := LS.1; lia, ?_⟩
    rw [LG1.r0_19, LG1.r0_20, LG1.r0_22]
    refine wp_b1o (m_gmac (key := e + 11) (at_ := 0) (n := 32) (row := e + 12) (fr := 0) (size := 32) (to := e + 14) (K := s.2 9) (T := sDig s) G1.1 (by lia) (by lia) (by decide) (by rw [LG1.l11]; decide) (by decide) (fun j hj => G1.bv V (r := 9) (by decide) (gHas_o (by decide)) (by rw [gLn_32 (by decide)]; exact hj) rfl rfl) (by lia) (by lia) (by rw [LG1.l12]; decide) (by decide) (by decide) (by lia) (by lia) (by rw [LG1.l14]; decide) (fun j hj => by rw [Nat.zero_add, d1 j hj]; exact mod_b (sDig_lt j))) (fun h2 e2 q2 => ?_)
    obtain ⟨d2, F2⟩ := q2
    have Y2 := G1.1.fx F2 (fun x q => by lia)
    obtain ⟨LG2, LS2, M2, eS2, Se2⟩ := id Y2
    obtain ⟨F, hF⟩ : ∃ F, F + 3 = FU := ⟨FU - 3, by decide⟩
    rw [← hF]
    show wp (f_mGreet_talks_b46 (f_mGreet_talks_b46_lp (F + 2)) e 0 h2) _
    unfold f_mGreet_talks_b46
    rw [if_neg (by decide), eS2, wp_cn]
    refine ⟨by have := LS.1; lia, ?_⟩
    rw [LG2.r0_22, LG2.r0_20, LG2.r0_17, wp_b1]
    refine wp_of (m_gsec (base := e + 14) (l := 8) (lv := 2) (K := sTlk s) (C := sDig s) Y2 (by decide) (by decide) (Or.inr rfl) (fun j hj => ⟨d2 j hj, HMAC_lt _ _ _ _ _⟩) (fun j hj => ⟨by rw [F2.i (by lia)]; exact d1 j hj, sDig_lt j⟩) (Q := fun h' => GM (sI h' e 18 2) e S (sTalks s) ∧ FX (inE S e) h (sI h' e 18 2)) ?_) (fun h3 e3 q3 => ?_)
    · intro h4 a1 a2 a3 F4
      have FF : FX (fun x => SX S x ∨ x = e + 10 ∨ x = e + 14 ∨ x = e + 12) h h4 := ((F1.mono (fun x q => by lia)).tr (F2.mono (fun x q => by lia))).tr (F4.mono (fun x q => by lia))
      have F5 : FX (fun x => SX S x ∨ x = e + 10 ∨ x = e + 14 ∨ x = e + 12 ∨ x = e) h (sI h4 e 18 2) := (FF.mono (fun x q => by lia)).tr (FX.sI (by lia))
      refine ⟨G.st F5 (fun x q => by lia) (fun k hk k7 => Or.inr ?_) (fun r hr hh => ?_), F5.mono (fun x q => by lia)⟩
      · show _ = up1 s.1 6 2 k
        by_cases c : k = 6
        · subst c; rw [up1_eq]; rw [hI_sI, if_pos ⟨rfl, rfl⟩]
        · have := gm_0 k hk
          have q := gm_kk k hk 6 (by decide) c
          rw [up1_ne c, hI_sI, if_neg (fun z => q ⟨by rw [show gMc 6 = 0 from rfl]; lia, z.2⟩), FF.i (by lia)]
          exact G.2.1 k hk k7
      · by_cases c10 : 10 ≤ r
        · right; intro j hj
          rw [gLn_32 (by omega)] at hj
          have ro := (by decide : ∀ r, r < 16 → 10 ≤ r → gMr r = 10 ∧ gMo r = 32 * (r - 10)) r hr c10
          rw [ro.1, ro.2, hI_sI, if_neg (by omega)]
          show _ = (if r = 14 then LAB 8 32 32 (sTlk s) (sDig s) else if r = 15 then LAB 9 32 32 (sTlk s) (sDig s) else s.2 r) j
          by_cases c12 : r = 14
          · rw [if_pos c12, c12]; exact a1 j hj
          · rw [if_neg c12]
            by_cases c13 : r = 15
            · rw [if_pos c13, c13]; exact a2 j hj
            · rw [if_neg c13, a3 _ (by omega), F2.i (by lia), F1.i (by lia)]
              have := G.2.2 r hr ⟨fun _ => hl, hh.2⟩ j (by rw [gLn_32 (by omega)]; exact hj)
              rw [ro.1, ro.2] at this; exact this
        · refine Or.inl ⟨?_, ⟨fun _ => hl, hh.2⟩, by unfold sTalks; rw [gLn_up (by decide)]; exact Nat.le_refl _, ?_⟩
          · have := (by decide : ∀ r, r < 16 → 10 ≤ r ∨ ((gMr r < 10 ∨ gMr r = 11) ∧ gMr r ≠ 0)) r hr; omega
          · show (if r = 14 then LAB 8 32 32 (sTlk s) (sDig s) else if r = 15 then LAB 9 32 32 (sTlk s) (sDig s) else s.2 r) = s.2 r
            rw [if_neg (by omega), if_neg (by omega)]
    · have F3 : FX (fun x => SX S x ∨ x = e + 10) h2 h3 := (FX.fe (fe_mSeals_label _ _ _ _ _ _ _ _ _ _ _ e3) (fun x k q => by simp only [wI_mSeals_label, LS2.r0, LS2.r1, LS2.r2, LS2.r3, LS2.r4, LS2.r5, LS2.r6, LS2.r7, LS2.r8, LS2.r9, LS2.r10, LS2.r12, LS2.r14] at q <;> omega) (fun x k q => by simp only [wJ_mSeals_label, LS2.r0, LS2.r1, LS2.r2, LS2.r3, LS2.r4, LS2.r5, LS2.r6, LS2.r7, LS2.r8, LS2.r9, LS2.r10, LS2.r12, LS2.r14] at q <;> omega))
      have Y3 := Y2.fx F3 (fun x q => by lia)
      obtain ⟨LG3, LS3, M3, eS3, Se3⟩ := id Y3
      show wp (f_mGreet_talks_b46 (f_mGreet_talks_b46_lp (F + 1)) e 1 h3) _
      unfold f_mGreet_talks_b46
      rw [if_neg (by decide), eS3, wp_cn]
      refine ⟨by have := LS.1; lia, ?_⟩
      rw [LG3.r0_22, LG3.r0_20, LG3.r0_17, wp_b1]
      refine wp_of q3 (fun h4 e4 q4 => ?_)
      show wp (f_mGreet_talks_b46 (f_mGreet_talks_b46_lp F) e 2 h4) _
      unfold f_mGreet_talks_b46
      rw [if_pos (by decide), wp_lt1, wp_some]
      exact q4
  exact goal
end
