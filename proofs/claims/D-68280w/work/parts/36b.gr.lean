/-! the greeting, class: digests, codes, secrets -/
section
variable {h h' : Hp} {g : Nat}
theorem LGr.hash (L : LGr h g) : LHash h (g + 4) := ⟨by have := L.1; lia, L.r4_0, L.r4_1, L.r4_2, L.l5, L.l6, L.l7⟩
theorem LGr.str (L : LGr h g) : LStr h (g + 8) := by
  have l0 := L.1
  exact ⟨by lia, ⟨L.r8_0, L.r8_1, L.r8_2, L.r8_3, L.l20, L.l21, L.l22⟩, by lia, ⟨L.r9_0, L.r9_1, L.r9_2, L.r9_3, L.l18, L.l19⟩, ⟨by lia, L.r10_0, L.r10_1, L.r10_2, L.l11, L.l12, L.l13⟩, ⟨by lia, L.r14_0, L.r14_1, L.r14_2, L.l15, L.l16, L.l17⟩⟩
theorem LHash.q0 {a : Nat} (L : LHash h a) : hR h a 0 = a + 1 := L.2.1
theorem LHash.q1 {a : Nat} (L : LHash h a) : hR h a 1 = a + 2 := L.2.2.1
theorem LHash.q2 {a : Nat} (L : LHash h a) : hR h a 2 = a + 3 := L.2.2.2.1
theorem c_gdig {n : Nat} {T : Nat → Int} (X : GX h g) (hn : hI h (g + 23) 1 = (n : Int)) (n1 : n ≤ 1024) (hT : ∀ j, j < n → hI h (g + 24) j % 256 = T j % 256) : wp (f_cGreeting_digest g h) (fun h' => (∀ k, k < 32 → hI h' (g + 45) k = i8 (SHA n T k)) ∧ FX (fun x => (g + 4 ≤ x ∧ x ≤ g + 7) ∨ x = g + 45) h h') := by
  have L := X.1
  have l0 := L.1
  have LH := L.hash
  have D64 : ∀ x, ((g + 4 ≤ x ∧ x ≤ g + 7) ∨ x = g + 45) → 64 ≤ x := fun x q => by lia
  unfold f_cGreeting_digest
  rw [L.r0_5, wp_cn]
  refine ⟨by lia, wp_b1o (c_begin (B := T) LH X.2.1) (fun h1 e1 q1 => ?_)⟩
  have F1 : FX (fun x => (g + 4 ≤ x ∧ x ≤ g + 7) ∨ x = g + 45) h h1 := (FX.fe (fe_cHash_begin _ _ _ e1) (fun x k q => by simp only [wI_cHash_begin, LH.q0, LH.q1, LH.q2] at q <;> omega) (fun x k q => by simp only [wJ_cHash_begin, LH.q0, LH.q1, LH.q2] at q <;> omega))
  have X1 := X.fx F1 D64
  have L1 := X1.1
  have LH1 := L1.hash
  rw [L1.r0_7, wp_cn]
  refine ⟨by lia, ?_⟩
  rw [L1.r0_5, wp_cn]
  refine ⟨by lia, ?_⟩
  rw [L1.r23_0, F1.i (by lia), hn]
  refine wp_b1o (c_add (a := g + 4) (r := g + 24) (N := 0) (cnt := n) (fr := 0) (B := T) (by lia) (by lia) (by lia) (by lia) LH1 X1.2.1 q1.1 (by rw [L1.l24]; lia) (fun j hj => by rw [Nat.zero_add, F1.i (by lia)]; exact hT j hj)) (fun h2 e2 q2 => ?_)
  have F2 : FX (fun x => (g + 4 ≤ x ∧ x ≤ g + 7) ∨ x = g + 45) h1 h2 := (FX.fe (fe_cHash_add _ _ _ _ _ _ e2) (fun x k q => by simp only [wI_cHash_add, LH1.q0, LH1.q1, LH1.q2] at q <;> omega) (fun x k q => by simp only [wJ_cHash_add, LH1.q0, LH1.q1, LH1.q2] at q <;> omega))
  have X2 := X1.fx F2 D64
  have L2 := X2.1
  have LH2 := L2.hash
  rw [L2.r0_5, wp_cn]
  refine ⟨by lia, ?_⟩
  rw [L2.r0_14]
  rw [Nat.zero_add] at q2
  refine wp_b1o (c_end (a := g + 4) (n := n) (to := g + 45) (at_ := 0) (B := T) LH2 X2.2.1 q2.1 (by rw [q2.2, q1.2]; unfold w64; lia) (by lia) (by lia) (by lia) (by lia) (by rw [L2.l45]; decide)) (fun h3 e3 q3 => ?_)
  have F3 : FX (fun x => (g + 4 ≤ x ∧ x ≤ g + 7) ∨ x = g + 45) h2 h3 := (FX.fe (fe_cHash_end _ _ _ _ _ e3) (fun x k q => by simp only [wI_cHash_end, LH2.q0, LH2.q1, LH2.q2] at q <;> omega) (fun x k q => by simp only [wJ_cHash_end, LH2.q0, LH2.q1, LH2.q2] at q <;> omega))
  rw [wp_some]
  exact ⟨fun k hk => by have := q3.1 k hk; rw [Nat.zero_add] at this; exact this, (F1.tr F2).tr F3⟩
theorem c_gmac {key n row fr size to : Nat} {K T : Nat → Int} (X : GX h g) (k0 : key ≠ 0) (kd : key < g + 9 ∨ g + 19 < key) (n1 : n ≤ 64) (nl : n ≤ ln h key) (hK : ∀ j, j < n → hI h key j % 256 = K j % 256) (r0 : row ≠ 0) (rd : row < g + 9 ∨ g + 19 < row) (fz : fr + size < 2147483648) (sz : size < 1000000) (rl : fr + size ≤ ln h row) (hT : ∀ j, j < size → hI h row (fr + j) % 256 = T j % 256) (t0 : 64 ≤ to) (td : to < g + 9 ∨ g + 19 < to) (tl : 32 ≤ ln h to) :
    wp (f_cGreeting_mac g key (n : Int) row (fr : Int) (size : Int) to h) (fun h' => (∀ k, k < 32 → hI h' to k = i8 (HMAC n K size T k)) ∧ FX (fun x => (g + 9 ≤ x ∧ x ≤ g + 19) ∨ x = to) h h') := by
  have L := X.1
  have l0 := L.1
  have LM := L.str.2.2
  have D64 : ∀ x, ((g + 9 ≤ x ∧ x ≤ g + 19) ∨ x = to) → 64 ≤ x := fun x q => by lia
  unfold f_cGreeting_mac
  rw [L.r0_6, wp_cn]
  refine ⟨by lia, ?_⟩
  rw [L.r8_0, wp_cn]
  refine ⟨by lia, wp_b1o (c_macBegin (a := g + 9) (r := key) (n := n) (K := K) (T := T) LM X.2.1 k0 (by lia) n1 nl hK) (fun h1 e1 q1 => ?_)⟩
  have F1' : FX (fun x => g + 9 ≤ x ∧ x ≤ g + 19) h h1 := (FX.fe (fe_cMac_begin _ _ _ _ _ e1) (fun x k q => by simp only [wI_cMac_begin, LM.r0, LM.r1, LM.r2, LM.r3, LM.i0, LM.i1, LM.i2, LM.o0, LM.o1, LM.o2] at q <;> omega) (fun x k q => by simp only [wJ_cMac_begin, LM.r0, LM.r1, LM.r2, LM.r3, LM.i0, LM.i1, LM.i2, LM.o0, LM.o1, LM.o2] at q <;> omega))
  have F1 : FX (fun x => (g + 9 ≤ x ∧ x ≤ g + 19) ∨ x = to) h h1 := F1'.mono (fun x q => Or.inl q)
  have X1 := X.fx F1 D64
  have L1 := X1.1
  have LM1 := L1.str.2.2
  rw [L1.r0_6, wp_cn]
  refine ⟨by lia, ?_⟩
  rw [L1.r8_0, wp_cn]
  refine ⟨by lia, wp_b1o (c_macAdd (a := g + 9) (r := row) (n := n) (m := 0) (fr := fr) (cnt := size) (K := K) (T := T) LM1 X1.2.1 q1 r0 (by lia) fz (by lia) (by lia) (by rw [F1.l]; exact rl) (fun j hj => by rw [Nat.zero_add, F1'.i (by lia)]; exact hT j hj)) (fun h2 e2 q2 => ?_)⟩
  have F2 : FX (fun x => (g + 9 ≤ x ∧ x ≤ g + 19) ∨ x = to) h1 h2 := (FX.fe (fe_cMac_add _ _ _ _ _ _ e2) (fun x k q => by simp only [wI_cMac_add, LM1.r0, LM1.r1, LM1.r2, LM1.r3, LM1.i0, LM1.i1, LM1.i2, LM1.o0, LM1.o1, LM1.o2] at q <;> omega) (fun x k q => by simp only [wJ_cMac_add, LM1.r0, LM1.r1, LM1.r2, LM1.r3, LM1.i0, LM1.i1, LM1.i2, LM1.o0, LM1.o1, LM1.o2] at q <;> omega))
  have X2 := X1.fx F2 D64
  have L2 := X2.1
  have LM2 := L2.str.2.2
  rw [L2.r0_6, wp_cn]
  refine ⟨by lia, ?_⟩
  rw [L2.r8_0, wp_cn]
  rw [Nat.zero_add] at q2
  refine ⟨by lia, wp_b1o (c_macEnd (a := g + 9) (to := to) (at_ := 0) (n := n) (m := size) (K := K) (T := T) LM2 X2.2.1 q2.1 (by lia) (by lia) (by lia) (by lia) (by rw [F2.l, F1.l]; lia)) (fun h3 e3 q3 => ?_)⟩
  have F3 : FX (fun x => (g + 9 ≤ x ∧ x ≤ g + 19) ∨ x = to) h2 h3 := (FX.fe (fe_cMac_end _ _ _ _ _ e3) (fun x k q => by simp only [wI_cMac_end, LM2.r0, LM2.r1, LM2.r2, LM2.r3, LM2.i0, LM2.i1, LM2.i2, LM2.o0, LM2.o1, LM2.o2] at q <;> omega) (fun x k q => by simp only [wJ_cMac_end, LM2.r0, LM2.r1, LM2.r2, LM2.r3, LM2.i0, LM2.i1, LM2.i2, LM2.o0, LM2.o1, LM2.o2] at q <;> omega))
  rw [wp_some]
  exact ⟨fun k hk => by have := q3.1 k hk; rw [Nat.zero_add] at this; exact this, (F1.tr F2).tr F3⟩
theorem LGr.r35 (L : LGr h g) : ∀ i, i < 6 → hR h (g + 35) i = g + 36 + i ∧ ln h (g + 36 + i) = 32 := fun i hi => by
  rcases (show i = 0 ∨ i = 1 ∨ i = 2 ∨ i = 3 ∨ i = 4 ∨ i = 5 by lia) with rfl | rfl | rfl | rfl | rfl | rfl
  · exact ⟨L.r35_0, L.l36⟩
  · exact ⟨L.r35_1, L.l37⟩
  · exact ⟨L.r35_2, L.l38⟩
  · exact ⟨L.r35_3, L.l39⟩
  · exact ⟨L.r35_4, L.l40⟩
  · exact ⟨L.r35_5, L.l41⟩
theorem c_glab {key ctx size to i l : Nat} {K C : Nat → Int} (X : GX h g) (hi : i < 10) (hl : mTx l = sTx.getD i []) (k0 : key ≠ 0) (kd : key < g + 8 ∨ g + 22 < key) (kl : 32 ≤ ln h key) (hK : ∀ j, j < 32 → hI h key j % 256 = K j % 256) (c0 : ctx ≠ 0) (cd : ctx < g + 8 ∨ g + 22 < ctx) (cl : size ≤ ln h ctx) (s1 : size ≤ 32) (hC : ∀ j, j < size → hI h ctx j % 256 = C j % 256) (t0 : 64 ≤ to) (td : to < g + 8 ∨ g + 22 < to) (tl : 32 ≤ ln h to) :
    wp (f_cStretch_label (g + 8) key 32 (1 + i) ctx (size : Int) to 32 h) (fun h' => (∀ k, k < 32 → hI h' to k = i8 (LAB l 32 size K C k)) ∧ FX (fun x => (g + 8 ≤ x ∧ x ≤ g + 22) ∨ x = to) h h') := by
  have L := X.1
  have l0 := L.1
  have LS := L.str
  have LM := LS.2.2
  refine wp_of (c_label (a := g + 8) (key := key) (ctx := ctx) (size := size) (to := to) (many := 32) (i := i) (l := l) (K := K) (C := C) hi hl LS X.2.1 X.2.2 k0 (by lia) kl hK c0 (by lia) cl s1 hC t0 (by lia) (by lia) (by lia) tl) (fun h1 e1 q1 => ⟨q1.1, ?_⟩)
  exact (FX.fe (fe_cStretch_label _ _ _ _ _ _ _ _ _ _ e1) (fun x k q => by simp only [wI_cStretch_label, LS.r0, LS.r1, LS.r2, LS.r3, LM.r0, LM.r1, LM.r2, LM.r3, LM.i0, LM.i1, LM.i2, LM.o0, LM.o1, LM.o2] at q <;> omega) (fun x k q => by simp only [wJ_cStretch_label, LS.r0, LS.r1, LS.r2, LS.r3, LM.r0, LM.r1, LM.r2, LM.r3, LM.i0, LM.i1, LM.i2, LM.o0, LM.o1, LM.o2] at q <;> omega))
theorem c_gsec {lv base ctx size i l : Nat} {K C : Nat → Int} (X : GX h g) (hv : lv < 3) (hi : i + 1 < 10) (hl : mTx l = sTx.getD i []) (hl1 : mTx (l + 1) = sTx.getD (i + 1) []) (k0 : base ≠ 0) (kd : base < g + 8 ∨ g + 22 < base) (ks : base < g + 36 ∨ g + 41 < base) (kl : 32 ≤ ln h base) (hK : ∀ j, j < 32 → hI h base j % 256 = K j % 256) (c0 : ctx ≠ 0) (cd : ctx < g + 8 ∨ g + 22 < ctx) (cs : ctx < g + 36 ∨ g + 41 < ctx) (cl : size ≤ ln h ctx) (s1 : size ≤ 32) (hC : ∀ j, j < size → hI h ctx j % 256 = C j % 256) :
    wp (f_cGreeting_secrets g (lv : Int) base (1 + i) (1 + (i + 1)) ctx (size : Int) h) (fun h' => (∀ k, k < 32 → hI h' (g + 36 + 2 * lv) k = i8 (LAB l 32 size K C k)) ∧ (∀ k, k < 32 → hI h' (g + 36 + (2 * lv + 1)) k = i8 (LAB (l + 1) 32 size K C k)) ∧ hI h' (g + 42) lv = 1 ∧ (∀ y, y ≠ lv → hI h' (g + 42) y = hI h (g + 42) y) ∧ FX (fun x => (g + 8 ≤ x ∧ x ≤ g + 22) ∨ x = g + 36 + 2 * lv ∨ x = g + 36 + (2 * lv + 1) ∨ x = g + 42) h h') := by
  have L := X.1
  have l0 := L.1
  have e0 : w32 (2 * (lv : Int)) = ((2 * lv : Nat) : Int) := by unfold w32; lia
  have e1 : w32 (((2 * lv : Nat) : Int) + 1) = ((2 * lv + 1 : Nat) : Int) := by unfold w32; lia
  have D64 : ∀ x, ((g + 8 ≤ x ∧ x ≤ g + 22) ∨ x = g + 36 + 2 * lv ∨ x = g + 36 + (2 * lv + 1) ∨ x = g + 42) → 64 ≤ x := fun x q => by lia
  have R := L.r35 (2 * lv) (by lia)
  unfold f_cGreeting_secrets
  rw [L.r0_10, wp_cn]
  refine ⟨by lia, ?_⟩
  rw [e0, L.l35, wp_ck]
  refine ⟨⟨by lia, by lia⟩, ?_⟩
  rw [L.r0_6, wp_cn]
  refine ⟨by lia, ?_⟩
  rw [Int.toNat_natCast, R.1]
  refine wp_b1o (c_glab (K := K) (C := C) X (by lia) hl k0 kd kl hK c0 cd cl s1 hC (to := g + 36 + 2 * lv) (by lia) (by lia) (by lia)) (fun h1 q1 p1 => ?_)
  have F1 : FX (fun x => (g + 8 ≤ x ∧ x ≤ g + 22) ∨ x = g + 36 + 2 * lv ∨ x = g + 36 + (2 * lv + 1) ∨ x = g + 42) h h1 := p1.2.mono (fun x q => by lia)
  have X1 := X.fx F1 D64
  have L1 := X1.1
  have R1 := L1.r35 (2 * lv + 1) (by lia)
  rw [L1.r0_10, wp_cn]
  refine ⟨by lia, ?_⟩
  rw [e1, L1.l35, wp_ck]
  refine ⟨⟨by lia, by lia⟩, ?_⟩
  rw [L1.r0_6, wp_cn]
  refine ⟨by lia, ?_⟩
  rw [Int.toNat_natCast, R1.1]
  refine wp_b1o (c_glab (K := K) (C := C) X1 hi hl1 k0 kd (by rw [F1.l]; exact kl) (fun j hj => by rw [p1.2.i (by lia)]; exact hK j hj) c0 cd (by rw [F1.l]; exact cl) s1 (fun j hj => by rw [p1.2.i (by lia)]; exact hC j hj) (to := g + 36 + (2 * lv + 1)) (by lia) (by lia) (by lia)) (fun h2 q2 p2 => ?_)
  have F2 : FX (fun x => (g + 8 ≤ x ∧ x ≤ g + 22) ∨ x = g + 36 + 2 * lv ∨ x = g + 36 + (2 * lv + 1) ∨ x = g + 42) h1 h2 := p2.2.mono (fun x q => by lia)
  have X2 := X1.fx F2 D64
  have L2 := X2.1
  rw [L2.r0_11, wp_cn]
  refine ⟨by lia, ?_⟩
  rw [L2.l42, wp_ck]
  refine ⟨⟨by lia, by lia⟩, ?_⟩
  rw [wp_lt1, wp_some, Int.toNat_natCast]
  refine ⟨fun k hk => ?_, fun k hk => ?_, ?_, fun y hy => ?_, (F1.tr F2).tr (FX.sI (by lia))⟩
  · rw [hI_sI, if_neg (by lia), p2.2.i (by lia)]; exact p1.1 k hk
  · rw [hI_sI, if_neg (by lia)]; exact p2.1 k hk
  · rw [hI_sI, if_pos ⟨rfl, rfl⟩]
  · rw [hI_sI, if_neg (by lia), p2.2.i (by lia), p1.2.i (by lia)]
end
