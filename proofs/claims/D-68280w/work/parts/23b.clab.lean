/-! the class's Stretch: labels -/
def LStr (h : Hp) (a : Nat) : Prop := 64 ≤ a ∧ (hR h a 0 = a + 1 ∧ hR h a 1 = a + 12 ∧ hR h a 2 = a + 13 ∧ hR h a 3 = a + 14 ∧ ln h (a + 12) = 32 ∧ ln h (a + 13) = 287 ∧ ln h (a + 14) = 1) ∧ LMac h (a + 1)
theorem LStr.of {h h' : Hp} {a : Nat} (L : LStr h a) (e1 : hR h' = hR h) (e2 : ln h' = ln h) : LStr h' a := by unfold LStr LMac LHash at *; rw [e1, e2]; exact L
theorem LHash.r0 {h : Hp} {a : Nat} (L : LHash h a) : hR h a 0 = a + 1 := L.2.1
theorem LHash.r1 {h : Hp} {a : Nat} (L : LHash h a) : hR h a 1 = a + 2 := L.2.2.1
theorem LHash.r2 {h : Hp} {a : Nat} (L : LHash h a) : hR h a 2 = a + 3 := L.2.2.2.1
theorem LMac.r0 {h : Hp} {a : Nat} (L : LMac h a) : hR h a 0 = a + 1 := L.2.1.1
theorem LMac.r1 {h : Hp} {a : Nat} (L : LMac h a) : hR h a 1 = a + 5 := L.2.1.2.1
theorem LMac.r2 {h : Hp} {a : Nat} (L : LMac h a) : hR h a 2 = a + 9 := L.2.1.2.2.1
theorem LMac.r3 {h : Hp} {a : Nat} (L : LMac h a) : hR h a 3 = a + 10 := L.2.1.2.2.2.1
theorem LMac.i0 {h : Hp} {a : Nat} (L : LMac h a) : hR h (a + 1) 0 = a + 2 := L.2.2.1.r0
theorem LMac.i1 {h : Hp} {a : Nat} (L : LMac h a) : hR h (a + 1) 1 = a + 3 := L.2.2.1.r1
theorem LMac.i2 {h : Hp} {a : Nat} (L : LMac h a) : hR h (a + 1) 2 = a + 4 := L.2.2.1.r2
theorem LMac.o0 {h : Hp} {a : Nat} (L : LMac h a) : hR h (a + 5) 0 = a + 6 := L.2.2.2.r0
theorem LMac.o1 {h : Hp} {a : Nat} (L : LMac h a) : hR h (a + 5) 1 = a + 7 := L.2.2.2.r1
theorem LMac.o2 {h : Hp} {a : Nat} (L : LMac h a) : hR h (a + 5) 2 = a + 8 := L.2.2.2.r2
theorem LStr.r0 {h : Hp} {a : Nat} (L : LStr h a) : hR h a 0 = a + 1 := L.2.1.1
theorem LStr.r1 {h : Hp} {a : Nat} (L : LStr h a) : hR h a 1 = a + 12 := L.2.1.2.1
theorem LStr.r2 {h : Hp} {a : Nat} (L : LStr h a) : hR h a 2 = a + 13 := L.2.1.2.2.1
theorem LStr.r3 {h : Hp} {a : Nat} (L : LStr h a) : hR h a 3 = a + 14 := L.2.1.2.2.2.1
theorem LStr.l12 {h : Hp} {a : Nat} (L : LStr h a) : ln h (a + 12) = 32 := L.2.1.2.2.2.2.1
theorem LStr.l13 {h : Hp} {a : Nat} (L : LStr h a) : ln h (a + 13) = 287 := L.2.1.2.2.2.2.2.1
theorem LStr.l14 {h : Hp} {a : Nat} (L : LStr h a) : ln h (a + 14) = 1 := L.2.1.2.2.2.2.2.2
/-- the constants of labels -/
def LC (h : Hp) : Prop := hI h 40 13 = 1 ∧ ∀ i, i < 10 → hR h 40 (2 + i) = 1 + i ∧ hR h (1 + i) 0 = 11 + i ∧ hI h (11 + i) 1 = 0 ∧ hR h (11 + i) 0 = 21 + i ∧ ln h (21 + i) = sLen.getD i 0 ∧ ∀ k, hI h (21 + i) k = (sTx.getD i []).getD k 0
theorem LC.of {h h' : Hp} (L : LC h) (e1 : hR h' = hR h) (e2 : ln h' = ln h) (e3 : ∀ x k, x < 64 → hI h' x k = hI h x k) : LC h' := by
  refine ⟨by rw [e3 _ _ (by omega)]; exact L.1, fun i hi => ?_⟩
  obtain ⟨l1, l2, l3, l4, l5, l6⟩ := L.2 i hi
  refine ⟨by rw [e1]; exact l1, by rw [e1]; exact l2, by rw [e3 _ _ (by omega)]; exact l3, by rw [e1]; exact l4, by rw [e2]; exact l5, fun k => by rw [e3 _ _ (by omega)]; exact l6 k⟩
def MF (a : Nat) (to : Nat) (h h' : Hp) : Prop := (hR h' = hR h ∧ ln h' = ln h) ∧ (∀ x k, (x < a ∨ a + 10 < x) → x ≠ to → hI h' x k = hI h x k)
theorem MF.begin {a r : Nat} {n : Int} {h h' : Hp} (L : LMac h a) (e : f_cMac_begin a r n h = some h') : MF a 0 h h' := by
  have F : Fe (wI_cMac_begin a r n h) (wJ_cMac_begin a r n h) h h' := fe_cMac_begin a r n h _ e
  exact ⟨⟨F.r, F.l⟩, fun x k hx _ => F.I (by simp only [wI_cMac_begin, L.r0, L.r1, L.r2, L.r3, L.i0, L.i1, L.i2, L.o0, L.o1, L.o2]; intro z; rcases z with z | z | z | z | z | z | z | z | z | z <;> omega)⟩
theorem MF.add {a r : Nat} {f n : Int} {h h' : Hp} (L : LMac h a) (e : f_cMac_add a r f n h = some h') : MF a 0 h h' := by
  have F : Fe (wI_cMac_add a r f n h) (wJ_cMac_add a r f n h) h h' := fe_cMac_add a r f n h _ e
  exact ⟨⟨F.r, F.l⟩, fun x k hx _ => F.I (by simp only [wI_cMac_add, L.r0, L.r1, L.r2, L.r3, L.i0, L.i1, L.i2, L.o0, L.o1, L.o2]; intro z; rcases z with z | z | z | z <;> omega)⟩
theorem MF.end {a to : Nat} {p : Int} {h h' : Hp} (L : LMac h a) (e : f_cMac_end a to p h = some h') : MF a to h h' := by
  have F : Fe (wI_cMac_end a to p h) (wJ_cMac_end a to p h) h h' := fe_cMac_end a to p h _ e
  exact ⟨⟨F.r, F.l⟩, fun x k hx _ => F.I (by simp only [wI_cMac_end, L.r0, L.r1, L.r2, L.r3, L.i0, L.i1, L.i2, L.o0, L.o1, L.o2]; intro z; rcases z with z | z | z | z | z | z | z | z | z | z <;> omega)⟩
theorem SC.mf {a to : Nat} {h h' : Hp} (S : SC h) (F : MF a to h h') (ha : 64 ≤ a) (ht : 64 ≤ to ∨ to = 0) : SC h' := S.of F.1.1 F.1.2 (fun k => F.2 31 k (by omega) (by omega)) (fun k => F.2 32 k (by omega) (by omega))
theorem i8_1 (x : Int) : i8 (i8 x) = i8 x := by unfold i8; omega
/-- one round of stretch is enough for 32 bytes -/
theorem c_stretch {a key row size to many : Nat} {K T : Nat → Int} {h : Hp} (L : LStr h a) (S : SC h) (hk : key ≠ 0) (hkd : key < a + 1 ∨ a + 11 < key) (hkl : 32 ≤ ln h key) (hK : ∀ j, j < 32 → hI h key j % 256 = K j % 256)
    (hr : row ≠ 0) (hrd : row < a + 1 ∨ a + 11 < row) (hrl : size ≤ ln h row) (hs : size < 1000000) (hT : ∀ j, j < size → hI h row j % 256 = T j % 256) (hT1 : T size = 1) (ht : 64 ≤ to) (htd : to < a ∨ a + 14 < to) (hm : 0 < many) (hm2 : many ≤ 32) (htl : many ≤ ln h to) :
    wp (f_cStretch_stretch a key 32 row (size : Int) to (many : Int) h) (fun h' => (∀ k, k < many → hI h' to k = i8 (HMAC 32 K (size + 1) T k)) ∧ ∀ j, many ≤ j → hI h' to j = hI h to j) := by
  have l0 := L.1
  have LM := L.2.2
  have ha : 64 ≤ a + 1 := LM.1
  unfold f_cStretch_stretch
  obtain ⟨f, hf⟩ : ∃ f, FU = f + 2 := ⟨999999998, rfl⟩
  rw [hf]
  clear hf
  show wp (f_cStretch_stretch_b6 (f_cStretch_stretch_b6_lp (f + 1)) a key 32 row size to many 0 1 h) _
  unfold f_cStretch_stretch_b6
  rw [if_neg (by omega), L.r0, wp_cn]
  refine ⟨by omega, ?_⟩
  refine wp_b1o (c_macBegin (n := 32) (K := K) (T := T) LM S hk (by omega) (by omega) hkl hK) (fun h1 e1 q1 => ?_)
  have F1 := MF.begin LM e1
  have S1 := S.mf F1 (by omega) (by omega)
  have L1 := L.of F1.1.1 F1.1.2
  rw [if_pos (by omega)]
  unfold f_cStretch_stretch_b42
  rw [L1.r0, wp_cn]
  refine ⟨by omega, ?_⟩
  refine wp_b1o (c_macAdd (fr := 0) (cnt := size) L1.2.2 S1 q1 hr (by omega) (by omega) (by omega) (by omega) (by rw [F1.1.2]; omega) (fun j hj => by rw [F1.2 _ _ (by omega) (by omega), Nat.zero_add]; exact hT j hj)) (fun h2 e2 q2 => ?_)
  rw [Nat.zero_add] at q2
  replace q2 := q2.1
  have F2 := MF.add L1.2.2 e2
  have S2 := S1.mf F2 (by omega) (by omega)
  have L2 := L1.of F2.1.1 F2.1.2
  rw [L2.r3, wp_cn]
  refine ⟨by omega, ?_⟩
  rw [wp_ck, L2.l14]
  refine ⟨⟨by omega, by omega⟩, ?_⟩
  rw [wp_lt1]
  generalize hg : sI h2 (a + 14) (Int.toNat 0) (i8 (i8 1)) = h3
  have z1 : hI h3 (a + 14) 0 = 1 := by rw [← hg, hI_sI, if_pos ⟨rfl, rfl⟩]; decide
  have z2 : ∀ x k, x ≠ a + 14 → hI h3 x k = hI h2 x k := fun x k hx => by rw [← hg, hI_sI, if_neg (fun z => hx z.1)]
  have z3 : hR h3 = hR h2 := by rw [← hg]; rfl
  have z4 : ln h3 = ln h2 := by rw [← hg]; rfl
  have z5 : ∀ x k, hJ h3 x k = hJ h2 x k := fun x k => by rw [← hg]; rfl
  clear hg
  have L3 := L2.of z3 z4
  have S3 : SC h3 := S2.of z3 z4 (fun k => z2 31 k (by omega)) (fun k => z2 32 k (by omega))
  have Q3 : MacS h3 (a + 1) 32 K size T := by
    obtain ⟨⟨p1, p2⟩, p3, p4⟩ := q2
    exact ⟨⟨HS.frame (a := a) p1 (fun x k hx hy => z2 x k (by omega)), by rw [z5]; exact p2⟩, HS.frame (a := a) p3 (fun x k hx hy => z2 x k (by omega)), by rw [z5]; exact p4⟩
  rw [L3.r0, L3.r3, wp_cn]
  refine ⟨by omega, ?_⟩
  refine wp_b1o (c_macAdd (fr := 0) (cnt := 1) (r := a + 14) L3.2.2 S3 Q3 (by omega) (by omega) (by omega) (by omega) (by omega) (by rw [L3.l14]; omega) (fun j hj => by rw [show j = 0 by omega, z1, Nat.add_zero, hT1])) (fun h4 e4 q4 => ?_)
  replace q4 := q4.1
  have F4 := MF.add L3.2.2 e4
  have S4 := S3.mf F4 (by omega) (by omega)
  have L4 := L3.of F4.1.1 F4.1.2
  rw [L4.r0, L4.r1, wp_cn]
  refine ⟨by omega, ?_⟩
  refine wp_b1o (c_macEnd (to := a + 12) (at_ := 0) L4.2.2 S4 q4 (by omega) (by omega) (by omega) (by omega) (by rw [L4.l12]; omega)) (fun h5 e5 q5 => ?_)
  have F5 := MF.end L4.2.2 e5
  have L5 := L4.of F5.1.1 F5.1.2
  have ey0 : w32 ((many : Int) - 0) = (many : Int) := by clear q5; unfold w32; omega
  have ey : min (32 : Int) (many : Int) = (many : Int) := by clear ey0; omega
  have hto : ln h5 to = ln h to := by rw [F5.1.2, F4.1.2, z4, F2.1.2, F1.1.2]
  rw [wp_lt1]
  simp only [ey0, ey, L5.r1]
  clear ey0 ey
  rw [wp_cn]
  refine ⟨by omega, ?_⟩
  rw [wp_cn]
  refine ⟨by omega, ?_⟩
  rw [wp_ck]
  refine ⟨by rw [L5.l12, hto]; unfold cpk; omega, ?_⟩
  rw [wp_lt1, wp_lt1]
  have e0 : w32 (0 + (many : Int)) = (many : Int) := by unfold w32; omega
  simp only [e0]
  clear e0
  show wp (f_cStretch_stretch_b6 (f_cStretch_stretch_b6_lp f) a key 32 row size to many many _ _) _
  unfold f_cStretch_stretch_b6
  rw [if_pos (by omega), wp_some]
  refine ⟨fun k hk => ?_, fun j hj => ?_⟩
  · rw [hI_cI, if_pos ⟨rfl, by omega, by omega⟩]
    have := q5.1 k (by omega)
    rw [Nat.zero_add] at this
    simpa using this
  · rw [hI_cI, if_neg (by omega), F5.2 _ _ (by omega) (by omega), F4.2 _ _ (by omega) (by omega), z2 _ _ (by omega), F2.2 _ _ (by omega) (by omega), F1.2 _ _ (by omega) (by omega)]
