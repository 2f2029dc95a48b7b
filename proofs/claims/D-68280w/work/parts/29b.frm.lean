/-! reading: frames of the class -/
def fldQ (ho : Hp) (F I r e : Nat) (B : Nat → Int) (kind : Int) (S : FS) (o : Int × Hp) : Prop := CFr ho o.2 F I r e B kind S ∧ (o.1 = 0 ∨ o.1 = 1) ∧ (S.2.1 = false → (o.1 = 1 ↔ fOk kind S))
theorem wp_01 {x : Int} {h : Hp} {Q : Int × Hp → Prop} (c : x = 0 ∨ x = 1) (q : Q (x, h)) : wp (if x = 0 ∨ x = 1 then some (x, h) else none) Q := by rw [if_pos c, wp_some]; exact q
section
variable {ho h : Hp} {F I r e : Nat} {B : Nat → Int} {kind : Int} {s : FS}
theorem CFr.v (L : CFr ho h F I r e B kind s) : fVal (hJ h F 2) (hJ h F 3) (hJ h F 4) (hI h F 8) (hI h F 9) s := L.2.2.2.2.1
theorem CFr.d (L : CFr ho h F I r e B kind s) : fBd s := L.2.2.2.2.2
theorem c_allowed (L : CFr ho h F I r e B kind s) : wp (f_cFrame_allowed F h) (fldQ ho F I r e B kind s) := by
  have fin : ∀ c : Int, c = 0 ∨ c = 1 → (s.2.1 = false → (c = 1 ↔ fOk kind s)) → wp (some (c, h)) (fldQ ho F I r e B kind s) := fun c hc q => by
    rw [wp_some]; exact ⟨L, hc, q⟩
  have v := L.v
  have d := L.d
  unfold f_cFrame_allowed f_cFrame_allowed_b18 f_cFrame_allowed_b153 f_cFrame_allowed_b142
  simp only [L.k]
  have w1 : s.2.1 = false → w64 (4611686018427387903 - hI h F 9) = 4611686018427387903 - hI h F 9 := fun g => by
    have v1 := v g
    have d1 := d g
    exact w64_id ⟨by lia, by lia⟩
  unfold fVal at v
  unfold fBd at d
  (repeat' split) <;> refine fin _ (by decide) (fun g => ?_) <;> (have v1 := v g; have d1 := d g; have w2 := w1 g; unfold fOk; clear v d w1 fin L; grind)
theorem c_b281 (L : CFr ho h F I r e B kind s) : wp (f_cFrame_fields_b281 F h) (fldQ ho F I r e B kind s) := by
  unfold f_cFrame_fields_b281
  refine wp_b2o (c_allowed L) (fun x h1 _ q => ?_)
  exact wp_01 q.2.1 q
def car (kind : Int) : Prop := kind = 6 ∨ kind = 7 ∨ kind = 8 ∨ kind = 24 ∨ kind = 28 ∨ kind = 29
theorem c_carries (k : hI h F 0 = kind) : f_cFrame_carries F h = some (if kind = 6 ∨ kind = 7 ∨ kind = 8 ∨ kind = 24 ∨ kind = 28 ∨ kind = 29 then 1 else 0, h) := by
  unfold f_cFrame_carries f_cFrame_carries_b54
  simp only [k]
  grind
theorem c_b269 (L : CFr ho h F I r e B kind s) : wp (f_cFrame_fields_b269 F I h) (fldQ ho F I r e B kind (if kind = 6 ∨ kind = 7 ∨ kind = 8 ∨ kind = 24 ∨ kind = 28 ∨ kind = 29 then fD B e s else s)) := by
  unfold f_cFrame_fields_b269
  refine wp_b2e (c_carries L.k) ?_
  by_cases c : kind = 6 ∨ kind = 7 ∨ kind = 8 ∨ kind = 24 ∨ kind = 28 ∨ kind = 29
  · rw [if_pos c, if_neg (by decide), if_pos c]
    exact wp_b1o (c_slice L) (fun h1 _ q => c_b281 q)
  · rw [if_neg c, if_pos rfl, if_neg c]
    exact c_b281 L
theorem c_b253 (L : CFr ho h F I r e B kind s) (h4 : kind ≠ 4) : wp (f_cFrame_fields_b253 F I h) (fldQ ho F I r e B kind (if kind = 6 ∨ kind = 7 ∨ kind = 8 ∨ kind = 24 ∨ kind = 28 ∨ kind = 29 then fD B e s else s)) := by
  unfold f_cFrame_fields_b253
  rw [L.k, if_pos h4]
  exact c_b269 L
theorem c_b253' (L : CFr ho h F I r e B 4 s) : wp (f_cFrame_fields_b253 F I h) (fldQ ho F I r e B 4 (fC B e s)) := by
  unfold f_cFrame_fields_b253
  rw [L.k, if_neg (by decide), wp_cn]
  refine ⟨L.R.nz, wp_b2e (c_number L.R L.BR) ?_⟩
  rw [wp_lt1]
  have := c_b269 L.c
  rw [if_neg (by decide)] at this
  exact this
theorem c_b209 (L : CFr ho h F I r e B kind s) (h4 : kind ≠ 4) : wp (f_cFrame_fields_b209 F I h) (fldQ ho F I r e B kind (if kind = 6 ∨ kind = 7 ∨ kind = 8 ∨ kind = 24 ∨ kind = 28 ∨ kind = 29 then fD B e (if kind < 7 ∨ kind = 17 ∨ kind = 21 ∨ kind = 28 then fB B e s else s) else (if kind < 7 ∨ kind = 17 ∨ kind = 21 ∨ kind = 28 then fB B e s else s))) := by
  unfold f_cFrame_fields_b209 f_cFrame_fields_b245
  rw [L.k]
  have k1 : wp (if I = 0 then none else b2 (f_cBytes_number I h) fun r102 h100 => lt1 (sJ h100 F 3 r102) fun h103 => f_cFrame_fields_b253 F I h103) (fldQ ho F I r e B kind (if kind = 6 ∨ kind = 7 ∨ kind = 8 ∨ kind = 24 ∨ kind = 28 ∨ kind = 29 then fD B e (fB B e s) else fB B e s)) := by
    rw [wp_cn]
    refine ⟨L.R.nz, wp_b2e (c_number L.R L.BR) ?_⟩
    rw [wp_lt1]
    exact c_b253 L.b h4
  by_cases c : kind < 7 ∨ kind = 17 ∨ kind = 21 ∨ kind = 28
  · simp only [if_pos c]
    rcases c with c | c | c | c
    · rw [if_pos c]; exact k1
    · rw [if_neg (by lia), if_pos c]; exact k1
    · rw [if_neg (by lia), if_neg (by lia), if_pos c]; exact k1
    · rw [if_neg (by lia), if_neg (by lia), if_neg (by lia), if_neg (by lia)]; exact k1
  · simp only [if_neg c]
    rw [if_neg (by lia), if_neg (by lia), if_neg (by lia), if_pos (by lia)]
    exact c_b253 L h4
theorem c_b183 (L : CFr ho h F I r e B kind s) (h4 : kind ≠ 4) (h6 : kind ≠ 6) (h7 : kind ≠ 7) : wp (f_cFrame_fields_b183 F I h) (fldQ ho F I r e B kind (if kind = 6 ∨ kind = 7 ∨ kind = 8 ∨ kind = 24 ∨ kind = 28 ∨ kind = 29 then fD B e (if kind < 7 ∨ kind = 17 ∨ kind = 21 ∨ kind = 28 then fB B e (fA B e s) else fA B e s) else (if kind < 7 ∨ kind = 17 ∨ kind = 21 ∨ kind = 28 then fB B e (fA B e s) else fA B e s))) := by
  unfold f_cFrame_fields_b183
  rw [L.k, if_neg h6, if_neg h7, wp_cn]
  refine ⟨L.R.nz, wp_b2e (c_number L.R L.BR) ?_⟩
  rw [wp_lt1]
  exact c_b209 L.a h4
theorem c_b183_6 (L : CFr ho h F I r e B 6 s) : wp (f_cFrame_fields_b183 F I h) (fldQ ho F I r e B 6 (fD B e (fB B e s))) := by
  unfold f_cFrame_fields_b183
  rw [L.k, if_pos rfl]
  have := c_b209 L (by decide)
  simpa using this
theorem c_b183_7 (L : CFr ho h F I r e B 7 s) : wp (f_cFrame_fields_b183 F I h) (fldQ ho F I r e B 7 (fD B e s)) := by
  unfold f_cFrame_fields_b183
  rw [L.k, if_neg (by decide), if_pos rfl]
  have := c_b209 L (by decide)
  simpa using this
theorem c_b183_4 (L : CFr ho h F I r e B 4 s) : wp (f_cFrame_fields_b183 F I h) (fldQ ho F I r e B 4 (fC B e (fB B e (fA B e s)))) := by
  unfold f_cFrame_fields_b183
  rw [L.k, if_neg (by decide), if_neg (by decide), wp_cn]
  refine ⟨L.R.nz, wp_b2e (c_number L.R L.BR) ?_⟩
  rw [wp_lt1]
  have L1 := L.a
  unfold f_cFrame_fields_b209 f_cFrame_fields_b245
  rw [L1.k, if_pos (by decide), wp_cn]
  refine ⟨L.R.nz, wp_b2e (c_number L1.R L1.BR) ?_⟩
  rw [wp_lt1]
  exact c_b253' L1.b
/-- eight bytes -/
def fE (B : Nat → Int) (e : Nat) (s : FS) : FS := (pA s.1 e s.2.1 8, pB s.1 e s.2.1 8, (if pB s.1 e s.2.1 8 then 0 else w64 (be B s.1 8)), s.2.2.2)
theorem c_b171 (L : CFr ho h F I r e B kind s) (hk : kind = 26 ∨ kind = 27) : wp (f_cFrame_fields_b171 F I h) (fldQ ho F I r e B kind (fE B e s)) := by
  have ⟨⟨z1, z2, z3⟩, R, hB, k, v, d⟩ := L
  have rn := R.rn
  unfold f_cFrame_fields_b171
  rw [wp_cn]
  have cm := c_many R hB (n := 8) (by decide)
  refine ⟨R.nz, wp_b2e cm ?_⟩
  rw [wp_lt1, wp_some]
  refine ⟨⟨⟨z1, z2, z3⟩, (R.adv (pA_le R.le)).sJ, hB.of (fun k => by grind [hI_sI, hI_sJ, hI_sR, hI_adv, hJ_sI, hJ_sJ, hJ_sR, hJ_adv, hR_sI, hR_sJ, hR_sR, hR_adv, ln_sI, ln_sJ, ln_sR, ln_adv, bi]), by grind [hI_sI, hI_sJ, hI_sR, hI_adv, hJ_sI, hJ_sJ, hJ_sR, hJ_adv, hR_sI, hR_sJ, hR_sR, hR_adv, ln_sI, ln_sJ, ln_sR, ln_adv, bi], fun g => ?_, fun g => d (pB_mono g)⟩, Or.inr rfl, fun _ => ?_⟩
  · have v1 := v (pB_mono g)
    unfold fE
    grind [hI_sI, hI_sJ, hI_sR, hI_adv, hJ_sI, hJ_sJ, hJ_sR, hJ_adv, hR_sI, hR_sJ, hR_sR, hR_adv, ln_sI, ln_sJ, ln_sR, ln_adv, bi]
  · have : fOk kind (fE B e s) := by rcases hk with hk | hk <;> rw [hk] <;> simp [fOk]
    exact ⟨fun _ => this, fun _ => rfl⟩
/-- a stream's data without a size: all the rest -/
def fR (e : Nat) (s : FS) : FS := fP e (if s.2.1 then 0 else ((e - s.1 : Nat) : Int)) s
def fSt (B : Nat → Int) (e : Nat) (k : Int) (s : FS) : FS :=
  if k / 2 % 2 = 1 then fD B e (if k / 4 % 2 = 0 then fA B e (s.1, s.2.1, s.2.2.1, s.2.2.2.1, k % 2, s.2.2.2.2.2) else fB B e (fA B e (s.1, s.2.1, s.2.2.1, s.2.2.2.1, k % 2, s.2.2.2.2.2)))
  else fR e (if k / 4 % 2 = 0 then fA B e (s.1, s.2.1, s.2.2.1, s.2.2.2.1, k % 2, s.2.2.2.2.2) else fB B e (fA B e (s.1, s.2.1, s.2.2.1, s.2.2.2.1, k % 2, s.2.2.2.2.2)))
theorem c_st77 (L : CFr ho h F I r e B kind s) : wp (f_cFrame_streams_b77 F h) (fldQ ho F I r e B kind s) := by
  unfold f_cFrame_streams_b77
  refine wp_b2o (c_allowed L) (fun x h1 _ q => ?_)
  exact wp_01 q.2.1 q
theorem c_st40 (L : CFr ho h F I r e B kind s) {d : Int} (hd : hJ h F 5 = d) : wp (f_cFrame_streams_b40 F I h) (fldQ ho F I r e B kind (if d = 1 then fD B e s else fR e s)) := by
  have ⟨⟨z1, z2, z3⟩, R, hB, k, v, bd⟩ := L
  have rn := R.rn
  have sm := R.sm
  unfold f_cFrame_streams_b40
  rw [hd]
  by_cases c : d = 1
  · rw [if_neg (fun z => z c), if_pos c]
    exact wp_b1o (c_slice L) (fun h1 _ q => c_st77 q)
  · rw [if_pos c, if_neg c, wp_cn]
    refine ⟨R.nz, wp_b2e (c_left R) ?_⟩
    simp only [wp_cn, wp_ck, wp_lt1, wp_some, hI_sI, hJ_sJ, hR_sR, hI_sJ, hI_sR, hJ_sI, hJ_sR, hR_sI, hR_sJ, ln_sI, ln_sJ, ln_sR, kd_sI, kd_sJ, kd_sR, hN_sI, hN_sJ, hN_sR, hZ_sI, hZ_sJ, hZ_sR, hR_adv, hJ_adv, ln_adv, hN_adv, hZ_adv, ne_eq, not_false_eq_true, true_and, and_false, false_and, and_true, if_false, if_true, and_self, ixs, Nat.reduceEqDiff, Int.toNat_natCast, tn0, tn1, tn2, tn3, tn4, tn5, tn6, tn7, tn8, tn9]
    have ec : (if s.2.1 then (0 : Int) else ((e - s.1 : Nat) : Int)) = (((if s.2.1 then 0 else e - s.1 : Nat)) : Int) := by split <;> rfl
    rw [ec]
    have R1 : RD (sI h F 9 (((if s.2.1 then 0 else e - s.1 : Nat)) : Int)) I r s.1 e s.2.1 := R.sI (Or.inl z2)
    refine wp_b2e (c_pass R1 (by split <;> lia)) ?_
    simp only [wp_cn, wp_ck, wp_lt1, wp_some, hI_sI, hJ_sJ, hR_sR, hI_sJ, hI_sR, hJ_sI, hJ_sR, hR_sI, hR_sJ, ln_sI, ln_sJ, ln_sR, kd_sI, kd_sJ, kd_sR, hN_sI, hN_sJ, hN_sR, hZ_sI, hZ_sJ, hZ_sR, hR_adv, hJ_adv, ln_adv, hN_adv, hZ_adv, ne_eq, not_false_eq_true, true_and, and_false, false_and, and_true, if_false, if_true, and_self, ixs, Nat.reduceEqDiff, Int.toNat_natCast, tn0, tn1, tn2, tn3, tn4, tn5, tn6, tn7, tn8, tn9]
    refine c_st77 ⟨⟨z1, z2, z3⟩, ?_, hB.of (fun k => by grind [hI_sI, hI_sJ, hI_sR, hI_adv, hJ_sI, hJ_sJ, hJ_sR, hJ_adv, hR_sI, hR_sJ, hR_sR, hR_adv, ln_sI, ln_sJ, ln_sR, ln_adv, bi]), by grind [hI_sI, hI_sJ, hI_sR, hI_adv, hJ_sI, hJ_sJ, hJ_sR, hJ_adv, hR_sI, hR_sJ, hR_sR, hR_adv, ln_sI, ln_sJ, ln_sR, ln_adv, bi], fun g => ?_, fun g => ?_⟩
    · unfold fR fP
      rw [ec, Int.toNat_natCast]
      exact (R1.adv (pA_le R.le)).sI (Or.inl z2)
    · unfold fR fP at g ⊢
      have sb := pB_mono g
      have v1 := v sb
      simp only [sb] at v1 ⊢
      grind [hI_sI, hI_sJ, hI_sR, hI_adv, hJ_sI, hJ_sJ, hJ_sR, hJ_adv, hR_sI, hR_sJ, hR_sR, hR_adv, ln_sI, ln_sJ, ln_sR, ln_adv, bi]
    · unfold fR fP at g ⊢
      have sb := pB_mono g
      have v1 := bd sb
      simp only [sb] at v1 ⊢
      refine ⟨v1.1, ?_⟩
      simp only [Bool.false_eq_true, if_false]
      lia
theorem iAnd1 (x : Int) : iAnd x 1 = x % 2 := iAnd_mask (n := 1) (by decide) rfl
theorem iShr1 {x : Int} (h0 : 0 ≤ x) (h1 : x < 256) : iAnd (iShr x 1) 1 = x / 2 % 2 := by
  have e2 : iShr x 1 = x / 2 ^ 1 := iShr_eq (n := 1) ⟨by lia, by lia⟩ (by decide)
  rw [e2, iAnd1]; rfl
theorem iAnd4 {x : Int} (h0 : 0 ≤ x) (h1 : x < 256) : iAnd x 4 = 4 * (x / 4 % 2) := by
  have := (by decide +kernel : ∀ x : Fin 256, iAnd (x.val : Int) 4 = 4 * ((x.val : Int) / 4 % 2)) ⟨x.toNat, by lia⟩
  simpa [Int.toNat_of_nonneg h0] using this
theorem c_streams (L : CFr ho h F I r e B kind s) {k : Int} (h0 : 0 ≤ k) (h1 : k < 256) : wp (f_cFrame_streams F I k h) (fldQ ho F I r e B kind (fSt B e k s)) := by
  have ⟨⟨z1, z2, z3⟩, R, hB, kk, v, bd⟩ := L
  have rn := R.rn
  unfold f_cFrame_streams fSt
  simp only [wp_cn, wp_ck, wp_lt1, wp_some, hI_sI, hJ_sJ, hR_sR, hI_sJ, hI_sR, hJ_sI, hJ_sR, hR_sI, hR_sJ, ln_sI, ln_sJ, ln_sR, kd_sI, kd_sJ, kd_sR, hN_sI, hN_sJ, hN_sR, hZ_sI, hZ_sJ, hZ_sR, hR_adv, hJ_adv, ln_adv, hN_adv, hZ_adv, ne_eq, not_false_eq_true, true_and, and_false, false_and, and_true, if_false, if_true, and_self, ixs, Nat.reduceEqDiff, Int.toNat_natCast, tn0, tn1, tn2, tn3, tn4, tn5, tn6, tn7, tn8, tn9, iShr1 h0 h1, iAnd1, iAnd4 h0 h1]
  refine ⟨R.nz, ?_⟩
  have L1 : CFr ho (sJ (sJ h F 4 (k % 2)) F 5 (k / 2 % 2)) F I r e B kind (s.1, s.2.1, s.2.2.1, s.2.2.2.1, k % 2, s.2.2.2.2.2) := by
    refine ⟨⟨z1, z2, z3⟩, R, hB, kk, fun g => ?_, bd⟩
    have v1 := v g
    grind [hI_sI, hI_sJ, hI_sR, hI_adv, hJ_sI, hJ_sJ, hJ_sR, hJ_adv, hR_sI, hR_sJ, hR_sR, hR_adv, ln_sI, ln_sJ, ln_sR, ln_adv, bi]
  have d1 : hJ (sJ (sJ h F 4 (k % 2)) F 5 (k / 2 % 2)) F 5 = k / 2 % 2 := by grind [hI_sI, hI_sJ, hI_sR, hI_adv, hJ_sI, hJ_sJ, hJ_sR, hJ_adv, hR_sI, hR_sJ, hR_sR, hR_adv, ln_sI, ln_sJ, ln_sR, ln_adv, bi]
  generalize sJ (sJ h F 4 (k % 2)) F 5 (k / 2 % 2) = h2 at *
  refine wp_b2e (c_number L1.R L1.BR) ?_
  rw [wp_lt1]
  have L2 := L1.a
  have d2 : hJ (sJ (adv h2 I (nA B s.1 e s.2.1) (nB B s.1 e s.2.1)) F 2 (nV B s.1 e s.2.1)) F 5 = k / 2 % 2 := by grind [hI_sI, hI_sJ, hI_sR, hI_adv, hJ_sI, hJ_sJ, hJ_sR, hJ_adv, hR_sI, hR_sJ, hR_sR, hR_adv, ln_sI, ln_sJ, ln_sR, ln_adv, bi]
  by_cases c : k / 4 % 2 = 0
  · rw [if_pos (by lia)]
    simp only [if_pos c]
    exact c_st40 L2 d2
  · rw [if_neg (by lia)]
    simp only [if_neg c]
    refine wp_b2e (c_number L2.R L2.BR) ?_
    rw [wp_lt1]
    refine c_st40 L2.b ?_
    rw [← d2]
    grind [hI_sI, hI_sJ, hI_sR, hI_adv, hJ_sI, hJ_sJ, hJ_sR, hJ_adv, hR_sI, hR_sJ, hR_sR, hR_adv, ln_sI, ln_sJ, ln_sR, ln_adv, bi]
/-- a name: a, b, a size, data, sixteen bytes -/
def fN1 (B : Nat → Int) (e : Nat) (s : FS) : FS := fP e (if pB s.1 e s.2.1 1 then 0 else B s.1) (pA s.1 e s.2.1 1, pB s.1 e s.2.1 1, s.2.2)
def fN2 (e : Nat) (s : FS) : FS := (pA s.1 e s.2.1 16, pB s.1 e s.2.1 16, s.2.2)
theorem c_names (L : CFr ho h F I r e B 24 s) : wp (f_cFrame_names F I h) (fldQ ho F I r e B 24 (fN2 e (fN1 B e (fB B e (fA B e s))))) := by
  have rn := L.R.rn
  have sm := L.R.sm
  unfold f_cFrame_names
  rw [wp_cn]
  refine ⟨L.R.nz, wp_b2e (c_number L.R L.BR) ?_⟩
  rw [wp_lt1]
  have L1 := L.a
  refine wp_b2e (c_number L1.R L1.BR) ?_
  rw [wp_lt1]
  have L2 := L1.b
  dsimp only [fA] at L2 ⊢
  generalize sJ (adv (sJ (adv h I (nA B s.1 e s.2.1) (nB B s.1 e s.2.1)) F 2 (nV B s.1 e s.2.1)) I _ _) F 3 _ = h2 at *
  generalize fB B e _ = s2 at *
  have ⟨⟨z1, z2, z3⟩, R, hB, kk, v, bd⟩ := L2
  refine wp_b2e (c_one R hB) ?_
  have bs : ∃ n : Nat, (if pB s2.1 e s2.2.1 1 then 0 else B s2.1) = (n : Int) ∧ n < 256 := by
    by_cases g : pB s2.1 e s2.2.1 1 = true
    · rw [if_pos g]; exact ⟨0, rfl, by decide⟩
    · rw [if_neg g]
      have g' : pB s2.1 e s2.2.1 1 = false := by simpa using g
      have := hB.b (j := s2.1) (by have := (pB_inv g').2; lia)
      exact ⟨(B s2.1).toNat, by lia, by lia⟩
  obtain ⟨n, hn, n256⟩ := bs
  unfold fN1
  rw [hn]
  simp only [wp_cn, wp_ck, wp_lt1, wp_some, hI_sI, hJ_sJ, hR_sR, hI_sJ, hI_sR, hJ_sI, hJ_sR, hR_sI, hR_sJ, ln_sI, ln_sJ, ln_sR, kd_sI, kd_sJ, kd_sR, hN_sI, hN_sJ, hN_sR, hZ_sI, hZ_sJ, hZ_sR, hR_adv, hJ_adv, ln_adv, hN_adv, hZ_adv, ne_eq, not_false_eq_true, true_and, and_false, false_and, and_true, if_false, if_true, and_self, ixs, Nat.reduceEqDiff, Int.toNat_natCast, tn0, tn1, tn2, tn3, tn4, tn5, tn6, tn7, tn8, tn9]
  have R1 : RD (sI (adv h2 I (pA s2.1 e s2.2.1 1) (pB s2.1 e s2.2.1 1)) F 9 (n : Int)) I r (pA s2.1 e s2.2.1 1) e (pB s2.1 e s2.2.1 1) := (R.adv (pA_le R.le)).sI (Or.inl z2)
  refine wp_b2e (c_pass R1 (by lia)) ?_
  simp only [wp_cn, wp_ck, wp_lt1, wp_some, hI_sI, hJ_sJ, hR_sR, hI_sJ, hI_sR, hJ_sI, hJ_sR, hR_sI, hR_sJ, ln_sI, ln_sJ, ln_sR, kd_sI, kd_sJ, kd_sR, hN_sI, hN_sJ, hN_sR, hZ_sI, hZ_sJ, hZ_sR, hR_adv, hJ_adv, ln_adv, hN_adv, hZ_adv, ne_eq, not_false_eq_true, true_and, and_false, false_and, and_true, if_false, if_true, and_self, ixs, Nat.reduceEqDiff, Int.toNat_natCast, tn0, tn1, tn2, tn3, tn4, tn5, tn6, tn7, tn8, tn9]
  have L3 : CFr ho (sI (adv (sI (adv h2 I (pA s2.1 e s2.2.1 1) (pB s2.1 e s2.2.1 1)) F 9 (n : Int)) I (pA (pA s2.1 e s2.2.1 1) e (pB s2.1 e s2.2.1 1) n) (pB (pA s2.1 e s2.2.1 1) e (pB s2.1 e s2.2.1 1) n)) F 8 ((pA s2.1 e s2.2.1 1 : Nat) : Int)) F I r e B 24 (fP e (n : Int) (pA s2.1 e s2.2.1 1, pB s2.1 e s2.2.1 1, s2.2.2)) := by
    refine ⟨⟨z1, z2, z3⟩, ?_, hB.of (fun k => by grind [hI_sI, hI_sJ, hI_sR, hI_adv, hJ_sI, hJ_sJ, hJ_sR, hJ_adv, hR_sI, hR_sJ, hR_sR, hR_adv, ln_sI, ln_sJ, ln_sR, ln_adv, bi]), by grind [hI_sI, hI_sJ, hI_sR, hI_adv, hJ_sI, hJ_sJ, hJ_sR, hJ_adv, hR_sI, hR_sJ, hR_sR, hR_adv, ln_sI, ln_sJ, ln_sR, ln_adv, bi], fun g => ?_, fun g => ?_⟩
    · unfold fP; exact (R1.adv (pA_le R1.le)).sI (Or.inl z2)
    · unfold fP at g ⊢
      have sb := (pB_inv (pB_inv g).1).1
      have v1 := v sb
      grind [hI_sI, hI_sJ, hI_sR, hI_adv, hJ_sI, hJ_sJ, hJ_sR, hJ_adv, hR_sI, hR_sJ, hR_sR, hR_adv, ln_sI, ln_sJ, ln_sR, ln_adv, bi]
    · unfold fP at g ⊢
      have sb := (pB_inv (pB_inv g).1).1
      exact ⟨(bd sb).1, by dsimp only; lia⟩
  generalize sI (adv (sI (adv h2 I (pA s2.1 e s2.2.1 1) (pB s2.1 e s2.2.1 1)) F 9 (n : Int)) I (pA (pA s2.1 e s2.2.1 1) e (pB s2.1 e s2.2.1 1) n) (pB (pA s2.1 e s2.2.1 1) e (pB s2.1 e s2.2.1 1) n)) F 8 ((pA s2.1 e s2.2.1 1 : Nat) : Int) = h3 at *
  generalize fP e (n : Int) (pA s2.1 e s2.2.1 1, pB s2.1 e s2.2.1 1, s2.2.2) = s3 at *
  clear L2 R hB kk v bd R1 hn
  have ⟨⟨_, _, z3'⟩, R, hB, kk, v, bd⟩ := L3
  refine wp_b2e (c_pass R (n := 16) (by decide)) ?_
  rw [wp_lt1]
  have L4 : CFr ho (sI (adv h3 I (pA s3.1 e s3.2.1 16) (pB s3.1 e s3.2.1 16)) F 10 (s3.1 : Int)) F I r e B 24 (fN2 e s3) := by
    refine ⟨⟨z1, z2, z3'⟩, (R.adv (pA_le R.le)).sI (Or.inl z2), hB.of (fun k => by grind [hI_sI, hI_sJ, hI_sR, hI_adv, hJ_sI, hJ_sJ, hJ_sR, hJ_adv, hR_sI, hR_sJ, hR_sR, hR_adv, ln_sI, ln_sJ, ln_sR, ln_adv, bi]), by grind [hI_sI, hI_sJ, hI_sR, hI_adv, hJ_sI, hJ_sJ, hJ_sR, hJ_adv, hR_sI, hR_sJ, hR_sR, hR_adv, ln_sI, ln_sJ, ln_sR, ln_adv, bi], fun g => ?_, fun g => bd (pB_inv g).1⟩
    have v1 := v (pB_inv g).1
    unfold fN2
    grind [hI_sI, hI_sJ, hI_sR, hI_adv, hJ_sI, hJ_sJ, hJ_sR, hJ_adv, hR_sI, hR_sJ, hR_sR, hR_adv, ln_sI, ln_sJ, ln_sR, ln_adv, bi]
  refine wp_b2o (c_allowed L4) (fun x h1 _ q => ?_)
  exact wp_01 q.2.1 q
end
