/-! Poly: the class's add and fill -/
def PcS (h : Hp) (a : Nat) (F : Nat → Int) (q m : Nat) (B : Nat → Int) : Prop := (JS h (a + 2) F ∧ lb F 67108864) ∧ (∃ S, JS h (a + 1) S ∧ near S ∧ val S % PP = pAcc (val F) B q) ∧ hI h a 4 = (m : Int) ∧ ∀ j, j < m → hI h (a + 4) j % 256 = B (16 * q + j) % 256
/-- a byte comes into the piece -/
theorem PcS.put {h : Hp} {a q m : Nat} {F B : Nat → Int} {v w : Int} (P : PcS h a F q m B) (hv : v % 256 = B (16 * q + m) % 256) (hw : w = ((m + 1 : Nat) : Int)) : PcS (sI (sI h (a + 4) m v) a 4 w) a F q (m + 1) B := by
  obtain ⟨⟨p1, p2⟩, ⟨S, p3, p4⟩, p5, p6⟩ := P
  refine ⟨⟨p1, p2⟩, ⟨S, p3, p4⟩, by rw [hI_sI, if_pos ⟨rfl, rfl⟩]; exact hw, fun j hj => ?_⟩
  rw [hI_sI, if_neg (by omega), hI_sI]
  by_cases he : j = m
  · rw [if_pos ⟨rfl, he⟩, he]; exact hv
  · rw [if_neg (fun z => he z.2)]; exact p6 j (by omega)
def TlF (a : Nat) (h h' : Hp) : Prop := (hR h' = hR h ∧ ln h' = ln h) ∧ (∀ x k, x ≠ a → x ≠ a + 4 → hI h' x k = hI h x k)
theorem TlF.tr {a : Nat} {h g h' : Hp} (F : TlF a h g) (G : TlF a g h') : TlF a h h' := ⟨⟨G.1.1.trans F.1.1, G.1.2.trans F.1.2⟩, fun x k h1 h2 => (G.2 x k h1 h2).trans (F.2 x k h1 h2)⟩
theorem TlF.put {h : Hp} {a m : Nat} {v w : Int} : TlF a h (sI (sI h (a + 4) m v) a 4 w) := ⟨⟨rfl, rfl⟩, fun x k h1 h2 => by rw [hI_sI, if_neg (fun z => h1 z.1), hI_sI, if_neg (fun z => h2 z.1)]⟩
theorem TlF.take {a : Nat} {v : Int} {h h' : Hp} (L : LTal h a) (e : f_cTally_take a v h = some h') : TlF a h h' := ⟨(TkF L e).1, fun x k h1 _ => (TkF L e).2.1 x k h1⟩
theorem c_tadd {a row from_ cnt n : Nat} {F B : Nat → Int} {h0 : Hp} (hr : row ≠ 0) (hd : row < a ∨ a + 4 < row) (hz : from_ + cnt < 1000000000) (hB : ∀ j, j < cnt → hI h0 row (from_ + j) % 256 = B (n + j) % 256) (f : Nat) : ∀ (k : Nat) (h : Hp), k ≤ cnt → cnt - k < f → LTal h a → from_ + cnt ≤ ln h row → TlF a h0 h → TS h a F (n + k) B → wp (f_cTally_add_b3_lp f a row (from_ : Int) (cnt : Int) (k : Int) h) (fun h' => TS h' a F (n + cnt) B) := by
  induction f with
  | zero => intro k h _ hf; omega
  | succ f ih =>
    intro k h hk hf L hl G T
    have l0 := L.1
    show wp (f_cTally_add_b3 (f_cTally_add_b3_lp f) a row (from_ : Int) (cnt : Int) (k : Int) h) _
    unfold f_cTally_add_b3
    by_cases hx : (cnt : Int) ≤ k
    · rw [if_pos hx, wp_some]
      have : k = cnt := by omega
      subst this
      exact T
    · have e1 : w32 ((from_ : Int) + (k : Int)) = ((from_ + k : Nat) : Int) := w_ck (by omega)
      simp only [e1, Int.toNat_natCast]
      clear e1
      rw [if_neg hx, wp_cn]
      refine ⟨hr, ?_⟩
      rw [wp_ck]
      refine ⟨ix16 (by omega), ?_⟩
      have T' : PcS h a F ((n + k) / 16) ((n + k) % 16) B := T
      have u := T'.2.2.1
      rw [L.r0_3, L.l4, u, wp_cn]
      refine ⟨by clear u; omega, ?_⟩
      rw [wp_ck]
      refine ⟨ix16 (by clear u; omega), ?_⟩
      rw [wp_lt1, Int.toNat_natCast]
      have u5 : hI (sI h (a + 4) ((n + k) % 16) (i8 (hI h row (from_ + k)))) a 4 = (((n + k) % 16 : Nat) : Int) := by rw [hI_sI, if_neg (by clear u; omega), u]
      rw [u5, w_k1 (by clear u u5; omega), wp_lt1]
      clear u5
      have P1 : PcS (sI (sI h (a + 4) ((n + k) % 16) (i8 (hI h row (from_ + k)))) a 4 (((n + k) % 16 + 1 : Nat) : Int)) a F ((n + k) / 16) ((n + k) % 16 + 1) B := T'.put (by
        rw [i8_m, G.2 _ _ (by clear u; omega) (by clear u; omega), hB k (by clear u; omega), show 16 * ((n + k) / 16) + (n + k) % 16 = n + k by clear u; omega]) rfl
      have L1 : LTal (sI (sI h (a + 4) ((n + k) % 16) (i8 (hI h row (from_ + k)))) a 4 (((n + k) % 16 + 1 : Nat) : Int)) a := (L.of rsI lsI).of rsI lsI
      have G1 := G.tr (TlF.put (h := h) (a := a) (m := (n + k) % 16) (v := i8 (hI h row (from_ + k))) (w := (((n + k) % 16 + 1 : Nat) : Int)))
      have hl1 : from_ + cnt ≤ ln (sI (sI h (a + 4) ((n + k) % 16) (i8 (hI h row (from_ + k)))) a 4 (((n + k) % 16 + 1 : Nat) : Int)) row := hl
      generalize sI (sI h (a + 4) ((n + k) % 16) (i8 (hI h row (from_ + k)))) a 4 (((n + k) % 16 + 1 : Nat) : Int) = g at *
      have u1 := P1.2.2.1
      clear u T T' hl
      unfold f_cTally_add_b50
      simp only [w_k1 (show k < 1000000000 by clear u1; omega)]
      by_cases h16 : (n + k) % 16 + 1 = 16
      · rw [if_neg (by rw [u1, h16]; simp)]
        clear u1
        rw [h16] at P1
        refine wp_b1o (c_full (n := n + k) L1 ⟨P1.1, P1.2.1, P1.2.2.2⟩) (fun g2 e2 q2 => ?_)
        have F2 := TlF.take L1 e2
        refine ih (k + 1) g2 (by omega) (by omega) (L1.of F2.1.1 F2.1.2) (by rw [F2.1.2]; exact hl1) (G1.tr F2) ?_
        rw [show n + (k + 1) = 16 * ((n + k) / 16) + 16 by omega]
        exact q2
      · rw [if_pos (by rw [u1]; clear u1; omega)]
        clear u1
        refine ih (k + 1) g (by omega) (by omega) L1 hl1 G1 ?_
        show PcS g a F ((n + (k + 1)) / 16) ((n + (k + 1)) % 16) B
        rw [show (n + (k + 1)) / 16 = (n + k) / 16 by omega, show (n + (k + 1)) % 16 = (n + k) % 16 + 1 by omega]
        exact P1
theorem c_tallyAdd {a row from_ cnt n : Nat} {F B : Nat → Int} {h : Hp} (L : LTal h a) (T : TS h a F n B) (hr : row ≠ 0) (hd : row < a ∨ a + 4 < row) (hz : from_ + cnt < 900000000) (hl : from_ + cnt ≤ ln h row) (hB : ∀ j, j < cnt → hI h row (from_ + j) % 256 = B (n + j) % 256) : wp (f_cTally_add a row (from_ : Int) (cnt : Int) h) (fun h' => TS h' a F (n + cnt) B) := by
  unfold f_cTally_add
  exact c_tadd (h0 := h) hr hd (by omega) hB FU 0 h (by omega) (by unfold FU; omega) L hl ⟨⟨rfl, rfl⟩, fun _ _ _ _ => rfl⟩ T
theorem c_fin {a q : Nat} {F B : Nat → Int} {at_ : Int} (f : Nat) : ∀ (m : Nat) (h : Hp), m ≤ 16 → 16 - m < f → LTal h a → PcS h a F q m B → (∀ j, m ≤ j → j < 16 → B (16 * q + j) % 256 = 0) → wp (f_cTally_finish_b6_lp f a 0 16777216 at_ h) (fun h' => TS h' a F (16 * q + 16) B) := by
  induction f with
  | zero => intro m h _ hf; omega
  | succ f ih =>
    intro m h hm hf L P Z
    have l0 := L.1
    have u := P.2.2.1
    show wp (f_cTally_finish_b6 (f_cTally_finish_b6_lp f) a 0 16777216 at_ h) _
    unfold f_cTally_finish_b6
    by_cases hx : m = 16
    · rw [if_pos (by rw [u, hx]; decide)]
      subst hx
      refine wp_b1o (c_full (n := 16 * q) L ⟨P.1, by rw [show 16 * q / 16 = q by omega]; exact P.2.1, by rw [show 16 * q / 16 = q by omega]; exact P.2.2.2⟩) (fun g e r => ?_)
      rw [wp_some]
      rw [show 16 * q / 16 = q by omega] at r
      exact r
    · rw [if_neg (by rw [u]; clear u; omega)]
      have key : wp (f_cTally_finish_b37 (f_cTally_finish_b6_lp f) a 0 16777216 at_ (hR h a 3) (hI h a 4) 0 h) (fun h' => TS h' a F (16 * q + 16) B) := by
        unfold f_cTally_finish_b37
        rw [L.r0_3, L.l4, u, wp_cn]
        refine ⟨by clear u; omega, ?_⟩
        rw [wp_ck]
        refine ⟨ix16 (by clear u; omega), ?_⟩
        rw [wp_lt1, Int.toNat_natCast]
        have u5 : hI (sI h (a + 4) m (i8 (i8 0))) a 4 = ((m : Nat) : Int) := by rw [hI_sI, if_neg (by clear u; omega), u]
        rw [u5, w_k1 (by clear u u5; omega), wp_lt1]
        clear u5
        exact ih (m + 1) _ (by clear u; omega) (by clear u; omega) ((L.of rsI lsI).of rsI lsI) (P.put (by rw [Z m (by clear u; omega) (by clear u; omega)]; decide) rfl) (fun j h1 h2 => Z j (by clear u; omega) h2)
      by_cases hy : hI h a 4 ≠ at_
      · rw [if_pos hy]; exact key
      · rw [if_neg hy]; exact key
theorem c_fill {a n : Nat} {F B : Nat → Int} {h : Hp} (L : LTal h a) (T : TS h a F n B) (Z : ∀ j, n ≤ j → j < 16 * ((n + 15) / 16) → B j % 256 = 0) : wp (f_cTally_fill a h) (fun h' => TS h' a F (16 * ((n + 15) / 16)) B) := by
  have T' : PcS h a F (n / 16) (n % 16) B := T
  have u := T'.2.2.1
  unfold f_cTally_fill
  by_cases hx : n % 16 = 0
  · rw [if_pos (by rw [u, hx]; decide), wp_some, show 16 * ((n + 15) / 16) = n by omega]
    exact T
  · rw [if_neg (by rw [u]; clear u; omega)]
    unfold f_cTally_finish
    rw [wp_b1, wp_lt1]
    clear u
    refine wp_of (c_fin FU (n % 16) h (by omega) (by unfold FU; omega) L T' (fun j h1 h2 => Z _ (by omega) (by omega))) (fun h' _ q => ?_)
    rw [wp_some, show 16 * ((n + 15) / 16) = 16 * (n / 16) + 16 by omega]
    exact q
