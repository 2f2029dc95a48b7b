-- uses: 28a
/-! reading: the class's Bytes, the model's Wire, by equations -/
theorem lt1_eq {α β : Type} {x : α} {f : α → β} : lt1 x f = f x := rfl
theorem bi0 : bi false = 0 := rfl
theorem bi1 : bi true = 1 := rfl
theorem pA_t {at_ e n : Nat} {b : Bool} (g : pB at_ e b n = true) : pA at_ e b n = at_ := by unfold pA; rw [if_pos g]
theorem pA_f {at_ e n : Nat} {b : Bool} (g : pB at_ e b n = false) : pA at_ e b n = at_ + n := by unfold pA; rw [if_neg (by rw [g]; decide)]
section
variable {h : Hp} {a r at_ e : Nat} {b : Bool} {B : Nat → Int}
theorem pB_f {n : Nat} (hn : at_ + n ≤ e) : pB at_ e false n = false := by unfold pB; simp; omega
theorem pB_t {n : Nat} (hn : e < at_ + n) : pB at_ e false n = true := by unfold pB; simp; omega
theorem pB_b {n : Nat} : pB at_ e true n = true := by unfold pB; simp
theorem pB_inv {n : Nat} (g : pB at_ e b n = false) : b = false ∧ at_ + n ≤ e := by unfold pB at g; cases b <;> simp at g; exact ⟨rfl, by omega⟩
theorem w_em (hl : at_ ≤ e) (hs : e < 1000000) : w32 ((e : Int) - (at_ : Int)) = ((e - at_ : Nat) : Int) := by unfold w32; omega
theorem iAnd255 (x : Int) : iAnd x 255 = x % 256 := iAnd_mask (n := 8) (by decide) rfl
theorem c_step (R : RD h a r at_ e b) {n : Nat} (hn : n < 1000000) : f_cBytes_step a (n : Int) h = some (if pB at_ e b n then 0 else 1, sI h a 3 (bi (pB at_ e b n))) := by
  have l1 := R.le
  have n0 := R.nz
  unfold f_cBytes_step f_cBytes_step_b25 f_cBytes_step_b30
  simp only [R.i1, R.i2, R.i3, w_em R.le R.sm, lt1_eq, hI_sI, and_self, if_true]
  cases b
  · by_cases g : e < at_ + n
    · rw [pB_t g, if_neg (by decide), if_neg (by omega), if_neg (by omega), if_neg n0, if_neg (by decide), if_pos (by decide)]; rfl
    · rw [pB_f (by omega), if_neg (by decide), if_neg (by omega), if_pos (by omega), if_neg n0, if_neg (by decide), if_neg (by decide)]; rfl
  · rw [pB_b, if_pos (by decide), if_neg n0, if_neg (by decide), if_pos (by decide)]; rfl
theorem c_left (R : RD h a r at_ e b) : f_cBytes_left a h = some (if b then 0 else ((e - at_ : Nat) : Int), h) := by
  unfold f_cBytes_left
  rw [R.i1, R.i2, R.i3, w_em R.le R.sm]
  cases b <;> rfl
theorem c_pass (R : RD h a r at_ e b) {n : Nat} (hn : n < 1000000) : f_cBytes_pass a (n : Int) h = some ((at_ : Int), adv h a (pA at_ e b n) (pB at_ e b n)) := by
  unfold f_cBytes_pass
  rw [lt1_eq, c_step R hn, b2_some, R.i1]
  have sm := R.sm
  by_cases g : pB at_ e b n = true
  · rw [pA_t g, g, if_pos rfl, if_pos rfl, adv_id R]
  · have g' : pB at_ e b n = false := by simpa using g
    have le := (pB_inv g').2
    have a1 : hI (sI h a 3 (bi false)) a 1 = (at_ : Int) := by rw [hI_sI, if_neg (by omega)]; exact R.i1
    rw [pA_f g', g']
    simp only [Bool.false_eq_true, if_false, Int.reduceEq, lt1_eq, a1]
    rw [w_ck (by omega)]
    rfl
theorem c_one (R : RD h a r at_ e b) (hB : BRc h r e B) : f_cBytes_one a h = some (if pB at_ e b 1 then 0 else B at_, adv h a (pA at_ e b 1) (pB at_ e b 1)) := by
  unfold f_cBytes_one
  have cs := c_step R (n := 1) (by decide)
  rw [show ((1 : Nat) : Int) = 1 from rfl] at cs
  rw [cs, b2_some]
  clear cs
  by_cases g : pB at_ e b 1 = true
  · rw [pA_t g, g, if_pos rfl, if_pos rfl, if_pos rfl, adv_id R]
  · have g' : pB at_ e b 1 = false := by simpa using g
    have le := (pB_inv g').2
    have sm := R.sm
    have rn := R.rn
    have a1 : hI (sI h a 3 (bi false)) a 1 = (at_ : Int) := by rw [hI_sI, if_neg (by omega)]; exact R.i1
    have hv : hI (adv h a (at_ + 1) false) r at_ = hI h r at_ := by clear a1; rw [hI_adv, if_neg (by omega), if_neg (by omega)]
    have ad : sI (sI h a 3 (bi false)) a 1 ((at_ + 1 : Nat) : Int) = adv h a (at_ + 1) false := rfl
    rw [pA_f g', g']
    simp only [Bool.false_eq_true, if_false, Int.reduceEq]
    rw [lt1_eq, a1, w_k1 (by clear a1 hv ad; omega), ad, hR_sI, R.row, if_neg R.rz, ln_adv, if_pos (R.ix (by clear a1 hv ad; omega)), Int.toNat_natCast, hv, iAnd255, (hB at_ (by clear a1 hv ad; omega)).2]
theorem c_manyL (R : RD h a r at_ e b) (hB : BRc h r e B) {n : Nat} (hn : n ≤ 8) (hl : at_ + n ≤ e) (f : Nat) : ∀ k, k ≤ n → n - k < f → f_cBytes_many_b13_lp f a (n : Int) (w64 (be B at_ k)) (k : Int) (adv h a (at_ + k) b) = some (w64 (be B at_ n), adv h a (at_ + n) b) := by
  induction f with
  | zero => intro k _ hf; omega
  | succ f ih =>
    intro k hk hf
    show f_cBytes_many_b13 (f_cBytes_many_b13_lp f) a (n : Int) (w64 (be B at_ k)) (k : Int) (adv h a (at_ + k) b) = _
    unfold f_cBytes_many_b13
    have sm := R.sm
    have rn := R.rn
    by_cases hx : (n : Int) ≤ k
    · have : k = n := by omega
      subst this
      rw [if_pos hx]
    · have l1 : at_ + k < e := by omega
      have a1 : hI (adv h a (at_ + k) b) a 1 = ((at_ + k : Nat) : Int) := by rw [hI_adv, if_pos ⟨rfl, rfl⟩]
      have hv : hI (adv h a (at_ + k + 1) b) r (at_ + k) = hI h r (at_ + k) := by clear a1; rw [hI_adv, if_neg (by omega), if_neg (by omega)]
      have hb := be_st (B := B) (at_ := at_) (k := k) (y := hI h r (at_ + k) % 256) (hB (at_ + k) l1).2 ⟨Int.emod_nonneg _ (by decide), Int.emod_lt_of_pos _ (by decide)⟩
      rw [if_neg hx, lt1_eq, a1, w_k1 (by clear a1 hv hb; omega), adv_at, ln_adv, hR_adv, R.row, if_neg R.rz, if_pos (R.ix l1), lt1_eq, Int.toNat_natCast, hv, iAnd255, hb, w_k1 (by clear a1 hv hb; omega)]
      clear a1 hv hb
      exact ih (k + 1) (by omega) (by omega)
theorem c_many (R : RD h a r at_ e b) (hB : BRc h r e B) {n : Nat} (hn : n ≤ 8) : f_cBytes_many a (n : Int) h = some (if pB at_ e b n then 0 else w64 (be B at_ n), adv h a (pA at_ e b n) (pB at_ e b n)) := by
  unfold f_cBytes_many
  rw [c_step R (by omega), b2_some]
  by_cases g : pB at_ e b n = true
  · rw [pA_t g, g, if_pos rfl, if_pos rfl, if_pos rfl, adv_id R]
  · have g' : pB at_ e b n = false := by simpa using g
    obtain ⟨rfl, le⟩ := pB_inv g'
    have := c_manyL R hB hn le FU 0 (by omega) (by unfold FU; omega)
    rw [pA_f g', g']
    simp only [Bool.false_eq_true, if_false, Int.reduceEq]
    rw [← adv_id R]
    exact this
theorem nsz_c {x : Int} (hx : -128 ≤ x ∧ x < 128) (e1 : x % 256 = B at_) : iShl 1 (iAnd (iShr x 6) 3) = (nsz B at_ : Int) := by
  have e2 : iShr x 6 = x / 2 ^ 6 := iShr_eq (n := 6) ⟨by omega, by omega⟩ (by decide)
  have e3 : ∀ z : Int, iAnd z 3 = z % 2 ^ 2 := fun z => iAnd_mask (n := 2) (by decide) rfl
  rw [e2, e3]
  unfold nsz
  rw [← e1]
  clear e1 e2 e3
  have c : (x / 2 ^ 6 % 2 ^ 2 = 0 ∧ x % 256 < 64) ∨ (x / 2 ^ 6 % 2 ^ 2 = 1 ∧ 64 ≤ x % 256 ∧ x % 256 < 128) ∨ (x / 2 ^ 6 % 2 ^ 2 = 2 ∧ 128 ≤ x % 256 ∧ x % 256 < 192) ∨ (x / 2 ^ 6 % 2 ^ 2 = 3 ∧ 192 ≤ x % 256) := by omega
  rcases c with c | c | c | c
  · rw [c.1, if_pos c.2]; decide
  · rw [c.1, if_neg (by omega), if_pos c.2.2]; decide
  · rw [c.1, if_neg (by omega), if_neg (by omega), if_pos c.2.2]; decide
  · rw [c.1, if_neg (by omega), if_neg (by omega), if_neg (by omega)]; decide
theorem nvl_c {v : Int} (hB : 0 ≤ B at_ ∧ B at_ < 256) (hv : v = w64 (be B at_ (nsz B at_))) : (if ((nsz B at_ : Nat) : Int) ≠ 8 then lAnd v (w64 (lShl 1 (w32 (w32 (8 * (nsz B at_ : Int)) - 2)) - 1)) else lAnd v 4611686018427387903) = nvl B at_ := by
  unfold nvl
  rw [← hv]
  have n0 : nsz B at_ = if B at_ < 64 then 1 else if B at_ < 128 then 2 else if B at_ < 192 then 4 else 8 := rfl
  clear hv
  by_cases c1 : B at_ < 64
  · rw [if_pos c1] at n0
    rw [n0, if_pos c1, if_pos (by decide)]
    exact lAnd_mask (n := 6) (by decide) (by decide)
  · rw [if_neg c1] at n0
    by_cases c2 : B at_ < 128
    · rw [if_pos c2] at n0
      rw [n0, if_neg c1, if_pos c2, if_pos (by decide)]
      exact lAnd_mask (n := 14) (by decide) (by decide)
    · rw [if_neg c2] at n0
      by_cases c3 : B at_ < 192
      · rw [if_pos c3] at n0
        rw [n0, if_neg c1, if_neg c2, if_pos c3, if_pos (by decide)]
        exact lAnd_mask (n := 30) (by decide) (by decide)
      · rw [if_neg c3] at n0
        rw [n0, if_neg c1, if_neg c2, if_neg c3, if_neg (by decide)]
        exact lAnd_mask (n := 62) (by decide) (by decide)
theorem nA_t (g : nB B at_ e b = true) : nA B at_ e b = at_ := by unfold nA; rw [if_pos g]
theorem nV_t (g : nB B at_ e b = true) : nV B at_ e b = 0 := by unfold nV; rw [if_pos g]
theorem nV_g (g : nB B at_ e b = false) : nV B at_ e b = nvl B at_ := by unfold nV; rw [if_neg (by rw [g]; decide)]
theorem nB_p (hl : at_ < e) : pB at_ e false (nsz B at_) = nB B at_ e false := by
  unfold nB pB
  simp only [Bool.false_or]
  rw [show decide (e ≤ at_) = false by simp; omega, Bool.false_or]
theorem nA_p (hl : at_ < e) : pA at_ e false (nsz B at_) = nA B at_ e false := by unfold pA nA; rw [nB_p hl]
theorem lAnd0 (x : Int) : lAnd 0 x = 0 := by unfold lAnd; simp
theorem c_number (R : RD h a r at_ e b) (hB : BRc h r e B) : f_cBytes_number a h = some (nV B at_ e b, adv h a (nA B at_ e b) (nB B at_ e b)) := by
  unfold f_cBytes_number
  have cs := c_step R (n := 1) (by decide)
  rw [show ((1 : Nat) : Int) = 1 from rfl] at cs
  rw [cs, b2_some]
  clear cs
  by_cases g : pB at_ e b 1 = true
  · have gn : nB B at_ e b = true := by unfold nB; unfold pB at g; cases b <;> simp at g ⊢; left; omega
    rw [nV_t gn, nA_t gn, g, gn, if_pos rfl, if_neg (by decide), adv_id R]
  · have g' : pB at_ e b 1 = false := by simpa using g
    obtain ⟨rfl, le⟩ := pB_inv g'
    have le' : at_ < e := le
    have R0 : sI h a 3 (bi false) = h := sI_id R.i3
    have cm := c_many R hB (n := nsz B at_) (nsz_pos B at_).2
    have bb := hB at_ le'
    have nz := nsz_c (B := B) (at_ := at_) bb.1 bb.2
    rw [g', R0]
    simp only [Bool.false_eq_true, if_false, ne_eq, Int.reduceEq, not_false_eq_true, if_true]
    rw [R.row, if_neg R.rz, R.i1, if_pos (R.ix le'), lt1_eq, Int.toNat_natCast, nz, cm, b2_some, nB_p le', nA_p le']
    have b0 : 0 ≤ B at_ ∧ B at_ < 256 := by rw [← bb.2]; exact ⟨Int.emod_nonneg _ (by decide), Int.emod_lt_of_pos _ (by decide)⟩
    clear cm nz bb
    by_cases gg : nB B at_ e false = true
    · rw [nV_t gg, gg]
      simp only [if_true, lAnd0]
      split <;> rfl
    · have gg' : nB B at_ e false = false := by simpa using gg
      have := nvl_c (B := B) (at_ := at_) (v := w64 (be B at_ (nsz B at_))) b0 rfl
      rw [nV_g gg', gg', ← this]
      simp only [Bool.false_eq_true, if_false]
      split <;> rfl
/-! the model -/
theorem m_manyL (R : RD h a r at_ e b) (hB : BRm h r e B) {n : Nat} (hn : n ≤ 8) (hl : at_ + n ≤ e) (f : Nat) : ∀ k, k ≤ n → n - k < f → f_mWire_take_b32_lp f a (n : Int) (w64 (be B at_ k)) (k : Int) (adv h a (at_ + k) b) = some (w64 (be B at_ n), adv h a (at_ + n) b) := by
  induction f with
  | zero => intro k _ hf; omega
  | succ f ih =>
    intro k hk hf
    show f_mWire_take_b32 (f_mWire_take_b32_lp f) a (n : Int) (w64 (be B at_ k)) (k : Int) (adv h a (at_ + k) b) = _
    unfold f_mWire_take_b32
    have sm := R.sm
    have rn := R.rn
    by_cases hx : (n : Int) ≤ k
    · have : k = n := by omega
      subst this
      rw [if_pos hx]
    · have l1 : at_ + k < e := by omega
      have a1 : hI (adv h a (at_ + k) b) a 1 = ((at_ + k : Nat) : Int) := by rw [hI_adv, if_pos ⟨rfl, rfl⟩]
      have hv : hI (adv h a (at_ + k) b) r (at_ + k) = B (at_ + k) := by clear a1; rw [hI_adv, if_neg (by omega), if_neg (by omega)]; exact (hB _ l1).2
      have hb := be_st (B := B) (at_ := at_) (k := k) (y := B (at_ + k)) rfl (hB (at_ + k) l1).1
      rw [if_neg hx, hR_adv, R.row, if_neg R.rz, a1, ln_adv, if_pos (R.ix l1), lt1_eq, lt1_eq, w_k1 (by clear a1 hv hb; omega), w_k1 (by clear a1 hv hb; omega), adv_at, Int.toNat_natCast, hv, hb]
      clear a1 hv hb
      exact ih (k + 1) (by omega) (by omega)
theorem m_take (R : RD h a r at_ e b) (hB : BRm h r e B) {n : Nat} (hn : n ≤ 8) : f_mWire_take a (n : Int) h = some (if pB at_ e b n then 0 else w64 (be B at_ n), adv h a (pA at_ e b n) (pB at_ e b n)) := by
  unfold f_mWire_take f_mWire_take_b20
  have l1 := R.le
  simp only [R.i1, R.i2, R.i3, w_em R.le R.sm, lt1_eq]
  cases b
  · by_cases g : e < at_ + n
    · have g1 := pB_t g
      rw [pA_t g1, g1, if_neg (by decide), if_neg (by omega), if_pos rfl, adv_id R]; rfl
    · have g1 : pB at_ e false n = false := pB_f (by omega)
      have := m_manyL R hB hn (by omega) FU 0 (by omega) (by unfold FU; omega)
      rw [Nat.add_zero, adv_id' R] at this
      rw [pA_f g1, g1, if_neg (by decide), if_pos (by clear this; omega), if_neg (by decide)]
      exact this
  · rw [pA_t pB_b, pB_b, if_pos (by decide), if_pos rfl, adv_id R]; rfl
theorem w_wn {n : Nat} (hl : at_ + n < 1000000) : w32 ((at_ : Int) + w32 (n : Int)) = ((at_ + n : Nat) : Int) := by
  rw [show w32 (n : Int) = (n : Int) from w32_id ⟨by omega, by omega⟩]
  exact w_ck (by omega)
theorem m_pass (R : RD h a r at_ e b) {n : Nat} {v : Int} (hv : v = (n : Int)) : f_mWire_pass a v h = some ((at_ : Int), adv h a (pA at_ e b n) (pB at_ e b n)) := by
  subst hv
  unfold f_mWire_pass f_mWire_pass_b27
  have l1 := R.le
  have sm := R.sm
  simp only [R.i1, R.i2, R.i3, w_em R.le R.sm, lt1_eq]
  cases b
  · by_cases g : e < at_ + n
    · have g1 := pB_t g
      rw [pA_t g1, g1, if_neg (by decide), if_neg (by omega), adv_id R]; rfl
    · have g1 : pB at_ e false n = false := pB_f (by omega)
      rw [pA_f g1, g1, if_neg (by decide), if_pos (by omega), w_wn (by omega)]
      unfold adv
      rw [sI_id (a := a) (k := 3) R.i3]
  · rw [pA_t pB_b, pB_b, if_pos (by decide), adv_id R]; rfl
theorem nsz_m (hB : 0 ≤ B at_ ∧ B at_ < 256) : iShl 1 (iShr (B at_) 6) = (nsz B at_ : Int) := by
  have e2 : iShr (B at_) 6 = B at_ / 2 ^ 6 := iShr_eq (n := 6) ⟨by omega, by omega⟩ (by decide)
  rw [e2]
  unfold nsz
  clear e2
  have c : (B at_ / 2 ^ 6 = 0 ∧ B at_ < 64) ∨ (B at_ / 2 ^ 6 = 1 ∧ 64 ≤ B at_ ∧ B at_ < 128) ∨ (B at_ / 2 ^ 6 = 2 ∧ 128 ≤ B at_ ∧ B at_ < 192) ∨ (B at_ / 2 ^ 6 = 3 ∧ 192 ≤ B at_) := by omega
  rcases c with c | c | c | c
  · rw [c.1, if_pos c.2]; decide
  · rw [c.1, if_neg (by omega), if_pos c.2.2]; decide
  · rw [c.1, if_neg (by omega), if_neg (by omega), if_pos c.2.2]; decide
  · rw [c.1, if_neg (by omega), if_neg (by omega), if_neg (by omega)]; decide
theorem m_number (R : RD h a r at_ e b) (hB : BRm h r e B) : f_mWire_takeNumber a h = some (nV B at_ e b, adv h a (nA B at_ e b) (nB B at_ e b)) := by
  unfold f_mWire_takeNumber f_mWire_takeNumber_b18 f_mWire_takeNumber_b69
  simp only [R.row, R.i1, R.i2, R.i3, lt1_eq]
  cases b
  · by_cases g : at_ < e
    · have bb := hB at_ g
      have cm := m_take R hB (n := nsz B at_) (nsz_pos B at_).2
      rw [if_neg (by decide), if_pos (by omega), if_neg R.rz, if_pos (R.ix g), Int.toNat_natCast, bb.2, nsz_m bb.1, cm, b2_some, nB_p g, nA_p g]
      clear cm
      by_cases gg : nB B at_ e false = true
      · rw [nV_t gg, gg]
        simp only [if_true, lAnd0]
        split <;> rfl
      · have gg' : nB B at_ e false = false := by simpa using gg
        have := nvl_c (B := B) (at_ := at_) (v := w64 (be B at_ (nsz B at_))) bb.1 rfl
        rw [nV_g gg', gg', ← this]
        simp only [Bool.false_eq_true, if_false]
        split <;> rfl
    · have gn : nB B at_ e false = true := by unfold nB; simp; left; omega
      rw [nV_t gn, nA_t gn, gn, if_neg (by decide), if_neg (by omega), adv_id R]; rfl
  · have gn : nB B at_ e true = true := by unfold nB; simp
    rw [nV_t gn, nA_t gn, gn, if_pos (by decide), adv_id R]; rfl
end
