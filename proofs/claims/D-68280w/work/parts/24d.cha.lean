/-! ChaCha: the model's blockOf -/
theorem iOr_nat {x y : Int} (hx : 0 ≤ x ∧ x < 1073741824) (hy : 0 ≤ y ∧ y < 1073741824) : iOr x y = ((x.toNat ||| y.toNat : Nat) : Int) := by
  have h1 : (BitVec.ofInt 32 x).toNat = x.toNat := by have := ofI_nat 32 x; omega
  have h2 : (BitVec.ofInt 32 y).toNat = y.toNat := by have := ofI_nat 32 y; omega
  have h3 : x.toNat ||| y.toNat < 2 ^ 30 := Nat.or_lt_two_pow (by omega) (by omega)
  show (BitVec.ofInt 32 x ||| BitVec.ofInt 32 y).toInt = _
  rw [BitVec.toInt_eq_toNat_of_lt (by rw [BitVec.toNat_or, h1, h2]; omega), BitVec.toNat_or, h1, h2]
theorem lOr_nat {x y : Int} (hx : inw x) (hy : inw y) : lOr x y = ((x.toNat ||| y.toNat : Nat) : Int) := by
  unfold inw at *
  have h1 := ofI64_nat hx.1 hx.2
  have h2 := ofI64_nat hy.1 hy.2
  have h3 : x.toNat ||| y.toNat < 2 ^ 32 := Nat.or_lt_two_pow (by omega) (by omega)
  show (BitVec.ofInt 64 x ||| BitVec.ofInt 64 y).toInt = _
  rw [BitVec.toInt_eq_toNat_of_lt (by rw [BitVec.toNat_or, h1, h2]; omega), BitVec.toNat_or, h1, h2]
theorem inw_or {x y : Int} (hx : inw x) (hy : inw y) : inw (lOr x y) := by
  rw [lOr_nat hx hy]
  unfold inw at *
  have h3 : x.toNat ||| y.toNat < 2 ^ 32 := Nat.or_lt_two_pow (by omega) (by omega)
  omega
theorem m_wordv {p q r s : Int} (hp : 0 ≤ p ∧ p < 256) (hq : 0 ≤ q ∧ q < 256) (hr : 0 ≤ r ∧ r < 256) (hs : 0 ≤ s ∧ s < 256) : bv (lOr (iOr (iOr p (iShl q 8)) (iShl r 16)) (lShl s 24)) = bv ((((s % 256) * 256 + r % 256) * 256 + q % 256) * 256 + p % 256) ∧ inw (lOr (iOr (iOr p (iShl q 8)) (iShl r 16)) (lShl s 24)) := by
  have ep : iAnd p 255 = p := by rw [byte255]; omega
  have eq : iAnd q 255 = q := by rw [byte255]; omega
  have er : iAnd r 255 = r := by rw [byte255]; omega
  have es : iAnd s 255 = s := by rw [byte255]; omega
  constructor
  · rw [← word4l, ep, eq, er, es, bv_lOr, bv_iOr, bv_iOr, bv_iOr, bv_iOr, bv_iOr, show bv (iShl s 24) = bv s <<< 24 from bv_iShl s (n := 24) (by decide), show bv (lShl s 24) = bv s <<< 24 from bv_lShl s (n := 24) (by decide)]
  · have e8 : iShl q 8 = q * 256 := by
      have := iShl_eq (x := q) (n := 8) (by decide)
      rw [show (2 : Int) ^ 8 = 256 from rfl, w32_id ⟨by omega, by omega⟩] at this
      exact this
    have e16 : iShl r 16 = r * 65536 := by
      have := iShl_eq (x := r) (n := 16) (by decide)
      rw [show (2 : Int) ^ 16 = 65536 from rfl, w32_id ⟨by omega, by omega⟩] at this
      exact this
    have e24 : lShl s 24 = s * 16777216 := by
      have := lShl_eq (x := s) (n := 24) (by decide)
      rw [show (2 : Int) ^ 24 = 16777216 from rfl, w64_id ⟨by omega, by omega⟩] at this
      exact this
    rw [e8, e16, e24]
    have h1 : p.toNat ||| (q * 256).toNat < 2 ^ 16 := Nat.or_lt_two_pow (by omega) (by omega)
    rw [iOr_nat (x := p) (by omega) (by omega)]
    have h2 : (((p.toNat ||| (q * 256).toNat : Nat) : Int)).toNat ||| (r * 65536).toNat < 2 ^ 24 := Nat.or_lt_two_pow (by omega) (by omega)
    rw [iOr_nat (by omega) (by omega)]
    exact inw_or (by unfold inw; omega) (by unfold inw; omega)
theorem m_wordOf {r i : Nat} {h : Hp} (hr : r ≠ 0) (hl : i + 4 ≤ ln h r) (hz : i + 4 < 1000000000) (hb : ∀ j, j < 4 → 0 ≤ hI h r (i + j) ∧ hI h r (i + j) < 256) : ∃ v, f_mSeals_wordOf r (i : Int) h = some (v, h) ∧ bv v = wl (hI h r) i ∧ inw v := by
  have e1 : w32 ((i : Int) + 1) = ((i + 1 : Nat) : Int) := w_k1 (by omega)
  have e2 : w32 ((i : Int) + 2) = ((i + 2 : Nat) : Int) := w_ck (c := i) (k := 2) (by omega)
  have e3 : w32 ((i : Int) + 3) = ((i + 3 : Nat) : Int) := w_ck (c := i) (k := 3) (by omega)
  unfold f_mSeals_wordOf
  simp only [e1, e2, e3, Int.toNat_natCast]
  clear e1 e2 e3
  rw [if_neg hr, if_pos (ix16 (by omega)), if_pos (ix16 (by omega)), if_pos (ix16 (by omega)), if_pos (ix16 (by omega))]
  have := m_wordv (hb 0 (by omega)) (hb 1 (by omega)) (hb 2 (by omega)) (hb 3 (by omega))
  exact ⟨_, rfl, this.1, this.2⟩
def JF (s : Nat) (h h' : Hp) : Prop := (hR h' = hR h ∧ ln h' = ln h) ∧ (∀ x k, hI h' x k = hI h x k) ∧ ∀ x k, x ≠ s + 16 → hJ h' x k = hJ h x k
theorem JF.tr {s : Nat} {h g h' : Hp} (F : JF s h g) (G : JF s g h') : JF s h h' := ⟨⟨G.1.1.trans F.1.1, G.1.2.trans F.1.2⟩, fun x k => (G.2.1 x k).trans (F.2.1 x k), fun x k hx => (G.2.2 x k hx).trans (F.2.2 x k hx)⟩
theorem JF.mix {s : Nat} {p q r t : Int} {h h' : Hp} (L : LSeals h s) (e : f_mSeals_mix s p q r t h = some h') : JF s h h' := by
  have F : Fe (wI_mSeals_mix s p q r t h) (wJ_mSeals_mix s p q r t h) h h' := fe_mSeals_mix s p q r t h _ e
  exact ⟨⟨F.r, F.l⟩, fun x k => F.I (fun z => z), fun x k hx => F.J (by simp only [wJ_mSeals_mix, L.r17]; exact hx)⟩
theorem m_b154 {s r t : Nat} {X : Nat → BitVec 32} {K : Nat → Int → Hp → Option Hp} {Q : Hp → Prop} {h0 : Hp} (ht : t < 2) (kk : ∀ h', LSeals h' s → JF s h0 h' → YS h' (s + 16) (chQ t X 4) → wp (K s (w32 ((r : Int) + 1)) h') Q) (f : Nat) : ∀ (k : Nat) (h : Hp), k ≤ 4 → 4 - k < f → LSeals h s → JF s h0 h → YS h (s + 16) (chQ t X k) → wp (f_mSeals_blockOf_b154_lp K f s (r : Int) (t : Int) (k : Int) h) Q := by
  induction f with
  | zero => intro k h _ hf; omega
  | succ f ih =>
    intro k h hk hf L F S
    show wp (f_mSeals_blockOf_b154 K (f_mSeals_blockOf_b154_lp K f) s (r : Int) (t : Int) (k : Int) h) Q
    unfold f_mSeals_blockOf_b154
    by_cases hx : (4 : Int) ≤ k
    · rw [if_pos hx]
      have : k = 4 := by omega
      subst this
      exact kk h L F S
    · rw [if_neg hx]
      have e1 : w32 (4 + iRem (w32 ((k : Int) + (t : Int))) 4) = ((4 + (k + t) % 4 : Nat) : Int) := by
        rw [w_ck (by omega), show (4 : Int) = ((4 : Nat) : Int) from rfl, iRem_nat (by omega) (by omega) (by omega), w_ck (by omega)]
      have e2 : w32 (8 + iRem (w32 ((k : Int) + w32 (2 * (t : Int)))) 4) = ((8 + (k + 2 * t) % 4 : Nat) : Int) := by
        rw [show w32 (2 * (t : Int)) = ((2 * t : Nat) : Int) from w_4k (c := 2) (by omega), w_ck (by omega), show (4 : Int) = ((4 : Nat) : Int) from rfl, iRem_nat (by omega) (by omega) (by omega), show (8 : Int) = ((8 : Nat) : Int) from rfl, w_ck (by omega)]
      have e3 : w32 (12 + iRem (w32 ((k : Int) + w32 (3 * (t : Int)))) 4) = ((12 + (k + 3 * t) % 4 : Nat) : Int) := by
        rw [show w32 (3 * (t : Int)) = ((3 * t : Nat) : Int) from w_4k (c := 3) (by omega), w_ck (by omega), show (4 : Int) = ((4 : Nat) : Int) from rfl, iRem_nat (by omega) (by omega) (by omega), show (12 : Int) = ((12 : Nat) : Int) from rfl, w_ck (by omega)]
      simp only [e1, e2, e3]
      clear e1 e2 e3
      refine wp_b1o (m_mix L S (by omega) (by omega) (by omega) (by omega)) (fun h1 e1 q1 => ?_)
      have F1 := JF.mix L e1
      simp only [w_k1 (show k < 1000000000 by omega)]
      exact ih (k + 1) h1 (by omega) (by omega) (L.of F1.1.1 F1.1.2) (F.tr F1) q1
theorem bytel {x : Int} (hx : inw x) {m : Nat} (hm : m < 4) : w32 (lAnd (lShr x ((8 * m : Nat) : Int)) 255) = ((bv x).toNat : Int) / 2 ^ (8 * m) % 256 := by
  unfold inw at hx
  rw [lAnd255, lShr_eq ⟨by omega, by omega⟩ (by omega)]
  have hb' : ((bv x).toNat : Int) = x % 4294967296 := ofI_nat 32 x
  rw [hb', Int.emod_eq_of_lt hx.1 hx.2]
  clear hb'
  generalize x / 2 ^ (8 * m) = z
  unfold w32
  omega
theorem m_b213 {s : Nat} {F : Nat → BitVec 32} {h : Hp} (L : LSeals h s) (S : YS h (s + 16) (chN F 20)) (S0 : YS h (s + 17) F) : wp (f_mSeals_blockOf_b213_lp FU s 0 h) (fun h' => ∀ k, k < 64 → hI h' (s + 18) k = CHW F k) := by
  have l0 := L.1
  have dv : ∀ j : Nat, j < 64 → iDiv (j : Int) 4 = ((j / 4 : Nat) : Int) := fun j hj => iDiv_nat (n := 4) (by omega) (by omega) (by omega)
  have e := lq_mSeals_blockOf_b213 (v0 := s) FU 0 h (by omega) (by unfold FU; omega) (by omega) (by rw [L.r17]; omega) (by rw [L.r17, L.l16]; intro j _ hj; rw [dv j hj]; exact ix16 (by omega)) (by rw [L.r18]; omega) (by rw [L.r18, L.l17]; intro j _ hj; rw [dv j hj]; exact ix16 (by omega)) (by rw [L.r19]; omega) (by rw [L.r19, L.l18]; intro j _ hj; exact ix16 hj)
  have e' : f_mSeals_blockOf_b213_lp FU s 0 h = _ := e
  rw [e', L.r17, L.r18, L.r19]
  clear e e'
  unfold lx_mSeals_blockOf_b213
  rw [wp_some]
  intro k hk
  rw [hI_fI, if_pos ⟨rfl, by omega, by omega⟩, Nat.sub_zero, dv k hk, Int.toNat_natCast, show iRem (k : Int) 4 = ((k % 4 : Nat) : Int) from iRem_nat (n := 4) (by omega) (by omega) (by omega), show w32 (8 * ((k % 4 : Nat) : Int)) = ((8 * (k % 4) : Nat) : Int) from w_4k (c := 8) (by omega), bytel (and32 _).2 (by omega), (and32 _).1, bv_w64, bv_add, (S _ (by omega)).1, (S0 _ (by omega)).1]
  rfl
theorem m_b140 {s : Nat} {F : Nat → BitVec 32} {h0 : Hp} (S0 : YS h0 (s + 17) F) (f : Nat) : ∀ (r : Nat) (h : Hp), r ≤ 20 → 20 - r < f → LSeals h s → JF s h0 h → YS h (s + 16) (chN F r) → wp (f_mSeals_blockOf_b140_lp f s (r : Int) h) (fun h' => ∀ k, k < 64 → hI h' (s + 18) k = CHW F k) := by
  induction f with
  | zero => intro r h _ hf; omega
  | succ f ih =>
    intro r h hr hf L G S
    show wp (f_mSeals_blockOf_b140 (f_mSeals_blockOf_b140_lp f) s (r : Int) h) _
    unfold f_mSeals_blockOf_b140
    by_cases hx : (20 : Int) ≤ r
    · rw [if_pos hx]
      have : r = 20 := by omega
      subst this
      exact m_b213 L S (fun i hi => by rw [G.2.2 _ _ (by omega)]; exact S0 i hi)
    · rw [if_neg hx, wp_lt1, show iRem (r : Int) 2 = ((r % 2 : Nat) : Int) from iRem_nat (n := 2) (by omega) (by omega) (by omega)]
      refine m_b154 (h0 := h0) (X := chN F r) (by omega) (fun h' L' G' S' => ?_) FU 0 h (by omega) (by unfold FU; omega) L G S
      simp only [w_k1 (show r < 1000000000 by omega)]
      exact ih (r + 1) h' (by omega) (by omega) L' G' S'
theorem m_b114 {s : Nat} {F : Nat → BitVec 32} {h : Hp} (L : LSeals h s) (S : YS h (s + 17) F) : wp (f_mSeals_blockOf_b114_lp FU s 0 h) (fun h' => ∀ k, k < 64 → hI h' (s + 18) k = CHW F k) := by
  have l0 := L.1
  have e := lq_mSeals_blockOf_b114 (v0 := s) FU 0 h (by omega) (by unfold FU; omega) (by omega) (by rw [L.r18]; omega) (by rw [L.r18, L.l17]; intro j _ hj; exact ix16 hj) (by rw [L.r17]; omega) (by rw [L.r17, L.l16]; intro j _ hj; exact ix16 hj) (by rw [L.r17, L.r18]; omega)
  have e' : f_mSeals_blockOf_b114_lp FU s 0 h = _ := e
  rw [e', L.r17, L.r18]
  clear e e'
  unfold lx_mSeals_blockOf_b114
  refine m_b140 (F := F) (h0 := fJ h (s + 16) 0 0 16 (fun j => hJ h (s + 17) j)) (fun i hi => ?_) FU 0 _ (by omega) (by unfold FU; omega) (L.of rfJ lfJ) ⟨⟨rfl, rfl⟩, fun _ _ => rfl, fun _ _ _ => rfl⟩ (fun i hi => ?_)
  · rw [hJ_fJ, if_neg (by omega)]; exact S i hi
  · rw [hJ_fJ, if_pos ⟨rfl, by omega, by omega⟩]; exact S i hi
theorem m_b82 {s : Nat} {K N : Nat → Int} {c : BitVec 32} (f : Nat) : ∀ (k : Nat) (h : Hp), k ≤ 3 → 3 - k < f → LSeals h s → (∀ j, j < 12 → (0 ≤ hI h (s + 15) j ∧ hI h (s + 15) j < 256) ∧ hI h (s + 15) j % 256 = N j % 256) → (∀ i, i < 13 + k → bv (hJ h (s + 17) i) = CF K N c i ∧ inw (hJ h (s + 17) i)) → wp (f_mSeals_blockOf_b82_lp f s (k : Int) h) (fun h' => ∀ k, k < 64 → hI h' (s + 18) k = CHW (CF K N c) k) := by
  induction f with
  | zero => intro k h _ hf; omega
  | succ f ih =>
    intro k h hk hf L hN S
    have l0 := L.1
    show wp (f_mSeals_blockOf_b82 (f_mSeals_blockOf_b82_lp f) s (k : Int) h) _
    unfold f_mSeals_blockOf_b82
    by_cases hx : (3 : Int) ≤ k
    · rw [if_pos hx]
      have : k = 3 := by omega
      subst this
      exact m_b114 L S
    · rw [if_neg hx]
      have e1 : w32 (4 * (k : Int)) = ((4 * k : Nat) : Int) := w_4k (c := 4) (by omega)
      have e3 : w32 (13 + (k : Int)) = ((13 + k : Nat) : Int) := w_ck (c := 13) (by omega)
      simp only [e1, e3, w_k1 (show k < 1000000000 by omega), Int.toNat_natCast]
      clear e1 e3
      obtain ⟨v, ev, bvv, cv⟩ := m_wordOf (r := s + 15) (i := 4 * k) (h := h) (by omega) (by rw [L.l15]; omega) (by omega) (fun j hj => (hN _ (by omega)).1)
      rw [L.r16, ev, b2_some, L.r18, wp_cn]
      refine ⟨by omega, ?_⟩
      rw [wp_ck, L.l17]
      refine ⟨ix16 (by omega), ?_⟩
      rw [wp_lt1]
      refine ih (k + 1) _ (by omega) (by omega) (L.of rsJ lsJ) hN (fun i hi => ?_)
      rw [hJ_sJ]
      by_cases he : i = 13 + k
      · rw [if_pos ⟨rfl, he⟩]
        refine ⟨?_, cv⟩
        subst he
        rw [bvv]
        unfold CF
        rw [if_neg (by omega), if_neg (by omega), if_neg (by omega), if_neg (by omega), if_neg (by omega), if_neg (by omega)]
        refine wl_congr (fun i hi => ?_)
        rw [(hN _ (by omega)).2, show 4 * (13 + k - 13) + i = 4 * k + i by omega]
      · rw [if_neg (fun z => he z.2)]; exact S i (by omega)
theorem m_b38 {s : Nat} {K N : Nat → Int} {c : BitVec 32} {cc : Int} (hc : bv cc = c) (f : Nat) : ∀ (k : Nat) (h : Hp), k ≤ 8 → 8 - k < f → LSeals h s → (∀ j, j < 32 → (0 ≤ hI h (s + 14) j ∧ hI h (s + 14) j < 256) ∧ hI h (s + 14) j % 256 = K j % 256) → (∀ j, j < 12 → (0 ≤ hI h (s + 15) j ∧ hI h (s + 15) j < 256) ∧ hI h (s + 15) j % 256 = N j % 256) → (∀ i, i < 4 + k → bv (hJ h (s + 17) i) = CF K N c i ∧ inw (hJ h (s + 17) i)) → wp (f_mSeals_blockOf_b38_lp f s cc (k : Int) h) (fun h' => ∀ k, k < 64 → hI h' (s + 18) k = CHW (CF K N c) k) := by
  induction f with
  | zero => intro k h _ hf; omega
  | succ f ih =>
    intro k h hk hf L hK hN S
    have l0 := L.1
    show wp (f_mSeals_blockOf_b38 (f_mSeals_blockOf_b38_lp f) s cc (k : Int) h) _
    unfold f_mSeals_blockOf_b38
    by_cases hx : (8 : Int) ≤ k
    · rw [if_pos hx, L.r18, wp_cn]
      refine ⟨by omega, ?_⟩
      rw [wp_ck, L.l17]
      refine ⟨⟨by decide, by decide⟩, ?_⟩
      rw [wp_lt1]
      have : k = 8 := by omega
      subst this
      refine m_b82 FU 0 _ (by omega) (by unfold FU; omega) (L.of rsJ lsJ) hN (fun i hi => ?_)
      rw [hJ_sJ, show Int.toNat 12 = 12 from rfl]
      by_cases he : i = 12
      · rw [if_pos ⟨rfl, he⟩]
        subst he
        exact ⟨by rw [(and32 _).1, hc]; rfl, (and32 _).2⟩
      · rw [if_neg (fun z => he z.2)]; exact S i (by omega)
    · rw [if_neg hx]
      have e1 : w32 (4 * (k : Int)) = ((4 * k : Nat) : Int) := w_4k (c := 4) (by omega)
      have e3 : w32 (4 + (k : Int)) = ((4 + k : Nat) : Int) := w_ck (c := 4) (by omega)
      simp only [e1, e3, w_k1 (show k < 1000000000 by omega), Int.toNat_natCast]
      clear e1 e3
      obtain ⟨v, ev, bvv, cv⟩ := m_wordOf (r := s + 14) (i := 4 * k) (h := h) (by omega) (by rw [L.l14]; omega) (by omega) (fun j hj => (hK _ (by omega)).1)
      rw [L.r15, ev, b2_some, L.r18, wp_cn]
      refine ⟨by omega, ?_⟩
      rw [wp_ck, L.l17]
      refine ⟨ix16 (by omega), ?_⟩
      rw [wp_lt1]
      refine ih (k + 1) _ (by omega) (by omega) (L.of rsJ lsJ) hK hN (fun i hi => ?_)
      rw [hJ_sJ]
      by_cases he : i = 4 + k
      · rw [if_pos ⟨rfl, he⟩]
        refine ⟨?_, cv⟩
        subst he
        rw [bvv]
        unfold CF
        rw [if_neg (by omega), if_neg (by omega), if_neg (by omega), if_neg (by omega), if_pos (by omega)]
        refine wl_congr (fun i hi => ?_)
        rw [(hK _ (by omega)).2, show 4 * (4 + k - 4) + i = 4 * k + i by omega]
      · rw [if_neg (fun z => he z.2)]; exact S i (by omega)
theorem m_blockOf {s : Nat} {K N : Nat → Int} {c : BitVec 32} {cc : Int} {h : Hp} (L : LSeals h s) (hc : bv cc = c) (hK : ∀ j, j < 32 → (0 ≤ hI h (s + 14) j ∧ hI h (s + 14) j < 256) ∧ hI h (s + 14) j % 256 = K j % 256) (hN : ∀ j, j < 12 → (0 ≤ hI h (s + 15) j ∧ hI h (s + 15) j < 256) ∧ hI h (s + 15) j % 256 = N j % 256) :
    wp (f_mSeals_blockOf s cc h) (fun h' => ∀ k, k < 64 → hI h' (s + 18) k = CHW (CF K N c) k) := by
  have l0 := L.1
  unfold f_mSeals_blockOf
  rw [L.r18, wp_cn]
  refine ⟨by omega, ?_⟩
  rw [wp_ck, L.l17]
  refine ⟨⟨by decide, by decide⟩, ?_⟩
  rw [wp_lt1, rsJ, lsJ, L.r18, wp_cn]
  refine ⟨by omega, ?_⟩
  rw [wp_ck, L.l17]
  refine ⟨⟨by decide, by decide⟩, ?_⟩
  rw [wp_lt1, rsJ, lsJ, rsJ, lsJ, L.r18, wp_cn]
  refine ⟨by omega, ?_⟩
  rw [wp_ck, L.l17]
  refine ⟨⟨by decide, by decide⟩, ?_⟩
  rw [wp_lt1, rsJ, lsJ, rsJ, lsJ, rsJ, lsJ, L.r18, wp_cn]
  refine ⟨by omega, ?_⟩
  rw [wp_ck, L.l17]
  refine ⟨⟨by decide, by decide⟩, ?_⟩
  rw [wp_lt1]
  refine m_b38 hc FU 0 _ (by omega) (by unfold FU; omega) (((((L.of rsJ lsJ).of rsJ lsJ).of rsJ lsJ)).of rsJ lsJ) hK hN (fun i hi => ?_)
  rw [hJ_sJ, hJ_sJ, hJ_sJ, hJ_sJ]
  have t0 : Int.toNat 0 = 0 := rfl
  have t1 : Int.toNat 1 = 1 := rfl
  have t2 : Int.toNat 2 = 2 := rfl
  have t3 : Int.toNat 3 = 3 := rfl
  rw [t0, t1, t2, t3]
  rcases (by omega : i = 0 ∨ i = 1 ∨ i = 2 ∨ i = 3) with e | e | e | e <;> subst e
  · rw [if_neg (by omega), if_neg (by omega), if_neg (by omega), if_pos ⟨rfl, rfl⟩]; exact ⟨rfl, by unfold inw; decide⟩
  · rw [if_neg (by omega), if_neg (by omega), if_pos ⟨rfl, rfl⟩]; exact ⟨rfl, by unfold inw; decide⟩
  · rw [if_neg (by omega), if_pos ⟨rfl, rfl⟩]; exact ⟨rfl, by unfold inw; decide⟩
  · rw [if_pos ⟨rfl, rfl⟩]; exact ⟨rfl, by unfold inw; decide⟩
