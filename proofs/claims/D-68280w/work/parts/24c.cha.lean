/-! ChaCha: words of rows; the class's begin; the model's blockOf -/
/-- four bytes as a word, the lowest first -/
def wl (B : Nat → Int) (j : Nat) : BitVec 32 := bv ((((B (j + 3) % 256) * 256 + B (j + 2) % 256) * 256 + B (j + 1) % 256) * 256 + B j % 256)
/-- the first words: a key's, a counter's, a nonce's -/
def CF (K N : Nat → Int) (c : BitVec 32) (i : Nat) : BitVec 32 := if i = 0 then bv 1634760805 else if i = 1 then bv 857760878 else if i = 2 then bv 2036477234 else if i = 3 then bv 1797285236 else if i < 12 then wl K (4 * (i - 4)) else if i = 12 then c else wl N (4 * (i - 13))
theorem or4 (a b c d : BitVec 32) : a ||| b ||| c ||| d = d ||| c ||| b ||| a := by
  rw [BitVec.or_comm (a ||| b ||| c) d, BitVec.or_comm (a ||| b) c, BitVec.or_comm a b, ← BitVec.or_assoc, ← BitVec.or_assoc]
theorem word4l (p q r s : Int) : bv (iOr (iOr (iOr (iAnd p 255) (iShl (iAnd q 255) 8)) (iShl (iAnd r 255) 16)) (iShl (iAnd s 255) 24)) = bv ((((s % 256) * 256 + r % 256) * 256 + q % 256) * 256 + p % 256) := by
  rw [← word4, bv_iOr, bv_iOr, bv_iOr, bv_iOr, bv_iOr, bv_iOr, or4]
theorem wl_congr {B B' : Nat → Int} {j j' : Nat} (h : ∀ i, i < 4 → B (j + i) % 256 = B' (j' + i) % 256) : wl B j = wl B' j' := by
  unfold wl
  have h0 := h 0 (by omega)
  rw [Nat.add_zero, Nat.add_zero] at h0
  rw [h0, h 1 (by omega), h 2 (by omega), h 3 (by omega)]
theorem c_word {r i : Nat} {h : Hp} (hr : r ≠ 0) (hl : i + 4 ≤ ln h r) (hz : i + 4 < 1000000000) : ∃ v, f_cP_word r (i : Int) h = some (v, h) ∧ bv v = wl (hI h r) i ∧ c32 v := by
  have e1 : w32 ((i : Int) + 1) = ((i + 1 : Nat) : Int) := w_k1 (by omega)
  have e2 : w32 ((i : Int) + 2) = ((i + 2 : Nat) : Int) := w_ck (c := i) (k := 2) (by omega)
  have e3 : w32 ((i : Int) + 3) = ((i + 3 : Nat) : Int) := w_ck (c := i) (k := 3) (by omega)
  unfold f_cP_word
  simp only [e1, e2, e3, Int.toNat_natCast]
  clear e1 e2 e3
  rw [if_neg hr, if_pos (ix16 (by omega)), if_pos (ix16 (by omega)), if_pos (ix16 (by omega)), if_pos (ix16 (by omega))]
  exact ⟨_, rfl, word4l _ _ _ _, c32_toInt _⟩
theorem c_b77 {a r at_ : Nat} {K N : Nat → Int} {c : BitVec 32} (hr : r ≠ 0) (hz : at_ + 12 < 1000000000) (hd : r ≠ a + 1) (f : Nat) : ∀ (k : Nat) (h : Hp), k ≤ 3 → 3 - k < f → LKs h a → at_ + 12 ≤ ln h r → (∀ j, j < 12 → hI h r (at_ + j) % 256 = N j % 256) → (∀ i, i < 13 + k → bv (hI h (a + 1) i) = CF K N c i ∧ c32 (hI h (a + 1) i)) → wp (f_cKeystream_begin_b77_lp f a r (at_ : Int) (k : Int) h) (fun h' => XS h' (a + 1) (CF K N c)) := by
  induction f with
  | zero => intro k h _ hf; omega
  | succ f ih =>
    intro k h hk hf L hl hN S
    have l0 := L.1
    show wp (f_cKeystream_begin_b77 (f_cKeystream_begin_b77_lp f) a r (at_ : Int) (k : Int) h) _
    unfold f_cKeystream_begin_b77
    by_cases hx : (3 : Int) ≤ k
    · rw [if_pos hx, wp_some]
      have : k = 3 := by omega
      subst this
      exact S
    · rw [if_neg hx]
      have e1 : w32 (4 * (k : Int)) = ((4 * k : Nat) : Int) := w_4k (c := 4) (by omega)
      have e2 : w32 ((at_ : Int) + ((4 * k : Nat) : Int)) = ((at_ + 4 * k : Nat) : Int) := w_ck (by omega)
      have e3 : w32 (13 + (k : Int)) = ((13 + k : Nat) : Int) := w_ck (c := 13) (by omega)
      simp only [e1, e2, e3, w_k1 (show k < 1000000000 by omega), Int.toNat_natCast]
      clear e1 e2 e3
      obtain ⟨v, ev, bvv, cv⟩ := c_word (i := at_ + 4 * k) hr (h := h) (by omega) (by omega)
      rw [ev, b2_some, L.r0_0, wp_cn]
      refine ⟨by omega, ?_⟩
      rw [wp_ck, L.l1]
      refine ⟨ix16 (by omega), ?_⟩
      rw [wp_lt1]
      refine ih (k + 1) _ (by omega) (by omega) (L.of rsI lsI) hl (fun j hj => by rw [hI_sI, if_neg (by omega)]; exact hN j hj) (fun i hi => ?_)
      rw [hI_sI]
      by_cases he : i = 13 + k
      · rw [if_pos ⟨rfl, he⟩]
        refine ⟨?_, cv⟩
        subst he
        rw [bvv]
        unfold CF
        rw [if_neg (by omega), if_neg (by omega), if_neg (by omega), if_neg (by omega), if_neg (by omega), if_neg (by omega)]
        refine wl_congr (fun i hi => ?_)
        rw [Nat.add_assoc, hN _ (by omega), show 4 * (13 + k - 13) + i = 4 * k + i by omega]
      · rw [if_neg (fun z => he z.2)]; exact S i (by omega)
theorem c_b35 {a key r at_ : Nat} {K N : Nat → Int} {c : BitVec 32} {cc : Int} (hk0 : key ≠ 0) (hkd : key ≠ a + 1) (hr : r ≠ 0) (hz : at_ + 12 < 1000000000) (hd : r ≠ a + 1) (hc : bv cc = c) (hcc : c32 cc) (f : Nat) : ∀ (k : Nat) (h : Hp), k ≤ 8 → 8 - k < f → LKs h a → 32 ≤ ln h key → (∀ j, j < 32 → hI h key j % 256 = K j % 256) → at_ + 12 ≤ ln h r → (∀ j, j < 12 → hI h r (at_ + j) % 256 = N j % 256) → (∀ i, i < 4 + k → bv (hI h (a + 1) i) = CF K N c i ∧ c32 (hI h (a + 1) i)) → wp (f_cKeystream_begin_b35_lp f a key r (at_ : Int) cc (k : Int) h) (fun h' => XS h' (a + 1) (CF K N c)) := by
  induction f with
  | zero => intro k h _ hf; omega
  | succ f ih =>
    intro k h hk hf L hkl hK hl hN S
    have l0 := L.1
    show wp (f_cKeystream_begin_b35 (f_cKeystream_begin_b35_lp f) a key r (at_ : Int) cc (k : Int) h) _
    unfold f_cKeystream_begin_b35
    by_cases hx : (8 : Int) ≤ k
    · rw [if_pos hx, L.r0_0, wp_cn]
      refine ⟨by omega, ?_⟩
      rw [wp_ck, L.l1]
      refine ⟨⟨by decide, by decide⟩, ?_⟩
      rw [wp_lt1]
      have : k = 8 := by omega
      subst this
      refine c_b77 hr hz hd FU 0 _ (by omega) (by unfold FU; omega) (L.of rsI lsI) hl (fun j hj => by rw [hI_sI, if_neg (by omega)]; exact hN j hj) (fun i hi => ?_)
      rw [hI_sI, show Int.toNat 12 = 12 from rfl]
      by_cases he : i = 12
      · rw [if_pos ⟨rfl, he⟩]
        subst he
        exact ⟨by rw [hc]; rfl, hcc⟩
      · rw [if_neg (fun z => he z.2)]; exact S i (by omega)
    · rw [if_neg hx]
      have e1 : w32 (4 * (k : Int)) = ((4 * k : Nat) : Int) := w_4k (c := 4) (by omega)
      have e3 : w32 (4 + (k : Int)) = ((4 + k : Nat) : Int) := w_ck (c := 4) (by omega)
      simp only [e1, e3, w_k1 (show k < 1000000000 by omega), Int.toNat_natCast]
      clear e1 e3
      obtain ⟨v, ev, bvv, cv⟩ := c_word (i := 4 * k) hk0 (h := h) (by omega) (by omega)
      rw [ev, b2_some, L.r0_0, wp_cn]
      refine ⟨by omega, ?_⟩
      rw [wp_ck, L.l1]
      refine ⟨ix16 (by omega), ?_⟩
      rw [wp_lt1]
      refine ih (k + 1) _ (by omega) (by omega) (L.of rsI lsI) hkl (fun j hj => by rw [hI_sI, if_neg (by omega)]; exact hK j hj) hl (fun j hj => by rw [hI_sI, if_neg (by omega)]; exact hN j hj) (fun i hi => ?_)
      rw [hI_sI]
      by_cases he : i = 4 + k
      · rw [if_pos ⟨rfl, he⟩]
        refine ⟨?_, cv⟩
        subst he
        rw [bvv]
        unfold CF
        rw [if_neg (by omega), if_neg (by omega), if_neg (by omega), if_neg (by omega), if_pos (by omega)]
        refine wl_congr (fun i hi => ?_)
        rw [hK _ (by omega), show 4 * (4 + k - 4) + i = 4 * k + i by omega]
      · rw [if_neg (fun z => he z.2)]; exact S i (by omega)
theorem c_kbegin {a key r at_ : Nat} {K N : Nat → Int} {c : BitVec 32} {cc : Int} {h : Hp} (L : LKs h a) (hk0 : key ≠ 0) (hkd : key ≠ a + 1) (hkl : 32 ≤ ln h key) (hK : ∀ j, j < 32 → hI h key j % 256 = K j % 256) (hr : r ≠ 0) (hz : at_ + 12 < 1000000000) (hd : r ≠ a + 1) (hl : at_ + 12 ≤ ln h r) (hN : ∀ j, j < 12 → hI h r (at_ + j) % 256 = N j % 256) (hc : bv cc = c) (hcc : c32 cc) :
    wp (f_cKeystream_begin a key r (at_ : Int) cc h) (fun h' => XS h' (a + 1) (CF K N c)) := by
  have l0 := L.1
  unfold f_cKeystream_begin
  rw [L.r0_0, wp_cn]
  refine ⟨by omega, ?_⟩
  rw [wp_ck, L.l1]
  refine ⟨⟨by decide, by decide⟩, ?_⟩
  rw [wp_lt1, rsI, lsI, L.r0_0, wp_cn]
  refine ⟨by omega, ?_⟩
  rw [wp_ck, L.l1]
  refine ⟨⟨by decide, by decide⟩, ?_⟩
  rw [wp_lt1, rsI, lsI, rsI, lsI, L.r0_0, wp_cn]
  refine ⟨by omega, ?_⟩
  rw [wp_ck, L.l1]
  refine ⟨⟨by decide, by decide⟩, ?_⟩
  rw [wp_lt1, rsI, lsI, rsI, lsI, rsI, lsI, L.r0_0, wp_cn]
  refine ⟨by omega, ?_⟩
  rw [wp_ck, L.l1]
  refine ⟨⟨by decide, by decide⟩, ?_⟩
  rw [wp_lt1]
  refine c_b35 hk0 hkd hr hz hd hc hcc FU 0 _ (by omega) (by unfold FU; omega) (L.of rfl rfl) hkl (fun j hj => ?_) hl (fun j hj => ?_) (fun i hi => ?_)
  · rw [hI_sI, if_neg (by omega), hI_sI, if_neg (by omega), hI_sI, if_neg (by omega), hI_sI, if_neg (by omega)]; exact hK j hj
  · rw [hI_sI, if_neg (by omega), hI_sI, if_neg (by omega), hI_sI, if_neg (by omega), hI_sI, if_neg (by omega)]; exact hN j hj
  · rw [hI_sI, hI_sI, hI_sI, hI_sI]
    have t0 : Int.toNat 0 = 0 := rfl
    have t1 : Int.toNat 1 = 1 := rfl
    have t2 : Int.toNat 2 = 2 := rfl
    have t3 : Int.toNat 3 = 3 := rfl
    rw [t0, t1, t2, t3]
    rcases (by omega : i = 0 ∨ i = 1 ∨ i = 2 ∨ i = 3) with e | e | e | e <;> subst e
    · rw [if_neg (by omega), if_neg (by omega), if_neg (by omega), if_pos ⟨rfl, rfl⟩]; exact ⟨rfl, by decide⟩
    · rw [if_neg (by omega), if_neg (by omega), if_pos ⟨rfl, rfl⟩]; exact ⟨rfl, by decide⟩
    · rw [if_neg (by omega), if_pos ⟨rfl, rfl⟩]; exact ⟨rfl, by decide⟩
    · rw [if_pos ⟨rfl, rfl⟩]; exact ⟨rfl, by decide⟩
