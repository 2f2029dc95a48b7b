/-! the model's Seals: what a label tells -/
/-- the info so far: the first c bytes of B -/
def InfS (h : Hp) (s c : Nat) (B : Nat → Int) : Prop := hI h s 13 = (c : Int) ∧ ∀ j, j < c → hI h (s + 12) j = B j
theorem m_tell {s c : Nat} {B : Nat → Int} {v : Int} {h : Hp} (L : LSeals h s) (Q : InfS h s c B) (hc : c < 400) (hv : v = B c) : wp (f_mSeals_tell s v h) (fun h' => InfS h' s (c + 1) B ∧ (∀ x k, x ≠ s → x ≠ s + 12 → hI h' x k = hI h x k) ∧ (∀ k, k ≠ 13 → hI h' s k = hI h s k) ∧ h'.1 = h.1 ∧ h'.2.1 = h.2.1 ∧ h'.2.2.2 = h.2.2.2) := by
  have l0 := L.1
  obtain ⟨q1, q2⟩ := Q
  unfold f_mSeals_tell
  have na : ¬ (s = s + 12) := by omega
  have e1 : w32 ((c : Int) + 1) = ((c + 1 : Nat) : Int) := by unfold w32; omega
  simp only [wp_some, wp_lt1, wp_b1, wp_b2, wp_ck, wp_cn, hI_sI, hJ_sJ, hR_sR, hI_sJ, hI_sR, hJ_sI, hJ_sR, hR_sI, hR_sJ, ln_sI, ln_sJ, ln_sR, kd_sI, kd_sJ, kd_sR, hN_sI, hN_sJ, hN_sR, hZ_sI, hZ_sJ, hZ_sR, L.r12, L.l12, q1, na, false_and, if_false, e1, Int.toNat_natCast]
  clear e1
  refine ⟨by omega, ⟨by omega, by omega⟩, ⟨?_, fun j hj => ?_⟩, fun x k h1 h2 => ?_, fun k hk => ?_, rfl, rfl, rfl⟩
  · rw [hI_sI, if_pos ⟨rfl, rfl⟩]
  · rw [hI_sI, if_neg (by omega), hI_sI]
    by_cases hjc : j = c
    · rw [if_pos ⟨rfl, hjc⟩, hjc, hv]
    · rw [if_neg (fun z => hjc z.2)]; exact q2 j (by omega)
  · rw [if_neg (fun z => h1 z.1), if_neg (fun z => h2 z.1)]
  · rw [if_neg (fun z => hk z.2)]
/-- the texts of labels by the model's numbers -/
def mTx (l : Nat) : List Int := if l = 3 then [118, 49, 32, 116, 117, 114, 110] else sTx.getD (if l < 3 then l else l - 1) []
def mWd (l : Nat) : Int := if l = 0 then 7038329 else if l = 1 then 26998 else if l = 2 then 1751737445 else if l = 3 then 1953854062 else if l = 4 then 28826387908665441 else if l = 5 then 28826387908665442 else if l = 6 then 29117702420570209 else if l = 7 then 29117702420570210 else if l = 8 then 127961779609697 else if l = 9 then 127961779609698 else 1685024357
theorem m_words {l : Nat} (hl : l < 11) (h : Hp) : f_mSeals_words (l : Int) h = some (mWd l, h) := by
  have : l = 0 ∨ l = 1 ∨ l = 2 ∨ l = 3 ∨ l = 4 ∨ l = 5 ∨ l = 6 ∨ l = 7 ∨ l = 8 ∨ l = 9 ∨ l = 10 := by omega
  rcases this with rfl | rfl | rfl | rfl | rfl | rfl | rfl | rfl | rfl | rfl | rfl <;> rfl
/-- how many letters a label has behind its first three; the word's bytes are its letters -/
theorem mWd_ok : ∀ l, l < 11 → (mTx l).length = (mTx l).length - 3 + 3 ∧ (mTx l).length - 3 ≤ 7 ∧ 0 < (mTx l).length - 3 ∧ mWd l / 2 ^ (8 * ((mTx l).length - 3)) = 0 ∧ (∀ j, j < (mTx l).length - 3 → 0 < mWd l / 2 ^ (8 * j) ∧ mWd l / 2 ^ (8 * j) % 256 = (mTx l).getD ((mTx l).length - 1 - j) 0) ∧ (mTx l).getD 0 0 = 118 ∧ (mTx l).getD 1 0 = 49 ∧ (mTx l).getD 2 0 = 32 := by decide
