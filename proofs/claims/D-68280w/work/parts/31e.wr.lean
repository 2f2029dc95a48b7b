/-! writing: rows of the model's drafts -/
section
variable {h : Hp} {d r at_ n : Nat} {C : Nat → Int}
theorem DRm.wr (D : DRm h d r at_) (hl : at_ + n ≤ 1400) : DRm (wrM h d r at_ n C) d r (at_ + n) := by
  obtain ⟨⟨d1, d2, d3⟩, e1, e2, e3, e4⟩ := D
  exact ⟨⟨d1, d2, d3⟩, e1, by rw [hI_wrM, if_neg (by lia), if_pos ⟨rfl, rfl⟩], hl, e4⟩
theorem wrM_1 {v : Int} (hr : r ≠ d) (e : v = C n) : wrM (wrM h d r at_ n C) d r (at_ + n) 1 (fun _ => v) = wrM h d r at_ (n + 1) C := by
  refine hp_ext rfl rfl (fun x y => ?_) (fun _ _ => rfl) (fun _ _ => rfl)
  rw [hI_wrM, hI_wrM, hI_wrM]
  by_cases c1 : x = r
  · subst c1
    have n1 : ¬ (x = d ∧ y = 1) := by lia
    simp only [n1, if_false]
    by_cases c2 : y = at_ + n
    · subst c2
      rw [if_pos (by lia), if_pos (by lia), show at_ + n - at_ = n by lia, e]
    · rw [if_neg (by lia)]
      by_cases c3 : at_ ≤ y ∧ y < at_ + n
      · rw [if_pos ⟨trivial, c3⟩, if_pos ⟨trivial, by lia, by lia⟩]
      · rw [if_neg (by lia), if_neg (by lia)]
  · simp only [c1, false_and, if_false]
    by_cases c2 : x = d ∧ y = 1
    · rw [if_pos c2, if_pos c2]; rfl
    · simp only [c2, if_false]
theorem m_put1 {v : Int} (hv : 0 ≤ v ∧ v < 256) (D : DRm h d r at_) (hl : at_ + 1 ≤ 1400) : f_mDraft_put d v 1 h = some (wrM h d r at_ 1 (fun _ => v)) := by
  have := m_put (n := 1) (v := v) ⟨by lia, by lia⟩ D (by decide) hl
  rw [show ((1 : Nat) : Int) = 1 from rfl] at this
  rw [this]
  congr 1
  refine hp_ext rfl rfl (fun x y => ?_) (fun _ _ => rfl) (fun _ _ => rfl)
  rw [hI_wrM, hI_wrM]
  by_cases c : x = r ∧ at_ ≤ y ∧ y < at_ + 1
  · rw [if_pos c, if_pos c]
    have : y - at_ = 0 := by lia
    rw [this]
    show v / 2 ^ (8 * (1 - 1 - 0)) % 256 = v
    rw [show 8 * (1 - 1 - 0) = 0 from rfl, show (2 : Int) ^ 0 = 1 from rfl, Int.ediv_one]
    lia
  · rw [if_neg c, if_neg c]
theorem m_bytesL {x o : Nat} (D : DRm h d r at_) (x0 : x ≠ 0) (xr : x ≠ r) (xd : x ≠ d) (hl : at_ + n ≤ 1400) (hx : o + n ≤ ln h x) (hz : o + n < 1000000) (hb : ∀ j, j < n → 0 ≤ hI h x (o + j) ∧ hI h x (o + j) < 256) (f : Nat) : ∀ m, m ≤ n → n - m < f → f_mDraft_bytes_b3_lp f d x (o : Int) (n : Int) (m : Int) (wrM h d r at_ m (fun j => hI h x (o + j))) = some (wrM h d r at_ n (fun j => hI h x (o + j))) := by
  induction f with
  | zero => intro m _ hf; lia
  | succ f ih =>
    intro m hm hf
    show f_mDraft_bytes_b3 (f_mDraft_bytes_b3_lp f) d x (o : Int) (n : Int) (m : Int) (wrM h d r at_ m (fun j => hI h x (o + j))) = _
    unfold f_mDraft_bytes_b3
    have rd : r ≠ d := Ne.symm D.1.2.2
    by_cases hx' : (n : Int) ≤ m
    · have : m = n := by lia
      subst this
      rw [if_pos hx']
    · have l3 : ln (wrM h d r at_ m (fun j => hI h x (o + j))) x = ln h x := rfl
      have v1 : hI (wrM h d r at_ m (fun j => hI h x (o + j))) x (o + m) = hI h x (o + m) := by rw [hI_wrM, if_neg (by lia), if_neg (by lia)]
      have D1 := D.wr (n := m) (C := fun j => hI h x (o + j)) (by lia)
      rw [if_neg hx', if_neg x0, w_ck (by lia), l3, if_pos (show ix ((o + m : Nat) : Int) (ln h x) from ⟨by lia, by lia⟩), Int.toNat_natCast, v1, m_put1 (hb m (by lia)) D1 (by lia), b1_some, w_k1 (by lia), wrM_1 rd rfl]
      exact ih (m + 1) (by lia) (by lia)
theorem m_bytes {x o : Nat} (D : DRm h d r at_) (x0 : x ≠ 0) (xr : x ≠ r) (xd : x ≠ d) (hl : at_ + n ≤ 1400) (hx : o + n ≤ ln h x) (hz : o + n < 1000000) (hb : ∀ j, j < n → 0 ≤ hI h x (o + j) ∧ hI h x (o + j) < 256) : f_mDraft_bytes d x (o : Int) (n : Int) h = some (wrM h d r at_ n (fun j => hI h x (o + j))) := by
  unfold f_mDraft_bytes
  have := m_bytesL D x0 xr xd hl hx hz hb FU 0 (by lia) (by unfold FU; lia)
  rw [wrM_0 D] at this
  exact this
end
