/-! the book: a packet that arrived -/
/-- how the window grows -/
def gwV (ws wt wr t b fi : Int) : Int := if t ≤ wr ∨ fi = 0 then ws else if wt < 0 ∨ ws < wt then ws + b else ws + 1200 * b / ws
theorem gwV_b {ws wt wr t b fi : Int} (h1 : 2400 ≤ ws) (h2 : 0 ≤ b) : 2400 ≤ gwV ws wt wr t b fi ∧ gwV ws wt wr t b fi ≤ ws + b := by
  have q : 0 ≤ 1200 * b / ws ∧ 1200 * b / ws ≤ b := by
    constructor
    · exact Int.ediv_nonneg (by lia) (by lia)
    · refine Int.le_of_lt_add_one ((Int.ediv_lt_iff_lt_mul (by lia)).mpr ?_)
      have : (b + 1) * ws = b * ws + ws := by rw [Int.add_mul, Int.one_mul]
      have : b * 2400 ≤ b * ws := Int.mul_le_mul_of_nonneg_left h1 h2
      lia
  unfold gwV
  split
  · lia
  · split <;> lia
section
variable {hc hm : Hp} {a m s n fo k : Nat} {tm sz mk : Nat → Int} {ws wt wr t b fi : Int}
theorem c_wgrow (a0 : a ≠ 0) (e0 : hI hc a 0 = ws) (e1 : hI hc a 1 = wt) (e2 : hI hc a 2 = wr) (h1 : 2400 ≤ ws ∧ ws ≤ 1000000000) (h2 : 0 ≤ b ∧ b < 32768) : f_cWindow_grow a t b fi hc = some (sI hc a 0 (gwV ws wt wr t b fi)) := by
  have g := gwV_b (wt := wt) (wr := wr) (t := t) (fi := fi) h1.1 h2.1
  have same : some hc = some (sI hc a 0 ws) := by rw [sI_id e0]
  unfold f_cWindow_grow f_cWindow_grow_b36 f_cWindow_grow_b50
  simp only [e0, e1, e2, if_neg a0, lt1_eq]
  have w1 : w32 (ws + b) = ws + b := w32_id ⟨by lia, by lia⟩
  have w2 : w32 (1200 * b) = 1200 * b := w32_id ⟨by lia, by lia⟩
  have dv : iDiv (1200 * b) ws = 1200 * b / ws := iDiv_eq ⟨by lia, by lia⟩ ⟨by lia, by lia⟩ (by lia) (by lia)
  rw [w1, w2, dv]
  unfold gwV at g ⊢
  by_cases c : t ≤ wr
  · rw [if_pos c, if_pos (Or.inl c)]; exact same
  · rw [if_neg c]
    by_cases d : fi = 0
    · rw [if_neg (fun z => z d), if_pos (Or.inr d)]; exact same
    · have nd : ¬ (t ≤ wr ∨ fi = 0) := by lia
      rw [if_pos d, if_neg nd]
      rw [if_neg nd] at g
      by_cases c1 : wt < 0
      · rw [if_pos c1, if_pos (Or.inl c1)]
      · rw [if_neg c1]
        by_cases c2 : wt ≤ ws
        · rw [if_neg (by lia)] at g
          rw [if_pos c2, if_neg (by lia), if_neg (by lia), w32_id ⟨by lia, by lia⟩]
        · rw [if_neg c2, if_pos (by lia)]
theorem m_wgrow (K : PkM hm m s n tm sz mk fo) (hk : k < n) (e0 : hI hm m 24 = ws) (e1 : hI hm m 25 = wt) (e2 : hI hm m 26 = wr) (h1 : 2400 ≤ ws ∧ ws ≤ 1000000000) (h3 : -1 ≤ wr) (h4 : 0 ≤ tm k) : f_mBook_grow m ((4096 * s + k : Nat) : Int) hm = some (sI hm m 24 (if mk k / 8 % 2 = 1 then gwV ws wt wr (tm k) (sz k) (mk k / 16 % 2) else ws)) := by
  obtain ⟨⟨L, g0⟩, k1, k2, k3, k4, k5, k6⟩ := K
  have v := k5 k hk
  have bk := k6 k hk
  have a0 := L.1
  have zm : ¬ (m = 0) := by lia
  have z6 : ¬ (m + 6 = 0) := by lia
  have z7 : ¬ (m + 7 = 0) := by lia
  have z3 : ¬ (m + 3 = 0) := by lia
  have z2 : ¬ (m + 2 = 0) := by lia
  have x1 : ix ((4096 * s + k : Nat) : Int) 12288 := ⟨by lia, by lia⟩
  have same : some hm = some (sI hm m 24 ws) := by rw [sI_id e0]
  have g := gwV_b (b := sz k) (wt := wt) (wr := wr) (t := tm k) (fi := mk k / 16 % 2) h1.1 bk.2.1
  have w1 : w32 (ws + sz k) = ws + sz k := w32_id ⟨by lia, by lia⟩
  have w2 : w32 (1200 * sz k) = 1200 * sz k := w32_id ⟨by lia, by lia⟩
  have dv : iDiv (1200 * sz k) ws = 1200 * sz k / ws := iDiv_eq ⟨by lia, by lia⟩ ⟨by lia, by lia⟩ (by lia) (by lia)
  have beh : f_mBook_isBehindRecovery m ((4096 * s + k : Nat) : Int) hm = some (if tm k ≤ wr then 0 else 1, hm) := by
    unfold f_mBook_isBehindRecovery f_mBook_isBehindRecovery_b20
    simp only [L.r0_5, L.l3, if_neg z3, if_pos x1, Int.toNat_natCast, v.2.1, e2]
    by_cases c : wr < 0
    · rw [if_pos c, if_neg (by lia)]
    · rw [if_neg c]
      by_cases d : tm k ≤ wr
      · rw [if_pos d, if_pos d]
      · rw [if_neg d, if_neg d]
  unfold f_mBook_grow f_mBook_grow_b50 f_mBook_grow_b74
  simp only [L.r0_8, L.r0_9, L.r0_4, L.l6, L.l7, L.l2, if_neg zm, if_neg z6, if_neg z7, if_neg z2, if_pos x1, Int.toNat_natCast, v.2.2.2.2.1, v.1, beh, b2_some, e0, e1, lt1_eq, w1, w2, dv]
  by_cases c : mk k / 8 % 2 = 0
  · rw [if_pos c, if_neg (by lia)]; exact same
  · have c1 : mk k / 8 % 2 = 1 := by lia
    rw [if_neg c, if_pos c1, v.2.2.2.2.2 c1]
    unfold gwV at g ⊢
    by_cases d : mk k / 16 % 2 = 0
    · rw [if_pos d, if_pos (Or.inr d)]; exact same
    · rw [if_neg d]
      by_cases c3 : tm k ≤ wr
      · rw [if_pos c3, if_neg (by decide), if_pos (Or.inl c3)]; exact same
      · have nd : ¬ (tm k ≤ wr ∨ mk k / 16 % 2 = 0) := by lia
        rw [if_neg c3, if_pos (by decide), if_neg nd]
        rw [if_neg nd] at g
        by_cases c4 : wt < 0
        · rw [if_pos c4, if_pos (Or.inl c4)]
        · rw [if_neg c4]
          by_cases c5 : wt ≤ ws
          · rw [if_neg (by lia)] at g
            rw [if_pos c5, if_neg (by lia), if_neg (by lia), w32_id ⟨by lia, by lia⟩]
          · rw [if_neg c5, if_pos (by lia)]
end
