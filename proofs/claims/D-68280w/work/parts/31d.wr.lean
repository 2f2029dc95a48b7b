/-! writing: numbers of the class, and the model's drafts -/
def szN (v : Int) : Nat := if v < 64 then 1 else if v < 16384 then 2 else if v < 1073741824 then 4 else 8
def mkN (n : Nat) : Int := if n = 1 then 0 else if n = 2 then 1 else if n = 4 then 2 else 3
/-- a number with the mark of its size -/
def nmW (v : Int) (n : Nat) : Int := lOr v (lShl (mkN n) (w32 (w32 (8 * (n : Int)) - 2)))
theorem nmW_c (v : Int) (n : Nat) : c64 (nmW v n) := c64_toInt _
theorem szN_le (v : Int) : szN v ≤ 8 ∧ 1 ≤ szN v := by unfold szN; split; lia; split; lia; split <;> lia
section
variable {h : Hp} {a r at_ e n : Nat} {b : Bool}
theorem c_sizeOf {v : Int} : f_cBytes_sizeOf v h = some ((szN v : Int), h) := by
  unfold f_cBytes_sizeOf szN
  (repeat' split) <;> first | rfl | (exfalso; lia)
theorem m_needs {v : Int} : f_mWire_needs v h = some ((szN v : Int), h) := by
  unfold f_mWire_needs szN
  (repeat' split) <;> first | rfl | (exfalso; lia)
theorem c_putSized {v : Int} (R : RD h a r at_ e b) (hn : n ≤ 8) : f_cBytes_putSized a v (n : Int) h = some (if pB at_ e b n then adv h a at_ true else wrC h a r at_ n (BY (nmW v n) n)) := by
  have go : ∀ m : Int, m = mkN n → f_cBytes_putSized_b28 a v (n : Int) m h = some (if pB at_ e b n then adv h a at_ true else wrC h a r at_ n (BY (nmW v n) n)) := fun m hm => by
    unfold f_cBytes_putSized_b28
    rw [hm]
    show (b1 (f_cBytes_putMany a (nmW v n) (n : Int) h) fun h1 => some h1) = _
    rw [c_putMany (nmW_c v n) R hn, b1_some]
  unfold f_cBytes_putSized
  by_cases c1 : n = 1
  · rw [if_neg (by lia)]; exact go 0 (by unfold mkN; rw [if_pos c1])
  · rw [if_pos (by lia)]
    by_cases c2 : n = 2
    · rw [if_neg (by lia)]; exact go 1 (by unfold mkN; rw [if_neg c1, if_pos c2])
    · rw [if_pos (by lia)]
      by_cases c4 : n = 4
      · rw [if_neg (by lia)]; exact go 2 (by unfold mkN; rw [if_neg c1, if_neg c2, if_pos c4])
      · rw [if_pos (by lia)]; exact go 3 (by unfold mkN; rw [if_neg c1, if_neg c2, if_neg c4])
theorem c_putNumber {v : Int} (R : RD h a r at_ e b) : f_cBytes_putNumber a v h = some (if pB at_ e b (szN v) then adv h a at_ true else wrC h a r at_ (szN v) (BY (nmW v (szN v)) (szN v))) := by
  unfold f_cBytes_putNumber
  rw [c_sizeOf, b2_some, c_putSized R (szN_le v).1, b1_some]
theorem c_putRowL {x o : Nat} (R : RD h a r at_ e b) (x0 : x ≠ 0) (xr : x ≠ r) (xa : x ≠ a) (hn : n < 1000000) (hl : at_ + n ≤ e) (hx : o + n ≤ ln h x) (hz : o + n < 1000000) (hb : ∀ j, j < n → -128 ≤ hI h x (o + j) ∧ hI h x (o + j) < 128) (f : Nat) : ∀ m, m ≤ n → n - m < f → f_cBytes_putRow_b11_lp f a x (o : Int) (n : Int) (m : Int) (wrC h a r at_ m (fun j => hI h x (o + j))) = some (wrC h a r at_ n (fun j => hI h x (o + j))) := by
  induction f with
  | zero => intro m _ hf; lia
  | succ f ih =>
    intro m hm hf
    show f_cBytes_putRow_b11 (f_cBytes_putRow_b11_lp f) a x (o : Int) (n : Int) (m : Int) (wrC h a r at_ m (fun j => hI h x (o + j))) = _
    unfold f_cBytes_putRow_b11
    have sm := R.sm
    have rn := R.rn
    by_cases hx' : (n : Int) ≤ m
    · have : m = n := by lia
      subst this
      rw [if_pos hx']
    · have l1 : at_ + m < e := by lia
      have a1 : hI (wrC h a r at_ m (fun j => hI h x (o + j))) a 1 = ((at_ + m : Nat) : Int) := by rw [hI_wrC, if_neg (by lia), hI_adv, if_pos ⟨rfl, rfl⟩]
      have r1 : hR (wrC h a r at_ m (fun j => hI h x (o + j))) a 0 = r := R.row
      have l2 : ∀ y k u, ln (sI (wrC h a r at_ m (fun j => hI h x (o + j))) y k u) r = ln h r := fun _ _ _ => rfl
      have l3 : ∀ y k u, ln (sI (wrC h a r at_ m (fun j => hI h x (o + j))) y k u) x = ln h x := fun _ _ _ => rfl
      have v1 : ∀ u, hI (sI (wrC h a r at_ m (fun j => hI h x (o + j))) a 1 u) x (o + m) = hI h x (o + m) := fun u => by rw [hI_sI, if_neg (by lia), hI_wrC, if_neg (by lia), hI_adv, if_neg (by lia), if_neg (by lia)]
      rw [if_neg hx', lt1_eq, if_neg x0, w_ck (by lia), l3, if_pos (show ix ((o + m : Nat) : Int) (ln h x) from ⟨by lia, by lia⟩), r1, if_neg R.rz, a1, l2, if_pos (R.ix l1), lt1_eq, Int.toNat_natCast, Int.toNat_natCast, v1, w_k1 (by lia), w_k1 (by lia)]
      have := wrC_st (h := h) (a := a) (r := r) (at_ := at_) (n := m) (C := fun j => hI h x (o + j)) rn
      rw [this]
      exact ih (m + 1) (by lia) (by lia)
theorem c_putRow {x o : Nat} (R : RD h a r at_ e b) (x0 : x ≠ 0) (xr : x ≠ r) (xa : x ≠ a) (hn : n < 1000000) (hx : o + n ≤ ln h x) (hz : o + n < 1000000) (hb : ∀ j, j < n → -128 ≤ hI h x (o + j) ∧ hI h x (o + j) < 128) : f_cBytes_putRow a x (o : Int) (n : Int) h = some (if pB at_ e b n then adv h a at_ true else wrC h a r at_ n (fun j => hI h x (o + j))) := by
  unfold f_cBytes_putRow
  rw [c_step R hn, b2_some]
  by_cases g : pB at_ e b n = true
  · rw [g, if_pos rfl, if_pos rfl, if_pos rfl, adv_id R]
  · have g' : pB at_ e b n = false := by simpa using g
    obtain ⟨rfl, le⟩ := pB_inv g'
    have := c_putRowL R x0 xr xa hn le hx hz hb FU 0 (by lia) (by unfold FU; lia)
    rw [wrC_0, adv_id R] at this
    rw [g']
    simp only [Bool.false_eq_true, if_false, Int.reduceEq]
    exact this
end
/-! the model -/
/-- a draft d: its row, how many bytes it has -/
def DRm (h : Hp) (d r at_ : Nat) : Prop := (d ≠ 0 ∧ r ≠ 0 ∧ d ≠ r) ∧ hR h d 0 = r ∧ hI h d 1 = (at_ : Int) ∧ at_ ≤ 1400 ∧ ln h r = 1400
def wrM (h : Hp) (d r at_ n : Nat) (C : Nat → Int) : Hp := fI (sI h d 1 ((at_ + n : Nat) : Int)) r at_ 0 n C
section
variable {h : Hp} {d r at_ n : Nat} {C : Nat → Int}
theorem hI_wrM {x y : Nat} : hI (wrM h d r at_ n C) x y = if x = r ∧ at_ ≤ y ∧ y < at_ + n then C (y - at_) else if x = d ∧ y = 1 then ((at_ + n : Nat) : Int) else hI h x y := by
  unfold wrM
  rw [hI_fI, Nat.add_zero, hI_sI]
theorem wrM_st (hr : r ≠ d) : sI (sI (wrM h d r at_ n C) r (at_ + n) (C n)) d 1 ((at_ + n + 1 : Nat) : Int) = wrM h d r at_ (n + 1) C := by
  refine hp_ext rfl rfl (fun x y => ?_) (fun _ _ => rfl) (fun _ _ => rfl)
  rw [hI_sI, hI_sI, hI_wrM, hI_wrM]
  by_cases c1 : x = r
  · subst c1
    have n1 : ¬ (x = d ∧ y = 1) := by lia
    simp only [n1, if_false]
    by_cases c2 : y = at_ + n
    · subst c2
      rw [if_pos ⟨trivial, rfl⟩, if_pos (by lia), show at_ + n - at_ = n by lia]
    · rw [if_neg (by lia)]
      by_cases c3 : at_ ≤ y ∧ y < at_ + n
      · rw [if_pos ⟨trivial, c3⟩, if_pos ⟨trivial, by lia, by lia⟩]
      · rw [if_neg (by lia), if_neg (by lia)]
  · simp only [c1, false_and, if_false]
    by_cases c2 : x = d ∧ y = 1
    · rw [if_pos c2, if_pos c2]; rfl
    · simp only [c2, if_false]
theorem wrM_0 (D : DRm h d r at_) : wrM h d r at_ 0 C = h := by
  refine hp_ext rfl rfl (fun x y => ?_) (fun _ _ => rfl) (fun _ _ => rfl)
  rw [hI_wrM, if_neg (by lia)]
  by_cases c : x = d ∧ y = 1
  · rw [if_pos c, c.1, c.2, D.2.2.1]; rfl
  · rw [if_neg c]
theorem m_putL {v : Int} (hv : c64 v) (D : DRm h d r at_) (hn : n ≤ 8) (hl : at_ + n ≤ 1400) (f : Nat) : ∀ m, m ≤ n → n - m < f → f_mDraft_put_b5_lp f d v ((n : Int) - 1 - (m : Int)) (wrM h d r at_ m (BY v n)) = some (wrM h d r at_ n (BY v n)) := by
  induction f with
  | zero => intro m _ hf; lia
  | succ f ih =>
    intro m hm hf
    show f_mDraft_put_b5 (f_mDraft_put_b5_lp f) d v ((n : Int) - 1 - (m : Int)) (wrM h d r at_ m (BY v n)) = _
    unfold f_mDraft_put_b5
    obtain ⟨⟨d1, d2, d3⟩, e1, e2, e3, e4⟩ := D
    by_cases hx : (n : Int) - 1 - (m : Int) < 0
    · have : m = n := by lia
      subst this
      rw [if_pos hx]
    · have a1 : hI (wrM h d r at_ m (BY v n)) d 1 = ((at_ + m : Nat) : Int) := by rw [hI_wrM, if_neg (by lia), if_pos ⟨rfl, rfl⟩]
      have a2 : ∀ u, hI (sI (wrM h d r at_ m (BY v n)) r (at_ + m) u) d 1 = ((at_ + m : Nat) : Int) := fun u => by rw [hI_sI, if_neg (by lia)]; exact a1
      have r1 : hR (wrM h d r at_ m (BY v n)) d 0 = r := e1
      have l2 : ln (wrM h d r at_ m (BY v n)) r = 1400 := e4
      have ek : (n : Int) - 1 - (m : Int) = ((n - 1 - m : Nat) : Int) := by lia
      have w1 : w32 ((n : Int) - 1 - (m : Int) + (-1)) = (n : Int) - 1 - ((m + 1 : Nat) : Int) := by unfold w32; lia
      have w2 : w32 (8 * ((n - 1 - m : Nat) : Int)) = ((8 * (n - 1 - m) : Nat) : Int) := by unfold w32; lia
      have w3 : w32 (lAnd (lShr v ((8 * (n - 1 - m) : Nat) : Int)) 255) = BY v n m := by
        rw [lAnd255, lShr_eq hv (by lia)]
        have := BY_lt v n m
        exact w32_id ⟨by unfold BY at this; lia, by unfold BY at this; lia⟩
      rw [if_neg hx, r1, if_neg d2, a1, l2, if_pos (show ix ((at_ + m : Nat) : Int) 1400 from ⟨by lia, by lia⟩), lt1_eq, lt1_eq, Int.toNat_natCast, w1, ek, w2, w3, a2, w_k1 (by lia), wrM_st (by lia)]
      exact ih (m + 1) (by lia) (by lia)
theorem m_put {v : Int} (hv : c64 v) (D : DRm h d r at_) (hn : n ≤ 8) (hl : at_ + n ≤ 1400) : f_mDraft_put d v (n : Int) h = some (wrM h d r at_ n (BY v n)) := by
  unfold f_mDraft_put
  have w1 : w32 ((n : Int) - 1) = (n : Int) - 1 - ((0 : Nat) : Int) := by unfold w32; lia
  have := m_putL hv D hn hl FU 0 (by lia) (by unfold FU; lia)
  rw [wrM_0 D] at this
  rw [lt1_eq, w1]
  exact this
theorem m_sized {v : Int} (D : DRm h d r at_) (hn : n ≤ 8) (hl : at_ + n ≤ 1400) : f_mDraft_sized d v (n : Int) h = some (wrM h d r at_ n (BY (nmW v n) n)) := by
  have go : ∀ m : Int, m = mkN n → f_mDraft_sized_b32 d v (n : Int) m h = some (wrM h d r at_ n (BY (nmW v n) n)) := fun m hm => by
    unfold f_mDraft_sized_b32
    rw [hm]
    show (b1 (f_mDraft_put d (nmW v n) (n : Int) h) fun h1 => some h1) = _
    rw [m_put (nmW_c v n) D hn hl, b1_some]
  unfold f_mDraft_sized
  by_cases c1 : n = 1
  · rw [if_neg (by lia)]; exact go 0 (by unfold mkN; rw [if_pos c1])
  · rw [if_pos (by lia)]
    by_cases c2 : n = 2
    · rw [if_neg (by lia)]; exact go 1 (by unfold mkN; rw [if_neg c1, if_pos c2])
    · rw [if_pos (by lia)]
      by_cases c4 : n = 4
      · rw [if_neg (by lia)]; exact go 2 (by unfold mkN; rw [if_neg c1, if_neg c2, if_pos c4])
      · rw [if_pos (by lia)]; exact go 3 (by unfold mkN; rw [if_neg c1, if_neg c2, if_neg c4])
theorem m_dnum {v : Int} (D : DRm h d r at_) (hl : at_ + szN v ≤ 1400) : f_mDraft_number d v h = some (wrM h d r at_ (szN v) (BY (nmW v (szN v)) (szN v))) := by
  unfold f_mDraft_number
  rw [m_needs, b2_some, m_sized D (szN_le v).1 hl, b1_some]
end
