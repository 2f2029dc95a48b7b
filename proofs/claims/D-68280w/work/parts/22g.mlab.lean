/-! the model's Seals: labels whole -/
/-- the bytes of a label's info: 0, how many are wanted, the text with its size, the context with its size, 1 -/
def INF (l wanted m : Nat) (C : Nat → Int) (j : Nat) : Int := if j = 0 then 0 else if j = 1 then wanted else if j = 2 then ((mTx l).length : Int) else if j < 3 + (mTx l).length then (mTx l).getD (j - 3) 0 else if j = 3 + (mTx l).length then m else if j < 4 + (mTx l).length + m then C (j - 4 - (mTx l).length) else 1
theorem mTx_lt : ∀ l, l < 11 → ∀ v ∈ mTx l, 0 ≤ v ∧ v < 256 := by decide
theorem INF_lt {l wanted m : Nat} {C : Nat → Int} (hl : l < 11) (hw : wanted ≤ 32) (hm : m ≤ 32) (hC : ∀ j, j < m → 0 ≤ C j ∧ C j < 256) (j : Nat) (hj : j < 5 + (mTx l).length + m) : 0 ≤ INF l wanted m C j ∧ INF l wanted m C j < 256 := by
  have hs := mWd_ok l hl
  unfold INF
  split
  · omega
  split
  · omega
  split
  · omega
  split
  · rw [List.getD_eq_getElem?_getD]
    cases hk : (mTx l)[j - 3]? with
    | none => decide
    | some v => exact mTx_lt l hl v (List.mem_of_getElem? hk)
  split
  · omega
  split
  · exact hC _ (by omega)
  · omega
theorem m_lab83 {s key at_ to place wanted l m ctx : Nat} {K C O : Nat → Int} (hl : l < 11) (hm : m ≤ 32) (hw : wanted ≤ 32) (hC : ∀ j, j < m → 0 ≤ C j ∧ C j < 256) (hctx : m = 0 ∨ (ctx ≠ 0 ∧ (ctx < s ∨ s + 23 < ctx))) (f : Nat) : ∀ (t : Nat) (g : Hp), LE g s key at_ to place wanted K O → InfS g s (6 + t) (INF l wanted m C) → t ≤ (mTx l).length - 3 → (mTx l).length - 3 - t < f → (m = 0 ∨ m ≤ ln g ctx) → (∀ j, j < m → hI g ctx j = C j) →
    wp (f_mSeals_label_b83_lp f s key (at_ : Int) ctx (m : Int) (wanted : Int) to (place : Int) (mWd l) ((((mTx l).length - 3 : Nat) : Int) - 1 - (t : Int)) g) (fun h' => (∀ k, k < wanted → hI h' to (place + k) = HMAC 32 K (5 + (mTx l).length + m) (INF l wanted m C) k) ∧ ∀ j, (j < place ∨ place + wanted ≤ j) → hI h' to j = O j) := by
  have hs := mWd_ok l hl
  generalize hz : (mTx l).length - 3 = z at *
  have hlen : (mTx l).length = z + 3 := by omega
  induction f with
  | zero => intro k g _ _ _ hf; omega
  | succ f ih =>
    intro t g E Q ht hf hln hcx
    show wp (f_mSeals_label_b83 (f_mSeals_label_b83_lp f) s key at_ ctx m wanted to place (mWd l) ((z : Int) - 1 - (t : Int)) g) _
    unfold f_mSeals_label_b83
    have l0 := E.1.1
    by_cases hx : (z : Int) - 1 - (t : Int) < 0
    · rw [if_pos hx]
      have : t = z := by omega
      subst this
      refine wp_b1o (m_tellE E.1 Q (by omega) ?_) (fun g1 _ q => ?_)
      · unfold INF; rw [if_neg (by omega), if_neg (by omega), if_neg (by omega), if_neg (by omega), if_pos (by omega)]
      · have w := m_lab120 (c := 7 + t) (m := m) (ctx := ctx) (B := INF l wanted m C) (fun j hj => INF_lt hl hw hm hC j (by omega)) (by omega) hctx (by unfold INF; rw [if_neg (by omega), if_neg (by omega), if_neg (by omega), if_neg (by omega), if_neg (by omega), if_neg (by omega)]) FU 0 g1 (E.tf q.2) (by rw [show 7 + t + 0 = 6 + t + 1 by omega]; exact q.1) (by omega) (by unfold FU; omega) (by rw [q.2.l]; exact hln) (fun j hj => by
          rw [q.2.1 _ _ (by omega) (by omega), hcx j hj]
          unfold INF
          rw [if_neg (by omega), if_neg (by omega), if_neg (by omega), if_neg (by omega), if_neg (by omega), if_pos (by omega)]
          congr 1; omega)
        rw [show 7 + t + m + 1 = 5 + (mTx l).length + m by omega] at w
        exact w
    · rw [if_neg hx]
      have e0 : w32 (8 * ((z : Int) - 1 - (t : Int))) = ((8 * (z - 1 - t) : Nat) : Int) := by unfold w32; omega
      have e1 : w32 ((z : Int) - 1 - (t : Int) + (-1)) = (z : Int) - 1 - ((t + 1 : Nat) : Int) := by unfold w32; omega
      rw [e0, e1]
      clear e0 e1
      have hb : ∀ l, l < 11 → 0 ≤ mWd l ∧ mWd l < 9223372036854775808 := by decide
      have hb' := hb l hl
      have hv := (hs.2.2.2.2.1 (z - 1 - t) (by omega)).2
      rw [lShr_eq ⟨by omega, by omega⟩ (by omega), lAnd255, hv]
      have hval : w32 ((mTx l).getD ((mTx l).length - 1 - (z - 1 - t)) 0) = INF l wanted m C (6 + t) := by
        have hlt : 0 ≤ (mTx l).getD ((mTx l).length - 1 - (z - 1 - t)) 0 ∧ (mTx l).getD ((mTx l).length - 1 - (z - 1 - t)) 0 < 256 := by rw [← hv]; omega
        rw [w32_id ⟨by omega, by omega⟩]
        unfold INF
        rw [if_neg (by omega), if_neg (by omega), if_neg (by omega), if_pos (by omega)]
        congr 1; omega
      refine wp_b1o (m_tellE E.1 Q (by omega) hval) (fun g1 _ q => ?_)
      exact ih (t + 1) g1 (E.tf q.2) q.1 (by omega) (by omega) (by rw [q.2.l]; exact hln) (fun j hj => by rw [q.2.1 _ _ (by omega) (by omega)]; exact hcx j hj)
