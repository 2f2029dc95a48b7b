/-! the model's Seals: label -/
theorem m_lab35 {s key at_ to place wanted l m ctx : Nat} {K C O : Nat → Int} {g : Hp} (hl : l < 11) (hm : m ≤ 32) (hC : ∀ j, j < m → 0 ≤ C j ∧ C j < 256) (hctx : m = 0 ∨ (ctx ≠ 0 ∧ (ctx < s ∨ s + 23 < ctx))) (E : LE g s key at_ to place wanted K O) (hln : m = 0 ∨ m ≤ ln g ctx) (hcx : ∀ j, j < m → hI g ctx j = C j) :
    wp (f_mSeals_label_b35 s key (at_ : Int) ctx (m : Int) (wanted : Int) to (place : Int) (mWd l) (((mTx l).length - 3 : Nat) : Int) g) (fun h' => (∀ k, k < wanted → hI h' to (place + k) = HMAC 32 K (5 + (mTx l).length + m) (INF l wanted m C) k) ∧ ∀ j, (j < place ∨ place + wanted ≤ j) → hI h' to j = O j) := by
  have hs2 := (mWd_ok l hl).2.1
  have hs1 := (mWd_ok l hl).2.2.1
  have l0 := E.1.1
  unfold f_mSeals_label_b35
  rw [wp_lt1]
  have F0 : ∀ x k, x ≠ s → hI (sI g s 13 0) x k = hI g x k := fun x k hx => by rw [hI_sI, if_neg (fun z => hx z.1)]
  have T0 : TF s g (sI g s 13 0) := ⟨fun x k h1 _ => F0 x k h1, rfl, rfl, rfl⟩
  have Q0 : InfS (sI g s 13 0) s 0 (INF l wanted m C) := ⟨by rw [hI_sI, if_pos ⟨rfl, rfl⟩]; rfl, fun j hj => by omega⟩
  have E0 := E.tf T0
  refine wp_b1o (m_tellE E0.1 Q0 (by omega) (by unfold INF; rw [if_pos rfl])) (fun g1 _ q1 => ?_)
  have E1 := E0.tf q1.2
  refine wp_b1o (m_tellE E1.1 q1.1 (by omega) (by unfold INF; rw [if_neg (by omega), if_pos rfl])) (fun g2 _ q2 => ?_)
  have E2 := E1.tf q2.2
  have e3 : w32 ((((mTx l).length - 3 : Nat) : Int) + 3) = ((mTx l).length : Int) := by unfold w32; omega
  rw [e3]
  clear e3
  refine wp_b1o (m_tellE E2.1 q2.1 (by omega) (by unfold INF; rw [if_neg (by omega), if_neg (by omega), if_pos rfl])) (fun g3 _ q3 => ?_)
  have E3 := E2.tf q3.2
  refine wp_b1o (m_tellE E3.1 q3.1 (by omega) (by unfold INF; rw [if_neg (by omega), if_neg (by omega), if_neg (by omega), if_pos (by omega)]; exact (mWd_ok l hl).2.2.2.2.2.1.symm)) (fun g4 _ q4 => ?_)
  have E4 := E3.tf q4.2
  refine wp_b1o (m_tellE E4.1 q4.1 (by omega) (by unfold INF; rw [if_neg (by omega), if_neg (by omega), if_neg (by omega), if_pos (by omega)]; exact (mWd_ok l hl).2.2.2.2.2.2.1.symm)) (fun g5 _ q5 => ?_)
  have E5 := E4.tf q5.2
  refine wp_b1o (m_tellE E5.1 q5.1 (by omega) (by unfold INF; rw [if_neg (by omega), if_neg (by omega), if_neg (by omega), if_pos (by omega)]; exact (mWd_ok l hl).2.2.2.2.2.2.2.symm)) (fun g6 _ q6 => ?_)
  have E6 := E5.tf q6.2
  have TT : TF s g g6 := T0.tr (q1.2.tr (q2.2.tr (q3.2.tr (q4.2.tr (q5.2.tr q6.2)))))
  rw [wp_lt1]
  have e4 : w32 ((((mTx l).length - 3 : Nat) : Int) - 1) = (((mTx l).length - 3 : Nat) : Int) - 1 - ((0 : Nat) : Int) := by unfold w32; omega
  rw [e4]
  clear e4
  exact m_lab83 hl hm E.2.2.1.1 hC hctx FU 0 g6 E6 q6.1 (by omega) (by unfold FU; omega) (by rw [TT.l]; exact hln) (fun j hj => by rw [TT.1 _ _ (by omega) (by omega)]; exact hcx j hj)
theorem m_lab9 {s key at_ to place wanted l m ctx : Nat} {K C O : Nat → Int} {g : Hp} (hl : l < 11) (hm : m ≤ 32) (hC : ∀ j, j < m → 0 ≤ C j ∧ C j < 256) (hctx : m = 0 ∨ (ctx ≠ 0 ∧ (ctx < s ∨ s + 23 < ctx))) (E : LE g s key at_ to place wanted K O) (hln : m = 0 ∨ m ≤ ln g ctx) (hcx : ∀ j, j < m → hI g ctx j = C j) (f : Nat) : ∀ t, t ≤ (mTx l).length - 3 → (mTx l).length - 3 - t < f →
    wp (f_mSeals_label_b9_lp f s key (at_ : Int) ctx (m : Int) (wanted : Int) to (place : Int) (mWd l) (t : Int) g) (fun h' => (∀ k, k < wanted → hI h' to (place + k) = HMAC 32 K (5 + (mTx l).length + m) (INF l wanted m C) k) ∧ ∀ j, (j < place ∨ place + wanted ≤ j) → hI h' to j = O j) := by
  have hs2 := (mWd_ok l hl).2.1
  have hs4 : ∀ u : Nat, u = (mTx l).length - 3 → mWd l / 2 ^ (8 * u) = 0 := fun u hu => by rw [hu]; exact (mWd_ok l hl).2.2.2.1
  have hs5 : ∀ j : Nat, j < (mTx l).length - 3 → 0 < mWd l / 2 ^ (8 * j) := fun j hj => ((mWd_ok l hl).2.2.2.2.1 j hj).1
  have hb : ∀ l, l < 11 → 0 ≤ mWd l ∧ mWd l < 9223372036854775808 := by decide
  have hb' := hb l hl
  induction f with
  | zero => intro t _ hf; omega
  | succ f ih =>
    intro t ht hf
    show wp (f_mSeals_label_b9 (f_mSeals_label_b9_lp f) s key at_ ctx m wanted to place (mWd l) t g) _
    unfold f_mSeals_label_b9
    rw [if_neg (by omega)]
    have e0 : w32 (8 * (t : Int)) = ((8 * t : Nat) : Int) := by unfold w32; omega
    have e1 : w32 ((t : Int) + 1) = ((t + 1 : Nat) : Int) := by unfold w32; omega
    rw [e0, e1, lShr_eq ⟨by omega, by omega⟩ (by omega)]
    clear e0 e1
    by_cases hx : t = (mTx l).length - 3
    · rw [if_pos (Int.le_of_eq (hs4 t hx)), hx]
      exact m_lab35 hl hm hC hctx E hln hcx
    · rw [if_neg (Int.not_le.mpr (hs5 t (by omega)))]
      exact ih (t + 1) (by omega) (by omega)
theorem m_label {s key at_ to place wanted l m ctx : Nat} {K C O : Nat → Int} {g : Hp} (hl : l < 11) (hm : m ≤ 32) (hC : ∀ j, j < m → 0 ≤ C j ∧ C j < 256) (hctx : m = 0 ∨ (ctx ≠ 0 ∧ (ctx < s ∨ s + 23 < ctx))) (E : LE g s key at_ to place wanted K O) (hln : m = 0 ∨ m ≤ ln g ctx) (hcx : ∀ j, j < m → hI g ctx j = C j) :
    wp (f_mSeals_label s key (at_ : Int) (l : Int) ctx (m : Int) (wanted : Int) to (place : Int) g) (fun h' => (∀ k, k < wanted → hI h' to (place + k) = HMAC 32 K (5 + (mTx l).length + m) (INF l wanted m C) k) ∧ ∀ j, (j < place ∨ place + wanted ≤ j) → hI h' to j = O j) := by
  unfold f_mSeals_label
  rw [m_words hl, wp_b2, wp_some]
  exact m_lab9 hl hm hC hctx E hln hcx FU 0 (by omega) (by have := (mWd_ok l hl).2.1; unfold FU; omega)
