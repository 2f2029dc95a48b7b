/-! the model's Seals: labels -/
def TF (s : Nat) (h g : Hp) : Prop := (∀ x k, x ≠ s → x ≠ s + 12 → hI g x k = hI h x k) ∧ g.1 = h.1 ∧ g.2.1 = h.2.1 ∧ g.2.2.2 = h.2.2.2
theorem TF.rf {s : Nat} {h : Hp} : TF s h h := ⟨fun _ _ _ _ => rfl, rfl, rfl, rfl⟩
theorem TF.tr {s : Nat} {a b c : Hp} (h1 : TF s a b) (h2 : TF s b c) : TF s a c := ⟨fun x k p q => (h2.1 x k p q).trans (h1.1 x k p q), h2.2.1.trans h1.2.1, h2.2.2.1.trans h1.2.2.1, h2.2.2.2.trans h1.2.2.2⟩
theorem TF.r {s : Nat} {h g : Hp} (F : TF s h g) : hR g = hR h := by funext a k; unfold hR; rw [F.2.2.2]
theorem TF.j {s : Nat} {h g : Hp} (F : TF s h g) (x k : Nat) : hJ g x k = hJ h x k := by unfold hJ; rw [F.2.2.2]
theorem TF.l {s : Nat} {h g : Hp} (F : TF s h g) : ln g = ln h := by funext a; unfold ln; rw [F.2.2.1]
/-- where a label is made: the Seals at s, the key at a place of a row, the place where it goes -/
def LE (g : Hp) (s key at_ to place wanted : Nat) (K O : Nat → Int) : Prop := LSeals g s ∧ MCs g s ∧ (wanted ≤ 32 ∧ to ≠ 0 ∧ (to < s ∨ s + 23 < to) ∧ place + 32 < 2147483648 ∧ place + wanted ≤ ln g to ∧ ∀ j, (j < place ∨ place + wanted ≤ j) → hI g to j = O j) ∧ (key ≠ 0 ∧ (key < s ∨ s + 23 < key) ∧ at_ + 32 ≤ ln g key ∧ at_ + 64 < 2147483648) ∧ ∀ j, j < 32 → 0 ≤ hI g key (at_ + j) ∧ hI g key (at_ + j) < 256 ∧ hI g key (at_ + j) = K j % 256
theorem LE.tf {h g : Hp} {s key at_ to place wanted : Nat} {K O : Nat → Int} (F : TF s h g) (E : LE h s key at_ to place wanted K O) : LE g s key at_ to place wanted K O := by
  obtain ⟨e1, e2, e3, e4, e5⟩ := E
  refine ⟨e1.of F.r F.l, e2.of (fun k => F.j _ k) (fun k => F.j _ k), by rw [F.l]; exact ⟨e3.1, e3.2.1, e3.2.2.1, e3.2.2.2.1, e3.2.2.2.2.1, fun j hj => by rw [F.1 _ _ (by omega) (by omega)]; exact e3.2.2.2.2.2 j hj⟩, by rw [F.l]; exact e4, fun j hj => ?_⟩
  rw [F.1 _ _ (by omega) (by omega)]
  exact e5 j hj
theorem m_tellE {s c : Nat} {B : Nat → Int} {v : Int} {h : Hp} (L : LSeals h s) (Q : InfS h s c B) (hc : c < 400) (hv : v = B c) : wp (f_mSeals_tell s v h) (fun h' => InfS h' s (c + 1) B ∧ TF s h h') := wp_of (m_tell L Q hc hv) (fun _ _ q => ⟨q.1, q.2.1, q.2.2.2.1, q.2.2.2.2.1, q.2.2.2.2.2⟩)
theorem m_lab120 {s key at_ to place wanted c m ctx : Nat} {K B O : Nat → Int} (hB : ∀ j, j < c + m + 1 → 0 ≤ B j ∧ B j < 256) (hc : c + m + 1 ≤ 400) (hctx : m = 0 ∨ (ctx ≠ 0 ∧ (ctx < s ∨ s + 23 < ctx))) (hlast : B (c + m) = 1) (f : Nat) : ∀ (k : Nat) (g : Hp), LE g s key at_ to place wanted K O → InfS g s (c + k) B → k ≤ m → m - k < f → (m = 0 ∨ m ≤ ln g ctx) → (∀ j, j < m → hI g ctx j = B (c + j)) →
    wp (f_mSeals_label_b120_lp f s key (at_ : Int) ctx (m : Int) (wanted : Int) to (place : Int) (k : Int) g) (fun h' => (∀ k, k < wanted → hI h' to (place + k) = HMAC 32 K (c + m + 1) B k) ∧ ∀ j, (j < place ∨ place + wanted ≤ j) → hI h' to j = O j) := by
  induction f with
  | zero => intro k g _ _ _ hf; omega
  | succ f ih =>
    intro k g E Q hk hf hln hcx
    show wp (f_mSeals_label_b120 (f_mSeals_label_b120_lp f) s key at_ ctx m wanted to place k g) _
    unfold f_mSeals_label_b120
    have l0 := E.1.1
    by_cases hx : (m : Int) ≤ k
    · rw [if_pos hx]
      have : k = m := by omega
      subst this
      refine wp_b1o (m_tellE E.1 Q (by omega) hlast.symm) (fun g1 _ q => ?_)
      obtain ⟨e1, e2, ⟨w1, w2, w3, w4, w5, w6⟩, ⟨k1, k2, k3, k4⟩, e5⟩ := E.tf q.2
      exact m_lab150 e1 e2 q.1 (by omega) hB w1 w2 w3 w4 w5 w6 k1 k2 k3 k4 e5
    · rw [if_neg hx, wp_cn]
      have hc2 : ctx ≠ 0 ∧ (ctx < s ∨ s + 23 < ctx) := by rcases hctx with h | h; omega; exact h
      refine ⟨hc2.1, ?_⟩
      rw [wp_ck, Int.toNat_natCast]
      refine ⟨⟨by omega, by omega⟩, ?_⟩
      refine wp_b1o (m_tellE E.1 Q (by omega) (hcx k (by omega))) (fun g1 _ q => ?_)
      have e1 : w32 ((k : Int) + 1) = ((k + 1 : Nat) : Int) := by unfold w32; omega
      rw [e1]
      clear e1
      exact ih (k + 1) g1 (E.tf q.2) q.1 (by omega) (by omega) (by rw [q.2.l]; exact hln) (fun j hj => by rw [q.2.1 _ _ (by omega) (by omega)]; exact hcx j hj)
