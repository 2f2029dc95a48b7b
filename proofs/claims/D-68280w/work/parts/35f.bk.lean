/-! the book: a packet is sent, class and model -/
/-- what Space.add writes -/
def AdP (h h' : Hp) (p n : Nat) (t z el co fi : Int) : Prop := OnI h h' ∧ (∀ x y, ¬ (x = hR h p 0 ∧ y = n) → ¬ (x = hR h p 1 ∧ y = n) → ¬ (x = hR h p 2 ∧ y = n) → ¬ (x = p ∧ (y = 3 ∨ y = 4 ∨ y = 5 ∨ y = 7)) → hI h' x y = hI h x y) ∧ hI h' (hR h p 0) n = t ∧ hI h' (hR h p 1) n = z ∧ hI h' (hR h p 2) n = 4 * el + 8 * co + 16 * fi ∧ hI h' p 3 = ((n + 1 : Nat) : Int) ∧ hI h' p 4 = w32 (hI h p 4 + 1) ∧ hI h' p 5 = (if el = 0 then hI h p 5 else w32 (hI h p 5 + 1)) ∧ hI h' p 7 = (if el = 0 then hI h p 7 else t)
section
variable {hc hm hm' g o : Hp} {a m s n : Nat} {w : Nat → Nat} {X Y : Nat} {T t z el co fi : Int}
theorem c_spAdd (B : BkQ hc a w hm m T) (hs : s < 3) (hn : hI hm (m + 1) s = (n : Int)) (n4 : n < 4096) (hX : X ≤ CN) (hY : Y ≤ CZ) (rN : hN hc + bpot hc a ≤ X) (rZ : hZ hc + 2 * bpot hc a ≤ Y) (hz : 0 < z ∧ z < 32768) (he : el = 0 ∨ el = 1) (hco : co = 0 ∨ co = 1) (hf : fi = 0 ∨ fi = 1) : wp (f_cSpace_add (a + 6 + 11 * s) t z el co fi hc) (fun o => o.1 = (n : Int) ∧ ∃ g w', BkQ g a w' hm m T ∧ (∀ x y, x < hN hc → hI g x y = hI hc x y) ∧ WE w w' hc s ∧ hN hc ≤ hN g ∧ hN g + bpot g a ≤ X ∧ hZ g + 2 * bpot g a ≤ Y ∧ CmF a hc g ∧ n < ln g (hR g (a + 6 + 11 * s) 0) ∧ AdP g o.2 (a + 6 + 11 * s) n t z el co fi) := by
  obtain ⟨tm, sz, mk, fo, W, K1, K2, Q, S, TT⟩ := B.opn hs hn
  have k5 := K1.2.2.2.2.1
  have w0 := W.2.2.2.2.2.2.2.2.2.2.2
  have zT : hR hc (a + 6 + 11 * s) 0 ≠ 0 := fun q => by
    have := W.2.1
    rw [q, w0] at this; lia
  unfold f_cSpace_add
  rw [if_neg zT, K1.1]
  by_cases c : (n : Int) ≠ (ln hc (hR hc (a + 6 + 11 * s) 0) : Int)
  · rw [if_pos c]
    have nl : n < ln hc (hR hc (a + 6 + 11 * s) 0) := by have := k5.1; lia
    exact wp_of (c_addB W K1.1 n4 nl k5.2.1 k5.2.2.1 hz he hco hf) fun o _ q => ⟨q.1, hc, w, B, fun _ _ _ => rfl, fun x _ => Or.inl rfl, Nat.le_refl _, rN, rZ, CmF.rf, nl, q.2⟩
  · rw [if_neg c]
    refine wp_b1o (j_spgrow B hs hn n4 (by lia) hX hY rN rZ) fun g eg ⟨w', B', q1, q2, q3, q4, q5, q6, q7⟩ => ?_
    obtain ⟨_, _, _, _, W', K1', _⟩ := B'.opn hs hn
    have k5' := K1'.2.2.2.2.1
    exact wp_of (c_addB W' K1'.1 n4 q7 k5'.2.1 k5'.2.2.1 hz he hco hf) fun o _ q => ⟨q.1, g, w', B', q1, q2, q3, q4, q5, q6, q7, q.2⟩
end
