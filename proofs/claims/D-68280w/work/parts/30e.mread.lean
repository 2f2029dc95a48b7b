/-! reading: a frame of the model, whole (2) -/
def rdQm (ho : Hp) (w r e : Nat) (B : Nat → Int) (k : Int) (p : Nat) (o : Int × Hp) : Prop := ∃ at_ b, FxE ho o.2 ∧ RD o.2 w r at_ e b ∧ BRm o.2 r e B ∧
  (k = 0 → o.1 = 0 ∧ b = false ∧ at_ = pdE B e (e - p) p ∧ hI o.2 w 4 = 0) ∧
  ((k = 2 ∨ k = 3) → ((akT B e p k).2 = true → o.1 = 1) ∧ ((akT B e p k).2 = false → b = false ∧ at_ = (akT B e p k).1 ∧ ePos B (akA B e p) (akP B e p) (akR B e p) ≤ e ∧ (eOk B (akA B e p) (akP B e p) (akR B e p) = false → o.1 = 3) ∧ (eOk B (akA B e p) (akP B e p) (akR B e p) = true → o.1 = 0 ∧ hI o.2 w 4 = k ∧ hJ o.2 (w + 1) 0 = akA B e p ∧ hJ o.2 (w + 1) 1 = akD B e p ∧ hI o.2 w 8 = ((akR B e p + 1 : Nat) : Int) ∧ hI o.2 w 9 = ((akP B e p : Nat) : Int)))) ∧
  ((k ≠ 0 ∧ k ≠ 2 ∧ k ≠ 3) → ((frS B e k p).2.1 = true → o.1 = 1) ∧ ((frS B e k p).2.1 = false → b = false ∧ at_ = (frS B e k p).1 ∧ (¬ fOk (frK k) (frS B e k p) → o.1 = 3) ∧ (fOk (frK k) (frS B e k p) → o.1 = 0 ∧ hI o.2 w 4 = frK k ∧ fVal (hJ o.2 (w + 1) 0) (hJ o.2 (w + 1) 1) (hJ o.2 (w + 1) 2) (hI o.2 w 6) (hI o.2 w 7) (frS B e k p))))
section
variable {ho h : Hp} {w r e p : Nat} {B : Nat → Int} {k : Int}
theorem m_rd105 (n1 : w + 1 ≠ r) (X : FxE ho h) (R : RD h w r p e false) (hB : BRm h r e B) (he : e ≤ 1400) (k0 : 0 ≤ k ∧ k ≤ 30) (hk : hI h w 4 = frK k) (z : hJ h (w + 1) 0 = 0 ∧ hJ h (w + 1) 1 = 0 ∧ hJ h (w + 1) 2 = 0 ∧ hI h w 6 = 0 ∧ hI h w 7 = 0 ∧ hI h w 8 = 0) (r5 : hR h w 5 = w + 1) (l5 : ln h (w + 1) = 4) : wp (f_mWire_read_b105 w k h) (rdQm ho w r e B k p) := by
  unfold f_mWire_read_b105
  by_cases c0 : k = 0
  · have hk0 : hI h w 4 = 0 := by rw [hk, c0]; rfl
    have ff : f_mWire_takeRest w k h = f_mWire_takeRest_b7_lp FU w h := by unfold f_mWire_takeRest; rw [if_neg (fun q => q hk0)]
    rw [ff]
    refine wp_b1o (m_pad (ho := ho) (f0 := e - p) (kind := 0) FU p h (Nat.le_refl _) (by unfold FU; lia) X R hB hk0) (fun h1 _ q => ?_)
    obtain ⟨q2, q3, q4, q5⟩ := q
    rw [q3.i3, if_pos (show bi false = 0 from rfl)]
    have ri : f_mWire_isRight w h1 = some (1, h1) := by
      unfold f_mWire_isRight f_mWire_isRight_b199
      simp only [q5, Int.reduceEq, ne_eq, not_false_eq_true, if_false, if_true]
    refine wp_b2e ri ?_
    rw [if_neg (by decide), wp_some]
    exact ⟨_, _, q2, q3, q4, fun _ => ⟨rfl, rfl, rfl, q5⟩, fun z => by lia, fun z => absurd c0 z.1⟩
  · by_cases c2 : k = 2 ∨ k = 3
    · have hk0 : hI h w 4 = k := by rw [hk]; unfold frK; rw [if_neg (by lia)]
      have ff : f_mWire_takeRest w k h = f_mWire_takeRest_b59 w h := by
        unfold f_mWire_takeRest
        rw [hk0, if_pos c0]
        by_cases c3 : k = 2
        · rw [if_pos c3]
        · rw [if_neg c3, if_neg (by lia)]
      rw [ff]
      unfold f_mWire_takeRest_b59
      have L : AKm ho h w r e B k 0 0 (hI h w 9) 0 p false := ⟨⟨n1, X⟩, ⟨R, hB⟩, ⟨hk0, z.1, z.2.1, rfl, z.2.2.2.2.2⟩, r5, l5⟩
      rw [hk0, wp_b1, wp_b1]
      refine wp_of (m_ack L he) (fun h1 _ q => ?_)
      rw [wp_some]
      obtain ⟨at_, c8, L', V⟩ := q
      rw [L'.R.i3]
      have X' := L'.1.2
      cases hb : (akT B e p k).2 with
      | true =>
        rw [hb] at L'
        rw [if_neg (by decide), wp_some]
        exact ⟨at_, true, X', L'.R, L'.BR, fun z => absurd z c0, fun _ => ⟨fun _ => rfl, fun z => by rw [hb] at z; exact absurd z (by decide)⟩, fun z => by lia⟩
      | false =>
        obtain ⟨v1, v2, v3⟩ := V hb
        rw [hb] at L'
        have L2 := L'
        obtain ⟨_, ⟨R', BR'⟩, ⟨t4, tA, tD, t9, t8⟩, t5, tl⟩ := L'
        rw [if_pos (show bi false = 0 from rfl)]
        have ge := ePos_ge (B := B) (A := akA B e p) (p0 := akP B e p) (akR B e p)
        have va : 0 ≤ akA B e p ∧ akA B e p < 4611686018427387904 := nV_lt B p e false
        have me := m_edge R' BR' (k := akR B e p) t5 tl va t9 tA (by lia) v3 0
        have w1 : w32 (((akR B e p + 1 : Nat) : Int) - 1) = ((akR B e p : Nat) : Int) := by unfold w32; lia
        have ri : f_mWire_isRight w h1 = f_mWire_isRight_b16 w h1 := by
          unfold f_mWire_isRight
          rw [t4]
          by_cases c3 : k = 2
          · rw [if_pos c3]
          · rw [if_neg c3, if_neg (by lia)]
        rw [ri]
        unfold f_mWire_isRight_b16
        rw [t8, v2, w1, me, b2_some, if_pos (show (0 : Int) = 0 from rfl)]
        cases hc : eOk B (akA B e p) (akP B e p) (akR B e p) with
        | false =>
          simp only [Bool.false_eq_true, if_false]
          rw [if_pos (by decide), b2_some, if_pos rfl, wp_some]
          exact ⟨at_, false, X', R', BR', fun z => absurd z c0, fun _ => ⟨fun z => by rw [hb] at z; exact absurd z (by decide), fun _ => ⟨rfl, v1, v3, fun _ => rfl, fun z => by rw [hc] at z; exact absurd z (by decide)⟩⟩, fun z => by lia⟩
        | true =>
          simp only [if_true]
          have := eOk_bot hc
          rw [if_neg (by lia), b2_some, if_neg (by decide), wp_some]
          exact ⟨at_, false, X', R', BR', fun z => absurd z c0, fun _ => ⟨fun z => by rw [hb] at z; exact absurd z (by decide), fun _ => ⟨rfl, v1, v3, fun z => by rw [hc] at z; exact absurd z (by decide), fun _ => ⟨rfl, t4, tA, tD, by rw [t8, v2], t9⟩⟩⟩, fun z => by lia⟩
    · have L : MFr ho h w r e B (frK k) (p, false, 0, 0, 0, 0, 0) := ⟨⟨n1, X⟩, R, hB, hk, fun _ => ⟨z.1, z.2.1, z.2.2.1, z.2.2.2.1, z.2.2.2.2.1⟩, fun _ => by dsimp only; lia, r5, l5⟩
      refine wp_b1o (m_plain L k0 c0 (by lia) (by lia)) (fun h1 _ L' => ?_)
      have X' := L'.1.2
      rw [L'.R.i3]
      cases hb : (frS B e k p).2.1 with
      | true =>
        have R' := L'.R
        rw [hb] at R'
        rw [if_neg (by decide), wp_some]
        exact ⟨_, true, X', R', L'.BR, fun z => absurd z c0, fun z => absurd z c2, fun _ => ⟨fun _ => rfl, fun z => by rw [hb] at z; exact absurd z (by decide)⟩⟩
      | false =>
        have R' := L'.R
        rw [hb] at R'
        have kn : frK k ≠ 2 ∧ frK k ≠ 3 := by unfold frK; split <;> lia
        rw [if_pos (show bi false = 0 from rfl)]
        refine wp_b2o (m_right L' kn.1 kn.2 hb) (fun x h2 _ q => ?_)
        obtain ⟨q0, q1, q2⟩ := q
        dsimp only at q0 q1 q2
        subst q0
        by_cases g : x = 0
        · rw [if_pos g, wp_some]
          exact ⟨_, false, X', R', L'.BR, fun z => absurd z c0, fun z => absurd z c2, fun _ => ⟨fun z => by rw [hb] at z; exact absurd z (by decide), fun _ => ⟨rfl, rfl, fun _ => rfl, fun z => by have := q2.mpr z; lia⟩⟩⟩
        · rw [if_neg g, wp_some]
          exact ⟨_, false, X', R', L'.BR, fun z => absurd z c0, fun z => absurd z c2, fun _ => ⟨fun z => by rw [hb] at z; exact absurd z (by decide), fun _ => ⟨rfl, rfl, fun z => absurd (q2.mp (by lia)) z, fun _ => ⟨rfl, L'.k, L'.v⟩⟩⟩⟩
end
