/-! writing: ranges of an ACK -/
def ackT (lo hi : Nat → Int) : Nat → List Int
  | 0 => []
  | k + 1 => ackT lo hi k ++ (numL (lo k - hi (k + 1) - 2) ++ numL (hi (k + 1) - lo (k + 1)))
/-- an ACK with n ranges and a delay -/
def ackL (n : Nat) (lo hi : Nat → Int) (dl : Int) : List Int := [2] ++ (numL (hi 0) ++ (numL dl ++ (numL ((n : Int) - 1) ++ (numL (hi 0 - lo 0) ++ ackT lo hi (n - 1)))))
section
variable {h0 h : Hp} {f a r at0 e n : Nat} {L : List Int} {dl : Int} {lo hi : Nat → Int}
/-- an ACK in the heap ahead of the writing -/
def FrA (h0 : Hp) (f a r n : Nat) (dl : Int) (lo hi : Nat → Int) : Prop := (a ≠ 0 ∧ f ≠ a ∧ f ≠ r) ∧ hI h0 f 0 = 2 ∧ hJ h0 f 3 = dl ∧ hI h0 f 11 = (n : Int) ∧ (1 ≤ n ∧ n ≤ 64) ∧ (hR h0 f 12 ≠ 0 ∧ n ≤ ln h0 (hR h0 f 12)) ∧ (hR h0 f 13 ≠ 0 ∧ n ≤ ln h0 (hR h0 f 13)) ∧ (∀ i, i < n → hJ h0 (hR h0 f 12) i = lo i ∧ hJ h0 (hR h0 f 13) i = hi i) ∧ ∀ i, i < n → (0 ≤ lo i ∧ lo i < 4611686018427387904) ∧ (0 ≤ hi i ∧ hi i < 4611686018427387904)
theorem fa_48L (K : FrA h0 f a r n dl lo hi) (g : Nat) : ∀ (k : Nat) (h : Hp), 1 ≤ k → k ≤ n → n - k < g → OW h0 h a r at0 e (L ++ ackT lo hi (k - 1)) → wp (f_cFrame_writeRanges_b48_lp g f a (k : Int) h) (fun h' => OW h0 h' a r at0 e (L ++ ackT lo hi (n - 1))) := by
  induction g with
  | zero => intro k h _ _ hf; lia
  | succ g ih =>
    intro k h k1 kn hf O
    show wp (f_cFrame_writeRanges_b48 (f_cFrame_writeRanges_b48_lp g) f a (k : Int) h) _
    obtain ⟨⟨a0, fa, fr⟩, q1, q2, q3, q4, q5, q6, q7, q8⟩ := K
    have V0 := q7 (k - 1) (by lia)
    have V1 := q8 (k - 1) (by lia)
    unfold f_cFrame_writeRanges_b48
    rw [O.i fa fr, q3]
    by_cases c : (n : Int) ≤ k
    · have : k = n := by lia
      subst this
      rw [if_pos c]
      show wp (f_cFrame_writeRanges_b104 (f_cFrame_writeRanges_b104_lp 999999999) f a 0 h) _
      unfold f_cFrame_writeRanges_b104
      rw [if_neg (by decide), O.i fa fr, q1, if_pos (by decide), wp_some]
      exact O
    · have V2 := q7 k (by lia)
      have V3 := q8 k (by lia)
      have w1 : w32 ((k : Int) - 1) = ((k - 1 : Nat) : Int) := by unfold w32; lia
      have x1 : ix ((k - 1 : Nat) : Int) (ln h0 (hR h0 f 12)) := ⟨by lia, by lia⟩
      have x2 : ix (k : Int) (ln h0 (hR h0 f 13)) := ⟨by lia, by lia⟩
      have x3 : ix (k : Int) (ln h0 (hR h0 f 12)) := ⟨by lia, by lia⟩
      have e1 : w64 (w64 (lo (k - 1) - hi k) - 2) = lo (k - 1) - hi k - 2 := by rw [w64_id (x := lo (k - 1) - hi k) ⟨by lia, by lia⟩, w64_id ⟨by lia, by lia⟩]
      have e2 : w64 (hi k - lo k) = hi k - lo k := w64_id ⟨by lia, by lia⟩
      rw [if_neg c]
      simp only [O.rr, O.l, O.j, w1, if_neg q5.1, if_neg q6.1, if_pos x1, if_pos x2, if_neg a0, Int.toNat_natCast, V0.1, V2.2, e1]
      refine wp_b1o (o_num O) (fun h2 _ O2 => ?_)
      simp only [O2.rr, O2.l, O2.j, if_neg q5.1, if_neg q6.1, if_pos x2, if_pos x3, Int.toNat_natCast, V2.1, V2.2, e2]
      refine wp_b1o (o_num O2) (fun h3 _ O3 => ?_)
      rw [w_k1 (by lia)]
      refine ih (k + 1) h3 (by lia) (by lia) (by lia) ?_
      have : k + 1 - 1 = (k - 1) + 1 := by lia
      rw [this]
      show OW h0 h3 a r at0 e (L ++ (ackT lo hi (k - 1) ++ (numL (lo (k - 1) - hi (k - 1 + 1) - 2) ++ numL (hi (k - 1 + 1) - lo (k - 1 + 1)))))
      rw [show k - 1 + 1 = k by lia]
      simp only [List.append_assoc] at O3 ⊢
      exact O3
theorem c_awrite (K : FrA h0 f a r n dl lo hi) (O : OW h0 h a r at0 e L) : wp (f_cFrame_write f a h) (fun h' => OW h0 h' a r at0 e (L ++ ackL n lo hi dl)) := by
  have K' := K
  obtain ⟨⟨a0, fa, fr⟩, q1, q2, q3, q4, q5, q6, q7, q8⟩ := K
  have V0 := q7 0 (by lia)
  have V1 := q8 0 (by lia)
  have x1 : ix (0 : Int) (ln h0 (hR h0 f 12)) := ⟨by lia, by lia⟩
  have x2 : ix (0 : Int) (ln h0 (hR h0 f 13)) := ⟨by lia, by lia⟩
  have e2 : w64 (hi 0 - lo 0) = hi 0 - lo 0 := w64_id ⟨by lia, by lia⟩
  have e3 : w32 ((n : Int) - 1) = (n : Int) - 1 := w32_id ⟨by lia, by lia⟩
  unfold f_cFrame_write f_cFrame_write_b80 f_cFrame_writeRanges
  rw [O.i fa fr, q1, if_pos (by decide), if_pos (by decide), if_neg a0]
  refine wp_b1o (o_put O) (fun h2 _ O2 => ?_)
  rw [O2.i fa fr, q1, if_neg (by decide), if_pos (by decide), if_neg (by decide)]
  simp only [O2.rr, O2.l, O2.j, if_neg q5.1, if_neg q6.1, if_pos x1, if_pos x2, if_neg a0, tn0, V0.2, wp_b1]
  refine wp_of (o_num O2) (fun h3 _ O3 => ?_)
  simp only [O3.rr, O3.l, O3.j, O3.i fa fr, q2, q3]
  refine wp_of (o_num O3) (fun h4 _ O4 => ?_)
  simp only [O4.rr, O4.l, O4.j, O4.i fa fr, q2, q3, e3]
  refine wp_of (o_num O4) (fun h5 _ O5 => ?_)
  simp only [O5.rr, O5.l, O5.j, O5.i fa fr, q2, q3, if_neg q5.1, if_neg q6.1, if_pos x1, if_pos x2, wp_b1, V0.1, V0.2, e2]
  refine wp_of (o_num O5) (fun h6 _ O6 => ?_)
  refine wp_of (fa_48L (at0 := at0) (e := e) K' FU 1 h6 (Nat.le_refl _) q4.1 (by unfold FU; lia) (L := L ++ [2] ++ numL (hi 0) ++ numL dl ++ numL ((n : Int) - 1) ++ numL (hi 0 - lo 0)) ?_) (fun h7 _ O7 => ?_)
  · show OW h0 h6 a r at0 e (_ ++ [])
    rw [List.append_nil]; exact O6
  · rw [wp_some]
    unfold ackL
    simp only [List.append_assoc] at O7 ⊢
    exact O7
end
