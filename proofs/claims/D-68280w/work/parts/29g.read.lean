/-! reading: a frame of the class, whole (2) -/
section
variable {h : Hp} {F I r e : Nat} {B : Nat → Int} {k : Int}
theorem c_fl183 {kind v : Int} (hk : hI h F 0 = kind) (n0 : kind ≠ 0) (n1 : kind ≠ 1) (n2 : kind ≠ 2) (n3 : kind ≠ 3) (n8 : kind ≠ 8) (n24 : kind ≠ 24) (n26 : kind ≠ 26) (n27 : kind ≠ 27) (n30 : kind ≠ 30) : f_cFrame_fields F I v h = f_cFrame_fields_b183 F I h := by
  unfold f_cFrame_fields
  simp only [hk, n0, n1, n2, n3, n8, n24, n26, n27, n30, if_false, ite_self]
/-- all but padding and acknowledgements -/
theorem c_plain {ho : Hp} {p : Nat} (L : CFr ho h F I r e B (frK k) (p, false, 0, 0, 0, 0, 0)) (k0 : 0 ≤ k ∧ k ≤ 30) (n0 : k ≠ 0) (n2 : k ≠ 2) (n3 : k ≠ 3) : wp (f_cFrame_fields F I k h) (fldQ ho F I r e B (frK k) (frS B e k p)) := by
  have s1 : ∀ kd : Int, kd = 1 ∨ kd = 30 → CFr ho h F I r e B kd (p, false, 0, 0, 0, 0, 0) → wp (f_cFrame_fields F I k h) (fldQ ho F I r e B kd (p, false, 0, 0, 0, 0, 0)) := fun kd hk L => by
    have : fOk kd (p, false, 0, 0, 0, 0, 0) := by rcases hk with hk | hk <;> rw [hk] <;> simp [fOk]
    unfold f_cFrame_fields
    have hk0 := L.k
    rcases hk with hk | hk
    · rw [hk] at hk0
      simp only [hk0, Int.reduceEq, if_false, if_true]
      rw [wp_some]
      exact ⟨L, Or.inr rfl, fun _ => ⟨fun _ => this, fun _ => rfl⟩⟩
    · rw [hk] at hk0
      simp only [hk0, Int.reduceEq, if_false, if_true]
      rw [wp_some]
      exact ⟨L, Or.inr rfl, fun _ => ⟨fun _ => this, fun _ => rfl⟩⟩
  unfold frS
  by_cases c1 : k = 1 ∨ k = 30
  · rw [if_pos c1]
    have e1 : frK k = k := by unfold frK; rw [if_neg (by lia)]
    rw [e1] at L ⊢
    exact s1 k c1 L
  · rw [if_neg c1]
    by_cases c2 : k = 26 ∨ k = 27
    · rw [if_pos c2]
      have e1 : frK k = k := by unfold frK; rw [if_neg (by lia)]
      rw [e1] at L ⊢
      have := c_b171 L c2
      unfold f_cFrame_fields
      have hk0 := L.k
      rcases c2 with c2 | c2
      · simp only [hk0, c2, Int.reduceEq, if_false, if_true]; rw [c2] at this; exact this
      · simp only [hk0, c2, Int.reduceEq, if_false, if_true]; rw [c2] at this; exact this
    · rw [if_neg c2]
      by_cases c3 : k = 24
      · rw [if_pos c3]
        have e1 : frK k = 24 := by unfold frK; rw [if_neg (by lia)]; exact c3
        rw [e1] at L ⊢
        unfold f_cFrame_fields
        have hk0 := L.k
        simp only [hk0, Int.reduceEq, if_false, if_true]
        refine wp_b2o (c_names L) (fun x h1 _ q => ?_)
        exact wp_01 q.2.1 q
      · rw [if_neg c3]
        by_cases c4 : 8 ≤ k ∧ k < 16
        · rw [if_pos c4]
          have e1 : frK k = 8 := by unfold frK; rw [if_pos c4]
          rw [e1] at L ⊢
          unfold f_cFrame_fields
          have hk0 := L.k
          simp only [hk0, Int.reduceEq, if_false, if_true]
          refine wp_b2o (c_streams L (k := k) (by lia) (by lia)) (fun x h1 _ q => ?_)
          exact wp_01 q.2.1 q
        · rw [if_neg c4]
          have e1 : frK k = k := by unfold frK; rw [if_neg c4]
          rw [e1] at L ⊢
          rw [c_fl183 L.k n0 (by lia) n2 n3 (by lia) c3 (by lia) (by lia) (by lia)]
          by_cases c5 : k = 4
          · rw [if_pos c5]; rw [c5] at L ⊢; exact c_b183_4 L
          · rw [if_neg c5]
            by_cases c6 : k = 6
            · rw [if_pos c6]; rw [c6] at L ⊢; exact c_b183_6 L
            · rw [if_neg c6]
              by_cases c7 : k = 7
              · rw [if_pos c7]; rw [c7] at L ⊢; exact c_b183_7 L
              · rw [if_neg c7]
                have := c_b183 L c5 c6 c7
                by_cases d1 : k = 28
                · rw [if_pos d1]; rw [if_pos (by lia), if_pos (by lia)] at this; exact this
                · rw [if_neg d1]
                  by_cases d2 : k = 29
                  · rw [if_pos d2]; rw [if_pos (by lia), if_neg (by lia)] at this; exact this
                  · rw [if_neg d2]
                    rw [if_neg (by lia)] at this
                    by_cases d3 : k = 5 ∨ k = 17 ∨ k = 21
                    · rw [if_pos d3]; rw [if_pos (by lia)] at this; exact this
                    · rw [if_neg d3]; rw [if_neg (by lia)] at this; exact this
end
