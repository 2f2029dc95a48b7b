/-! writing: headers of the class -/
def hwL (k bits : Int) (N : List Int) (B : List Int) (len : Int) : List Int :=
  if k = 4 then [iOr 64 bits] ++ N else [iOr (iOr 192 (iShl k 4)) bits] ++ (byL 1 4 ++ ([8] ++ (N ++ ([8] ++ (B ++ ((if k = 0 then numL 0 else []) ++ szL len 2))))))
section
variable {h0 h : Hp} {a r at0 e x : Nat} {L : List Int} {k bits len : Int}
theorem c_hwrite (O : OW h0 h a r at0 e L) (a0 : a ≠ 0) (x0 : x ≠ 0) (xr : x ≠ r) (xa : x ≠ a) (hx : ln h0 x = 24) (hb : ∀ j, j < 24 → -128 ≤ hI h0 x j ∧ hI h0 x j < 128) : wp (f_cHeader_write a k bits x 8 8 0 len h) (fun h' => OW h0 h' a r at0 e (L ++ hwL k bits (lB h0 x 0 8) (lB h0 x 8 8) len)) := by
  unfold f_cHeader_write hwL
  have row : ∀ {h1 L1 o n}, OW h0 h1 a r at0 e L1 → o + n ≤ 24 → wp (f_cBytes_putRow a x (o : Nat) (n : Nat) h1) (fun h' => OW h0 h' a r at0 e (L1 ++ lB h0 x o n)) := fun {h1 L1 o n} O1 on => o_row O1 x0 xr xa (by lia) (by lia) (fun j hj => hb _ (by lia))
  by_cases c4 : k = 4
  · simp only [if_pos c4]
    rw [if_neg (fun z => z c4), if_neg a0]
    refine wp_b1o (o_put O) (fun h2 _ O2 => ?_)
    refine wp_b1o (row (o := 0) (n := 8) O2 (by decide)) (fun h3 _ O3 => ?_)
    rw [wp_some, ← List.append_assoc]; exact O3
  · simp only [if_neg c4]
    rw [if_pos c4, if_neg a0]
    refine wp_b1o (o_put O) (fun h2 _ O2 => ?_)
    refine wp_b1o (o_many (v := 1) (n := 4) O2 ⟨by decide, by decide⟩ (by decide)) (fun h3 _ O3 => ?_)
    refine wp_b1o (o_put O3) (fun h4 _ O4 => ?_)
    refine wp_b1o (row (o := 0) (n := 8) O4 (by decide)) (fun h5 _ O5 => ?_)
    refine wp_b1o (o_put O5) (fun h6 _ O6 => ?_)
    refine wp_b1o (row (o := 8) (n := 8) O6 (by decide)) (fun h7 _ O7 => ?_)
    unfold f_cHeader_write_b93
    by_cases c0 : k = 0
    · simp only [if_pos c0]
      rw [if_neg (fun z => z c0)]
      refine wp_b1o (o_num O7) (fun h8 _ O8 => ?_)
      rw [show w32 ((8 : Int) + 8) = ((16 : Nat) : Int) from rfl]
      refine wp_b1o (row (o := 16) (n := 0) O8 (by decide)) (fun h9 _ O9 => ?_)
      rw [if_neg a0]
      refine wp_b1o (o_sized (n := 2) O9 (by decide)) (fun h10 _ O10 => ?_)
      rw [wp_some]
      have z : lB h0 x 16 0 = [] := rfl
      rw [z] at O10
      simp only [List.append_assoc, List.append_nil, List.nil_append] at O10 ⊢
      exact O10
    · simp only [if_neg c0]
      rw [if_pos c0, if_neg a0]
      refine wp_b1o (o_sized (n := 2) O7 (by decide)) (fun h8 _ O8 => ?_)
      rw [wp_some]
      simp only [List.append_assoc, List.append_nil, List.nil_append] at O8 ⊢
      exact O8
/-- how many bytes a number is cut to: class and model alike for what can be sent -/
theorem c_bytesOf {n t : Int} (h1 : -1 ≤ t ∧ t < n ∧ n ≤ 4096) : ∃ v, f_cCounting_bytesOf n t h = some (v, h) ∧ v ≤ 2 ∧ 1 ≤ v := by
  unfold f_cCounting_bytesOf
  have w : w64 (n - t) = n - t := w64_id ⟨by lia, by lia⟩
  simp only [lt1_eq, w]
  by_cases c : n - t ≤ 128
  · exact ⟨1, by rw [if_neg (by lia)], by decide, by decide⟩
  · exact ⟨2, by rw [if_pos (by lia), if_neg (by lia)], by decide, by decide⟩
end
