/-! what is written: copy, whole -/
section
variable {h : Hp} {o u np : Nat} {A Z X B : Nat → Int} {s to fr n N : Nat} {e : Nat → Nat} {l : List Nat} {c la : Int}
theorem c_stcopy (P : SoP h o u np A Z X B) (S : StS A Z X np c la N e l) (s0 : s ≠ 0) (h4 : hI h s 4 = c) (t0 : to ≠ 0) (td : ¬ SoD h o to) (tl : n ≤ ln h to) (hb : fr + n ≤ N) (Nb : N ≤ 65536) : ∃ h', f_cStore_copy o s (fr : Int) to (n : Int) h = some h' ∧ (∀ i, i < n → hI h' to i = B (e (fr + i))) ∧ (∀ i, n ≤ i → hI h' to i = hI h to i) ∧ FX (fun x => x = to) h h' := by
  obtain ⟨a1, a2, a3, a4, a5, a6, a7⟩ := S
  have npb := P.2.2.2.1.2
  obtain ⟨F, hF, F9⟩ : ∃ F, F = FU ∧ 1000 < F := ⟨FU, rfl, by decide⟩
  obtain ⟨h', q1, q2, q3, q4⟩ := c_stcopyL (to := to) (fr := fr) (n := n) (N := N) (e := e) t0 hb Nb l F 0 0 c h P td tl a1 a4 a5 (by omega) (Nat.zero_le _) (Nat.zero_le _) (by omega)
  refine ⟨h', ?_, fun i hi => q2 i (Nat.zero_le _) hi, fun i hi => q3 i (Or.inr hi), q4⟩
  unfold f_cStore_copy
  rw [if_neg s0, lt1_eq, h4, ← hF]
  exact q1
end
