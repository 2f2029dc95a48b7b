/-! what came: what is left behind a block given back; the byte that is read next -/
section
variable {o r oth k : Nat} {h : Hp} {s : BSt} {S : Nat → Prop} {W : Nat → Int} {l' : List Nat}
theorem BS_drop {m' : Nat} {fr' : Int} {X' : Nat → Int} {lf' : List Nat} (B : BI h o oth r s) (Q : BS s S W) (hl : s.l = k :: l') : BS ((m', fr'), s.D, s.M, s.I, X', l', lf') (fun q => S q ∧ s.I k ≠ ((q / 64 : Nat) : Int)) W := by
  have inj := B.1.2.2.2.2.1.inj
  have nd := B.1.2.2.1
  rw [hl] at nd inj
  have nk := List.nodup_cons.1 (show (k :: (l' ++ s.lf)).Nodup from nd)
  refine ⟨fun q => ?_, fun j hj b hb bit => Q.2 j (by rw [hl]; exact List.mem_cons_of_mem _ hj) b hb bit⟩
  constructor
  · rintro ⟨z, w⟩
    obtain ⟨j, j1, j2, j3⟩ := (Q.1 q).1 z
    rw [hl] at j1
    rcases List.mem_cons.1 j1 with y | y
    · rw [y] at j2; exact absurd j2 w
    · exact ⟨j, y, j2, j3⟩
  · rintro ⟨j, j1, j2, j3⟩
    refine ⟨(Q.1 q).2 ⟨j, by rw [hl]; exact List.mem_cons_of_mem _ j1, j2, j3⟩, fun z => ?_⟩
    have e : j = k := inj j k (List.mem_cons_of_mem _ j1) List.mem_cons_self (Eq.trans j2 z.symm)
    exact nk.1 (List.mem_append.2 (Or.inl (by rw [← e]; exact j1)))
theorem BS_head {p : Nat} (B : BI h o oth r s) (Q : BS s S W) (lo : ∀ j, j ∈ s.l → ((p / 64 : Nat) : Int) ≤ s.I j) (Sp : S p) : ∃ (k : Nat) (l' : List Nat), s.l = k :: l' ∧ hI h r 7 = (k : Int) ∧ s.I k = ((p / 64 : Nat) : Int) ∧ s.D (64 * k + p % 64) = W p := by
  obtain ⟨j, j1, j2, j3⟩ := (Q.1 p).1 Sp
  have R := B.1.2.2.2.2.1
  have C := B.2
  cases hl : s.l with
  | nil => rw [hl] at j1; cases j1
  | cons k l' =>
    rw [hl] at j1 R C
    have lk := lo k (by rw [hl]; exact List.mem_cons_self)
    have e : j = k := by
      rcases List.mem_cons.1 j1 with y | y
      · exact y
      · have := R.2.gt j y
        rw [j2] at this
        exact absurd this (Int.not_lt.2 lk)
    have kl : k ∈ s.l := by rw [hl]; exact List.mem_cons_self
    rw [e] at j2 j3
    refine ⟨k, l', rfl, C.1, j2, ?_⟩
    rw [Q.2 k kl (p % 64) (Nat.mod_lt _ (by decide)) j3, j2, Int.toNat_natCast, Nat.div_add_mod]
end
