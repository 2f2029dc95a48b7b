/-! what came: a block is given back; all are given back -/
section
variable {o r oth k : Nat} {h : Hp} {s : BSt} {l' : List Nat}
theorem dr_n {a b c : Nat} (h : a = b + (c + 1) + 0) : a = b + c + 1 := by omega
theorem c_bdrop (r0 : r ≠ 0) (rd : ¬ BlD h o r) (rN' : r < hN h) (B : BI h o oth r s) (hl : s.l = k :: l') :
    ∃ h', f_cBlocks_drop o r h = some h' ∧ BI h' o oth r ((s.m, (k : Int)), s.D, s.M, s.I, up1 s.X k s.fr, l', k :: s.lf) ∧ (∀ y, y ≠ 7 → hI h' r y = hI h r y) ∧ BK o r h h' s ((s.m, (k : Int)), s.D, s.M, s.I, up1 s.X k s.fr, l', k :: s.lf) := by
  have kl : k ∈ s.l := by rw [hl]; exact List.mem_cons_self
  have km : k < s.m := B.1.2.2.2.1 k (List.mem_append.2 (Or.inl kl))
  have xk := B.1.1.xk km
  obtain ⟨yz, yi, yv, yd⟩ := B.1.1.i
  obtain ⟨P, Cf, nd, mm, R, c6, me⟩ := B.1
  have C := B.2
  rw [hl] at C nd mm R c6 me
  have e7 : hI h r 7 = (k : Int) := C.1
  have nk := List.nodup_cons.1 (show (k :: (l' ++ s.lf)).Nodup from nd)
  have nk1 : k ∉ l' := fun z => nk.1 (List.mem_append.2 (Or.inl z))
  have nk2 : k ∉ s.lf := fun z => nk.1 (List.mem_append.2 (Or.inr z))
  have ro : r ≠ o := fun z => rd (Or.inl z)
  have r3 : r ≠ hR h o 3 := fun z => rd (Or.inr (Or.inr (Or.inr (Or.inr z))))
  have P1 := P.ot (a := r) (y := 7) (v := s.X k) rd
  have P2 := P1.sX (k := k) (v := s.fr) km
  have P3 := P2.sI5 (v := (k : Int))
  have gr : hR (sI h r 7 (s.X k)) o 3 = hR h o 3 := rfl
  have gl : ∀ x, ln (sI h r 7 (s.X k)) x = ln h x := fun _ => rfl
  have ef : hI (sI h r 7 (s.X k)) o 5 = s.fr := P1.2.1.2
  unfold f_cBlocks_drop
  rw [if_neg r0, lt1_eq, e7, if_neg yz.2.2.2, if_pos xk.2.2, Int.toNat_natCast, (yv k km).2.2, lt1_eq, gr, gl, if_neg yz.2.2.2, if_pos xk.2.2, lt1_eq, ef, lt1_eq]
  rw [gr] at P3
  refine ⟨_, rfl, ⟨⟨P3, ⟨rfl, ?_⟩, (List.perm_middle.nodup_iff).2 nd, fun j hj => ?_, ?_, fun j hj => c6 j (List.mem_cons_of_mem _ hj), ?_⟩, ?_⟩, fun y hy => ?_, ⟨fun j j1 j2 j3 => ?_, Nat.le_refl _, fun j hj => ?_, ?_, fun x z => Or.inl z, Nat.le_refl _, Nat.le_refl _⟩⟩
  · show ChX (up1 s.X k s.fr) (up1 s.X k s.fr k) s.lf
    rw [up1_eq]; exact Cf.up nk2
  · rcases List.mem_append.1 hj with z | z
    · exact mm j (List.mem_append.2 (Or.inl (List.mem_cons_of_mem _ z)))
    · rcases List.mem_cons.1 z with z | z
      · rw [z]; exact km
      · exact mm j (List.mem_append.2 (Or.inr z))
  · show InL s.I (-1) l'
    cases l' with
    | nil => trivial
    | cons j l'' =>
      have a := R.1
      have b := R.2.1
      exact ⟨Int.lt_trans a b, R.2.2⟩
  · show s.m = oth + l'.length + (k :: s.lf).length
    rw [List.length_cons] at me ⊢
    lia
  · show ChX (up1 s.X k s.fr) (hI (sI (sI (sI h r 7 (s.X k)) (hR h o 3) k s.fr) o 5 (k : Int)) r 7) l'
    rw [hI_sI, if_neg (fun z => ro z.1), hI_sI, if_neg (fun z => r3 z.1), hI_sI, if_pos ⟨rfl, rfl⟩]
    exact C.2.up nk1
  · rw [hI_sI, if_neg (fun z => ro z.1), hI_sI, if_neg (fun z => r3 z.1), hI_sI, if_neg (fun z => hy z.2)]
  · exact ⟨rfl, rfl, up1_ne (fun z => j1 (by rw [z]; exact kl)), fun _ _ => rfl⟩
  · rw [hl]
    refine Or.inl ?_
    rcases List.mem_append.1 hj with z | z
    · exact List.mem_append.2 (Or.inl (List.mem_cons_of_mem _ z))
    · rcases List.mem_cons.1 z with z | z
      · rw [z]; exact List.mem_append.2 (Or.inl List.mem_cons_self)
      · exact List.mem_append.2 (Or.inr z)
  · refine OnI.gf (C := fun x => BlD h o x ∨ x = r) (OnI.refl.s.s.s) (fun x y hx => ?_)
    rw [hI_sI, if_neg (fun z => hx (Or.inl (Or.inl z.1))), hI_sI, if_neg (fun z => hx (Or.inl (Or.inr (Or.inr (Or.inr (Or.inr z.1)))))), hI_sI, if_neg (fun z => hx (Or.inr z.1))]
/-- all blocks of a stream are given back -/
theorem c_bclear {n : Nat} (r0 : r ≠ 0) (rd : ¬ BlD h o r) (rN' : r < hN h) (B : BI h o oth r s) (hn : s.l.length < n) :
    ∃ (h' : Hp) (s' : BSt), f_cBlocks_clear_b0_lp n o r h = some h' ∧ BI h' o oth r s' ∧ s'.l = [] ∧ (∀ y, y ≠ 7 → hI h' r y = hI h r y) ∧ BK o r h h' s s' := by
  induction n generalizing h s with
  | zero => exact absurd hn (Nat.not_lt_zero _)
  | succ n ih =>
    unfold f_cBlocks_clear_b0_lp f_cBlocks_clear_b0
    rw [if_neg r0]
    cases hl : s.l with
    | nil =>
      have C := B.2
      rw [hl] at C
      rw [if_pos (show hI h r 7 = -1 from C)]
      exact ⟨h, s, rfl, B, hl, fun _ _ => rfl, BK.rf⟩
    | cons k l' =>
      have C := B.2
      rw [hl] at C
      rw [if_neg (show ¬ hI h r 7 = -1 by rw [C.1]; exact pl_n k)]
      obtain ⟨h1, u1, u2, u3, u4⟩ := c_bdrop r0 rd rN' B hl
      rw [u1, b1_some]
      have f1 := u4.nd rN' rd
      have hn' : l'.length < n := by rw [hl, List.length_cons] at hn; exact Nat.lt_of_succ_lt_succ hn
      obtain ⟨h2, s2, t1, t2, t3, t4, t5⟩ := ih f1.1 f1.2 u2 hn'
      exact ⟨h2, s2, t1, t2, t3, fun y hy => by rw [t4 y hy, u3 y hy], u4.tr t5⟩
end
