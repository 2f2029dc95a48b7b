/-! spans: add -/
section
variable {p m : Nat} {F T X : Nat → Int} {a b c fr : Int} {h : Hp} {l lf : List Nat}
theorem enR_lt {lo a : Int} (e : ∀ k, k ∈ l → T k < a) (h : lo < a) : enR T lo l < a := by
  induction l generalizing lo with
  | nil => exact h
  | cons k l ih => exact ih (fun j hj => e j (List.mem_cons_of_mem _ hj)) (e k List.mem_cons_self)
theorem RnL.len' (R : RnL F T (-1) l) (hT : ∀ k, k ∈ l → T k ≤ 65536) : l.length < 40000 := by
  have := R.len (w := 65536) hT (by decide)
  omega
theorem enR_mem {lo : Int} : enR T lo l = lo ∨ ∃ k, k ∈ l ∧ enR T lo l = T k := by
  induction l generalizing lo with
  | nil => exact Or.inl rfl
  | cons k l ih =>
    right
    rcases ih (lo := T k) with z | ⟨j, hj, z⟩
    · exact ⟨k, List.mem_cons_self, z⟩
    · exact ⟨j, List.mem_cons_of_mem _ hj, z⟩
theorem c_sadd (P : SpP h p m fr F T X) (C : ChX X c l) (Cf : ChX X fr lf) (nd : (l ++ lf).Nodup) (mm : ∀ k, k ∈ l ++ lf → k < m) (R : RnL F T (-1) l) (hT : ∀ k, k ∈ l → T k ≤ 65536) (ab : 0 ≤ a ∧ a < b ∧ b ≤ 65536) (hm2 : lf = [] → m < 131072) (rN : hN h + spN h p ≤ CN) (rZ : hZ h + spZ h p ≤ CZ) :
    ∃ c' l' lf' m' fr' F' T' X' h', f_cSpans_add p c a b h = some (c', h') ∧ SpP h' p m' fr' F' T' X' ∧ ChX X' c' l' ∧ ChX X' fr' lf' ∧ (l' ++ lf').Nodup ∧ (∀ k, k ∈ l' ++ lf' → k < m') ∧ RnL F' T' (-1) l' ∧ (∀ j, inS F' T' l' j ↔ inS F T l j ∨ (a ≤ j ∧ j < b)) ∧ (∀ k, k ∉ l → k ∉ lf → k < m → F' k = F k ∧ T' k = T k ∧ X' k = X k) ∧ (∀ k, k ∈ l' ++ lf' → k ∈ l ++ lf ∨ m ≤ k) ∧ m ≤ m' ∧ l'.length + lf'.length + m = l.length + lf.length + m' ∧ SpG p h h' ∧ hN h' + spN h' p ≤ hN h + spN h p ∧ hZ h' + spZ h' p ≤ hZ h + spZ h p := by
  have lb : ∀ k, k ∈ l → k < m := fun k hk => mm k (List.mem_append.2 (Or.inl hk))
  have ll := R.len' hT
  obtain ⟨FF, hF, F9⟩ : ∃ FF, FF = FU ∧ 200000 < FF := ⟨FU, rfl, by decide⟩
  obtain ⟨l1, l2, kk', v4', e1, e2, e3, e4, e5, e6, e7⟩ := c_sadd1 (a := a) (v1 := c) (v6 := a) (v7 := b) P l FF c (-1) C lb (by omega)
  subst e1
  rw [RnL.app] at R
  obtain ⟨R1, R2⟩ := R
  obtain ⟨nd1, nd2, nd12⟩ := List.nodup_append.1 nd
  obtain ⟨n1, n2, n12⟩ := List.nodup_append.1 nd1
  have R2' := R2
  have l2T : ∀ k, k ∈ l2 → a ≤ T k := fun k hk => by
    rcases e6 with z | ⟨k0, l', z, q⟩
    · rw [z] at hk; cases hk
    · rw [z] at hk R2'
      rcases List.mem_cons.1 hk with y | y
      · rw [y]; exact q
      · have := (R2'.2.2).le k y; omega
  have en1 : enR T (-1) l1 < a := enR_lt e5 (by omega)
  have nd2f : (l2 ++ lf).Nodup := List.nodup_append.2 ⟨n2, nd2, fun x hx y hy => nd12 x (List.mem_append.2 (Or.inr hx)) y hy⟩
  rw [List.length_append] at ll
  obtain ⟨l3, l4, X1, fr1, low, high, kk2, h1, g1, g2, P1, C4, Cf1, gX, R4, ⟨w1, w2, w3⟩, gS, G1, s1⟩ := c_sadd2 (v1 := c) (v4 := v4') (lo := enR T (-1) l1) l2 FF kk' lf X fr a b h P e4 Cf nd2f (fun k hk => by
    rcases List.mem_append.1 hk with z | z
    · exact mm k (List.mem_append.2 (Or.inl (List.mem_append.2 (Or.inr z))))
    · exact mm k (List.mem_append.2 (Or.inr z))) R2 l2T en1 ab.2.1 (by omega)
  subst g1
  have sub3 : ∀ k, k ∈ l3.reverse ++ lf → k ∈ (l1 ++ (l3 ++ l4)) ++ lf := fun k hk => by
    rcases List.mem_append.1 hk with z | z
    · exact List.mem_append.2 (Or.inl (List.mem_append.2 (Or.inr (List.mem_append.2 (Or.inl (List.mem_reverse.1 z))))))
    · exact List.mem_append.2 (Or.inr z)
  obtain ⟨n3, n4, n34⟩ := List.nodup_append.1 n2
  -- disjointness of the four lists
  have d13 : ∀ k, k ∈ l1 → k ∉ l3 := fun k h1 h3 => n12 k h1 k (List.mem_append.2 (Or.inl h3)) rfl
  have d14 : ∀ k, k ∈ l1 → k ∉ l4 := fun k h1 h3 => n12 k h1 k (List.mem_append.2 (Or.inr h3)) rfl
  have d34 : ∀ k, k ∈ l3 → k ∉ l4 := fun k h1 h3 => n34 k h1 k h3 rfl
  have d1f : ∀ k, k ∈ l1 → k ∉ lf := fun k h1 h3 => nd12 k (List.mem_append.2 (Or.inl h1)) k h3 rfl
  have d3f : ∀ k, k ∈ l3 → k ∉ lf := fun k h1 h3 => nd12 k (List.mem_append.2 (Or.inr (List.mem_append.2 (Or.inl h1)))) k h3 rfl
  have d4f : ∀ k, k ∈ l4 → k ∉ lf := fun k h1 h3 => nd12 k (List.mem_append.2 (Or.inr (List.mem_append.2 (Or.inr h1)))) k h3 rfl
  have ndf : (l3.reverse ++ lf).Nodup := List.nodup_append.2 ⟨(List.reverse_perm l3).nodup_iff.2 n3, nd2, fun x hx y hy z => d3f x (List.mem_reverse.1 hx) (by rw [z]; exact hy)⟩
  have fr1b : fr1 = -1 ∨ (0 ≤ fr1 ∧ fr1 < m) := by
    cases hl : l3.reverse ++ lf with
    | nil => rw [hl] at Cf1; exact Or.inl Cf1
    | cons k l' =>
      rw [hl] at Cf1
      have := Cf1.1
      have hk := mm k (sub3 k (by rw [hl]; exact List.mem_cons_self))
      exact Or.inr ⟨by omega, by omega⟩
  obtain ⟨n, m', fr', h2, u1, u2, u3, P2, G2, rn2, rz2⟩ := c_smake (a := low) (b := high) (c := kk2) P1 fr1b (fun z => hm2 (List.append_eq_nil_iff.1 (ch_nil Cf1 z)).2) (by unfold spN at *; rw [s1.1, s1.2.2.1, s1.2.2.2]; exact rN) (by unfold spZ at *; rw [s1.2.1, s1.2.2.1, s1.2.2.2]; exact rZ)
  -- the node that is taken, and what is free behind it
  have free : ∃ lf', ChX (up1 X1 n kk2) fr' lf' ∧ n ∉ lf' ∧ lf'.Nodup ∧ (∀ k, k ∈ lf' → k ∈ l3.reverse ++ lf) ∧ (n ∈ l3.reverse ++ lf ∨ n = m) ∧ n < m' ∧ m ≤ m' ∧ lf'.length + m + 1 = l3.length + lf.length + m' ∧ (n ∈ l3.reverse ++ lf → m' = m) := by
    cases hl : l3.reverse ++ lf with
    | nil =>
      rw [hl] at Cf1
      have q := u2 Cf1
      refine ⟨[], q.2.2, (fun z => by cases z), List.nodup_nil, (fun k hk => by cases hk), Or.inr q.1, by omega, by omega, ?_, (fun z => by cases z)⟩
      have e := congrArg List.length hl
      rw [List.length_append, List.length_reverse] at e
      have e' : l3.length + lf.length = 0 := e
      show (0 : Nat) + m + 1 = _
      omega
    | cons k l' =>
      rw [hl] at Cf1 ndf
      have hne : fr1 ≠ -1 := by have := Cf1.1; omega
      have q := u3 hne
      have nk : n = k := by have := Cf1.1; omega
      have kl := (List.nodup_cons.1 ndf).1
      refine ⟨l', ?_, by rw [nk]; exact kl, (List.nodup_cons.1 ndf).2, fun j hj => List.mem_cons_of_mem _ hj, Or.inl (by rw [nk]; exact List.mem_cons_self), ?_, by omega, ?_, fun _ => q.2.1⟩
      · rw [q.2.2, nk]; exact Cf1.2.up kl
      · have hk := mm k (sub3 k (by rw [hl]; exact List.mem_cons_self))
        omega
      · have e := congrArg List.length hl
        rw [List.length_append, List.length_reverse, List.length_cons] at e
        omega
  obtain ⟨lf', f1, f2, f3, f4, f5, f6, f7, f8, f9⟩ := free
  have nn1 : n ∉ l1 := fun z => by
    rcases f5 with y | y
    · rcases List.mem_append.1 y with x | x
      · exact d13 n z (List.mem_reverse.1 x)
      · exact d1f n z x
    · have := lb n (List.mem_append.2 (Or.inl z)); omega
  have nn4 : n ∉ l4 := fun z => by
    rcases f5 with y | y
    · rcases List.mem_append.1 y with x | x
      · exact d34 n (List.mem_reverse.1 x) z
      · exact d4f n z x
    · have := lb n (List.mem_append.2 (Or.inr (List.mem_append.2 (Or.inr z)))); omega
  -- the lists behind it all
  have c1' : ChP (up1 X1 n kk2) c l1 kk' := (e3.cg (fun k hk => gX k (d13 k hk))).up nn1
  have c4' : ChX (up1 X1 n kk2) kk2 l4 := C4.up nn4
  have cn : ChX (up1 X1 n kk2) (n : Int) (n :: l4) := ⟨rfl, by rw [up1_eq]; exact c4'⟩
  have rn : RnL (up1 F n low) (up1 T n high) (-1) (l1 ++ (n :: l4)) := by
    rw [RnL.app]
    refine ⟨R1.cg (fun k hk => ⟨up1_ne (fun z => nn1 (by rw [← z]; exact hk)), up1_ne (fun z => nn1 (by rw [← z]; exact hk))⟩), ?_⟩
    rw [enR_cg (T := T) (fun k hk => up1_ne (fun z => nn1 (by rw [← z]; exact hk)))]
    refine ⟨by rw [up1_eq]; exact w1, by rw [up1_eq, up1_eq]; exact w3, ?_⟩
    rw [up1_eq]
    exact R4.cg (fun k hk => ⟨up1_ne (fun z => nn4 (by rw [← z]; exact hk)), up1_ne (fun z => nn4 (by rw [← z]; exact hk))⟩)
  have si : ∀ j, inS (up1 F n low) (up1 T n high) (l1 ++ (n :: l4)) j ↔ inS F T (l1 ++ (l3 ++ l4)) j ∨ (a ≤ j ∧ j < b) := fun j => by
    rw [inS_app, inS_app, inS_app, inS_cons, up1_eq, up1_eq, gS j, inS_cg (F := F) (T := T) (fun k hk => ⟨up1_ne (fun z => nn1 (by rw [← z]; exact hk)), up1_ne (fun z => nn1 (by rw [← z]; exact hk))⟩), inS_cg (F := F) (T := T) (fun k hk => ⟨up1_ne (fun z => nn4 (by rw [← z]; exact hk)), up1_ne (fun z => nn4 (by rw [← z]; exact hk))⟩)]
    constructor
    · rintro (z | (z | z) | z)
      · exact Or.inl (Or.inl z)
      · exact Or.inr z
      · exact Or.inl (Or.inr (Or.inl z))
      · exact Or.inl (Or.inr (Or.inr z))
    · rintro ((z | z | z) | z)
      · exact Or.inl z
      · exact Or.inr (Or.inl (Or.inr z))
      · exact Or.inr (Or.inr z)
      · exact Or.inr (Or.inl (Or.inl z))
  have ndn : ((l1 ++ (n :: l4)) ++ lf').Nodup := by
    refine List.nodup_append.2 ⟨List.nodup_append.2 ⟨n1, List.nodup_cons.2 ⟨nn4, n4⟩, fun x hx y hy z => ?_⟩, f3, fun x hx y hy z => ?_⟩
    · rcases List.mem_cons.1 hy with q | q
      · exact nn1 (by rw [← q, ← z]; exact hx)
      · exact d14 x hx (by rw [z]; exact q)
    · subst z
      have hy' := f4 x hy
      rcases List.mem_append.1 hx with q | q
      · rcases List.mem_append.1 hy' with w | w
        · exact d13 x q (List.mem_reverse.1 w)
        · exact d1f x q w
      · rcases List.mem_cons.1 q with q | q
        · exact f2 (by rw [← q]; exact hy)
        · rcases List.mem_append.1 hy' with w | w
          · exact d34 x (List.mem_reverse.1 w) q
          · exact d4f x q w
  have mn : ∀ k, k ∈ (l1 ++ (n :: l4)) ++ lf' → (k ∈ (l1 ++ (l3 ++ l4)) ++ lf ∨ m ≤ k) ∧ k < m' := fun k hk => by
    have key : k ∈ (l1 ++ (l3 ++ l4)) ++ lf → (k ∈ (l1 ++ (l3 ++ l4)) ++ lf ∨ m ≤ k) ∧ k < m' := fun z => ⟨Or.inl z, by have := mm k z; omega⟩
    rcases List.mem_append.1 hk with q | q
    · rcases List.mem_append.1 q with q | q
      · exact key (List.mem_append.2 (Or.inl (List.mem_append.2 (Or.inl q))))
      · rcases List.mem_cons.1 q with q | q
        · rw [q]
          rcases f5 with z | z
          · exact ⟨Or.inl (sub3 n z), f6⟩
          · exact ⟨Or.inr (by omega), f6⟩
        · exact key (List.mem_append.2 (Or.inl (List.mem_append.2 (Or.inr (List.mem_append.2 (Or.inr q))))))
    · exact key (sub3 k (f4 k q))
  have unch : ∀ k, k ∉ l1 ++ (l3 ++ l4) → k ∉ lf → k < m → up1 F n low k = F k ∧ up1 T n high k = T k ∧ up1 X1 n kk2 k = X k := fun k q1 q2 q3 => by
    have kn : k ≠ n := fun z => by
      rcases f5 with y | y
      · rcases List.mem_append.1 y with x | x
        · exact q1 (List.mem_append.2 (Or.inr (List.mem_append.2 (Or.inl (by rw [z]; exact List.mem_reverse.1 x)))))
        · exact q2 (by rw [z]; exact x)
      · omega
    refine ⟨up1_ne kn, up1_ne kn, ?_⟩
    rw [up1_ne kn]
    exact gX k (fun z => q1 (List.mem_append.2 (Or.inr (List.mem_append.2 (Or.inl z)))))
  have len : (l1 ++ (n :: l4)).length + lf'.length + m = (l1 ++ (l3 ++ l4)).length + lf.length + m' := by
    simp only [List.length_append, List.length_cons]; omega
  have rooms : hN h2 + spN h2 p ≤ hN h + spN h p ∧ hZ h2 + spZ h2 p ≤ hZ h + spZ h p := by
    unfold spN spZ at *
    rw [s1.1, s1.2.2.1, s1.2.2.2] at rn2
    rw [s1.2.1, s1.2.2.1, s1.2.2.2] at rz2
    exact ⟨rn2, rz2⟩
  have run : f_cSpans_add p c a b h = f_cSpans_add_b113 p c v4' kk2 low high h1 := by
    unfold f_cSpans_add
    rw [← hF, e2, ← hF, g2]
  rw [run]
  unfold f_cSpans_add_b113
  rw [u1, b2_some]
  rcases e7 with ⟨q1, q2⟩ | ⟨l0, q, q1, q2⟩
  · rw [q2, if_neg (fun z => z rfl)]
    subst q1
    exact ⟨(n : Int), n :: l4, lf', m', fr', _, _, _, h2, rfl, P2, cn, f1, ndn, fun k hk => (mn k hk).2, rn, si, unch, fun k hk => (mn k hk).1, f7, len, G1.tr G2, rooms.1, rooms.2⟩
  · have qm : q ∈ l1 := by rw [q1]; exact List.mem_append.2 (Or.inr List.mem_cons_self)
    have q0 : q ∉ l0 := fun z => by rw [q1] at n1; exact (List.nodup_append.1 n1).2.2 q z q List.mem_cons_self rfl
    have qlt : q < m' := by have := lb q (List.mem_append.2 (Or.inl qm)); omega
    obtain ⟨y0, y1, y2, yi, yv⟩ := P2.i
    have xq := P2.xk qlt
    have qn : q ≠ n := fun z => nn1 (by rw [← z]; exact qm)
    have ql4 : q ∉ l4 := d14 q qm
    have qf : q ∉ lf' := fun z => by
      rcases List.mem_append.1 (f4 q z) with w | w
      · exact d13 q qm (List.mem_reverse.1 w)
      · exact d1f q qm w
    rw [q2, if_pos (show (q : Int) ≠ -1 by omega), if_neg y2, if_pos xq.2.2, Int.toNat_natCast, lt1_eq]
    have cl1 : ChP (up1 (up1 X1 n kk2) q (n : Int)) c l1 (n : Int) := by rw [q1] at c1' ⊢; exact c1'.set q0
    have cn' : ChX (up1 (up1 X1 n kk2) q (n : Int)) (n : Int) (n :: l4) := cn.up (fun z => by
      rcases List.mem_cons.1 z with w | w
      · exact qn w
      · exact ql4 w)
    refine ⟨c, l1 ++ (n :: l4), lf', m', fr', _, _, _, _, rfl, P2.sX qlt, cl1.app cn', f1.up qf, ndn, fun k hk => (mn k hk).2, rn, si, fun k z1 z2 z3 => ?_, fun k hk => (mn k hk).1, f7, len, (G1.tr G2).tr (SpG.sI (Or.inr (Or.inr (Or.inr rfl)))), rooms.1, rooms.2⟩
    have := unch k z1 z2 z3
    refine ⟨this.1, this.2.1, ?_⟩
    rw [up1_ne (fun z => z1 (List.mem_append.2 (Or.inl (by rw [z]; exact qm))))]; exact this.2.2
end
