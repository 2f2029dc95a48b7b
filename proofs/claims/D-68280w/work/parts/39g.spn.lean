/-! spans: cut, all of it -/
section
variable {p : Nat} {a b : Int}
theorem SpI.frb {h : Hp} {m : Nat} {fr : Int} {F T X : Nat → Int} {l lf : List Nat} (I : SpI h p m fr F T X l lf) : fr = -1 ∨ (0 ≤ fr ∧ fr < m) := by
  obtain ⟨P, Cf, nd, mm, R⟩ := I
  cases lf with
  | nil => exact Or.inl Cf
  | cons k l' =>
    have := Cf.1
    have := mm k (List.mem_append.2 (Or.inr List.mem_cons_self))
    exact Or.inr ⟨by omega, by omega⟩
/-- a node is taken: what is free behind it -/
theorem sp_free {fr fr' v : Int} {n m m' : Nat} {X : Nat → Int} {lf : List Nat} (Cf : ChX X fr lf) (nd : lf.Nodup) (mm : ∀ k, k ∈ lf → k < m) (u2 : fr = -1 → n = m ∧ m' = m + 1 ∧ fr' = -1) (u3 : fr ≠ -1 → (n : Int) = fr ∧ m' = m ∧ fr' = X n) : ∃ lf', ChX (up1 X n v) fr' lf' ∧ n ∉ lf' ∧ lf'.Nodup ∧ (∀ k, k ∈ lf' → k ∈ lf) ∧ (n ∈ lf ∨ n = m) ∧ n < m' ∧ m ≤ m' ∧ lf'.length + m + 1 = lf.length + m' := by
  cases lf with
  | nil =>
    have q := u2 Cf
    refine ⟨[], q.2.2, (fun z => by cases z), List.nodup_nil, (fun k hk => by cases hk), Or.inr q.1, by omega, by omega, ?_⟩
    show (0 : Nat) + m + 1 = 0 + m'
    omega
  | cons k l' =>
    have q := u3 (by have := Cf.1; omega)
    have nk : n = k := by have := Cf.1; omega
    have kl := (List.nodup_cons.1 nd).1
    refine ⟨l', ?_, by rw [nk]; exact kl, (List.nodup_cons.1 nd).2, fun j hj => List.mem_cons_of_mem _ hj, Or.inl (by rw [nk]; exact List.mem_cons_self), ?_, by omega, ?_⟩
    · rw [q.2.2, nk]; exact Cf.2.up kl
    · have hk := mm k List.mem_cons_self
      omega
    · rw [List.length_cons]; omega
theorem c_scutL (ab : 0 ≤ a ∧ a < b) : ∀ (l2 : List Nat) (f m : Nat) (l1 lf : List Nat) (kk v4 v5 fr : Int) (F T X : Nat → Int) (h : Hp), SpI h p m fr F T X (l1 ++ l2) lf → ChP X v4 l1 kk → ChX X kk l2 → ((l1 = [] ∧ v5 = -1) ∨ ∃ (l0 : List Nat) (q : Nat), l1 = l0 ++ [q] ∧ v5 = (q : Int)) → (∀ k, k ∈ l1 → T k ≤ a) → (lf = [] → m < 131072) → hN h + spN h p ≤ CN → hZ h + spZ h p ≤ CZ → l2.length + 1 < f →
    ∃ c' h', f_cSpans_cut_b9_lp f p a b v4 v5 kk h = some (c', h') ∧ SpO h h' p m F T X (l1 ++ l2) lf (fun j => inS F T (l1 ++ l2) j ∧ ¬ (a ≤ j ∧ j < b)) c' := by
  intro l2
  induction l2 with
  | nil =>
    intro f m l1 lf kk v4 v5 fr F T X h I C1 C2 hv t1 hm rN rZ hf
    obtain ⟨f, rfl⟩ : ∃ f', f = f' + 1 := ⟨f - 1, by omega⟩
    refine ⟨v4, h, c_scutE I.1 C2 (fun k hk => by cases hk) (fun k hk => by cases hk), l1 ++ [], lf, m, fr, F, T, X, I, C1.app C2, fun j => ⟨fun z => ⟨z, fun y => ?_⟩, fun z => z.1⟩, fun _ _ _ _ => ⟨rfl, rfl, rfl⟩, fun k hk => Or.inl hk, Nat.le_refl _, rfl, SpG.rf, Nat.le_refl _, Nat.le_refl _⟩
    rw [List.append_nil] at z
    obtain ⟨k, hk, q⟩ := z
    have := t1 k hk; omega
  | cons k l ih =>
    intro f m l1 lf kk v4 v5 fr F T X h I C1 C2 hv t1 hm rN rZ hf
    obtain ⟨f, rfl⟩ : ∃ f', f = f' + 2 := ⟨f - 2, by omega⟩
    rw [List.length_cons] at hf
    obtain ⟨P, Cf, nd, mm, R⟩ := id I
    obtain ⟨ek, C2'⟩ := C2
    obtain ⟨k1, k2, kf, n1, n2, nf, d1, d2⟩ := nod3 nd
    have hk : k < m := mm k (mem3.2 (Or.inr (Or.inl rfl)))
    obtain ⟨R1, r1, r2, r3⟩ := RnL.app.1 R
    have t2 : ∀ j, j ∈ l → T k < F j ∧ F j < T j := fun j hj => ⟨(r3.le j hj).1, (r3.le j hj).2.1⟩
    have mml : ∀ j, j ∈ l → j < m := fun j hj => mm j (mem3.2 (Or.inr (Or.inr (Or.inl hj))))
    by_cases cb : b ≤ F k
    · -- nothing more
      refine ⟨v4, h, c_scutE (l2 := k :: l) I.1 ⟨ek, C2'⟩ (fun j hj => ?_) (fun j hj => ?_), l1 ++ (k :: l), lf, m, fr, F, T, X, I, C1.app ⟨ek, C2'⟩, fun j => ⟨fun z => ⟨z, fun y => ?_⟩, fun z => z.1⟩, fun _ _ _ _ => ⟨rfl, rfl, rfl⟩, fun k hk => Or.inl hk, Nat.le_refl _, rfl, SpG.rf, Nat.le_refl _, Nat.le_refl _⟩
      · rcases List.mem_cons.1 hj with q | q
        · rw [q]; exact hk
        · exact mml j q
      · rcases List.mem_cons.1 hj with q | q
        · rw [q]; exact cb
        · have := t2 j q; omega
      · rw [inS_app, inS_cons] at z
        rcases z with ⟨i, hi, q⟩ | z | ⟨i, hi, q⟩
        · have := t1 i hi; omega
        · omega
        · have := t2 i hi; omega
    · have hb : F k < b := by omega
      rw [ek, c_scutS P hk hb]
      by_cases cg : a ≤ F k ∧ T k ≤ b
      · -- the range goes
        rw [if_pos cg]
        obtain ⟨g, eg, Pg, Gg, sg⟩ := c_srel P hk
        have Cg : ChX (up1 X k fr) (k : Int) (k :: lf) := ⟨rfl, by rw [up1_eq]; exact Cf.up kf⟩
        have C1g : ChP (up1 X k fr) v4 l1 kk := C1.up k1
        have C2g : ChX (up1 X k fr) (X k) l := C2'.up k2
        have Rg : RnL F T (-1) (l1 ++ l) := RnL.app.2 ⟨R1, r3.dn (by omega)⟩
        have ndg : ((l1 ++ l) ++ (k :: lf)).Nodup := by
          refine List.nodup_append.2 ⟨List.nodup_append.2 ⟨n1, n2, fun x hx y hy z => (d1 x hx).1 (by rw [z]; exact hy)⟩, List.nodup_cons.2 ⟨kf, nf⟩, fun x hx y hy z => ?_⟩
          subst z
          rcases List.mem_append.1 hx with q | q
          · rcases List.mem_cons.1 hy with w | w
            · exact k1 (by rw [← w]; exact q)
            · exact (d1 x q).2 w
          · rcases List.mem_cons.1 hy with w | w
            · exact k2 (by rw [← w]; exact q)
            · exact d2 x q w
        have sub : ∀ j, j ∈ (l1 ++ l) ++ (k :: lf) → j ∈ (l1 ++ (k :: l)) ++ lf := fun j hj => by
          rw [mem3]
          rcases List.mem_append.1 hj with q | q
          · rcases List.mem_append.1 q with q | q
            · exact Or.inl q
            · exact Or.inr (Or.inr (Or.inl q))
          · rcases List.mem_cons.1 q with q | q
            · exact Or.inr (Or.inl q)
            · exact Or.inr (Or.inr (Or.inr q))
        have mg : ∀ j, j ∈ (l1 ++ l) ++ (k :: lf) → j < m := fun j hj => mm j (sub j hj)
        have fin : ∀ (X2 : Nat → Int) (v4' : Int) (g2 : Hp) (c' : Int) (h' : Hp), SpG p h g2 → (hN g2 = hN h ∧ hZ g2 = hZ h ∧ spN g2 p = spN h p ∧ spZ g2 p = spZ h p) → (∀ j, j ∉ l1 ++ (k :: l) → X2 j = X j) → SpO g2 h' p m F T X2 (l1 ++ l) (k :: lf) (fun j => inS F T (l1 ++ l) j ∧ ¬ (a ≤ j ∧ j < b)) c' → SpO h h' p m F T X (l1 ++ (k :: l)) lf (fun j => inS F T (l1 ++ (k :: l)) j ∧ ¬ (a ≤ j ∧ j < b)) c' := by
          intro X2 v4' g2 c' h' G s hX O
          obtain ⟨l', lf', m', fr', F', T', X', o1, o2, o3, o4, o5, o6, o7, o8, o9, o10⟩ := O
          refine ⟨l', lf', m', fr', F', T', X', o1, o2, fun j => ?_, fun j q1 q2 q3 => ?_, fun j hj => ?_, o6, ?_, G.tr o8, by rw [← s.1, ← s.2.2.1]; exact o9, by rw [← s.2.1, ← s.2.2.2]; exact o10⟩
          · rw [o3 j]
            show (inS F T (l1 ++ l) j ∧ ¬ (a ≤ j ∧ j < b)) ↔ (inS F T (l1 ++ (k :: l)) j ∧ ¬ (a ≤ j ∧ j < b))
            rw [inS_app, inS_app, inS_cons]
            constructor
            · rintro ⟨z | z, w⟩
              · exact ⟨Or.inl z, w⟩
              · exact ⟨Or.inr (Or.inr z), w⟩
            · rintro ⟨z | z | z, w⟩
              · exact ⟨Or.inl z, w⟩
              · exact absurd ⟨by omega, by omega⟩ w
              · exact ⟨Or.inr z, w⟩
          · have q1' : j ∉ l1 ++ l := fun z => q1 (by
              rcases List.mem_append.1 z with w | w
              · exact List.mem_append.2 (Or.inl w)
              · exact List.mem_append.2 (Or.inr (List.mem_cons_of_mem _ w)))
            have q2' : j ∉ k :: lf := fun z => by
              rcases List.mem_cons.1 z with w | w
              · exact q1 (List.mem_append.2 (Or.inr (by rw [w]; exact List.mem_cons_self)))
              · exact q2 w
            have := o4 j q1' q2' q3
            exact ⟨this.1, this.2.1, this.2.2.trans (hX j q1)⟩
          · rcases o5 j hj with z | z
            · exact Or.inl (sub j z)
            · exact Or.inr z
          · rw [o7]; simp only [List.length_append, List.length_cons]; omega
        obtain ⟨y0, y1, y2, yi, yv⟩ := Pg.i
        unfold f_cSpans_cut_b62 f_cSpans_cut_b123
        rw [if_neg (by decide), eg, b1_some]
        rcases hv with ⟨q1, q2⟩ | ⟨l0, q, q1, q2⟩
        · rw [q2, if_neg (fun z => z rfl)]
          subst q1
          obtain ⟨c', h', e1, O⟩ := ih (f + 1) m [] (k :: lf) (X k) (X k) (-1) (k : Int) F T (up1 X k fr) g ⟨Pg, Cg, ndg, mg, Rg⟩ rfl C2g (Or.inl ⟨rfl, rfl⟩) t1 (fun z => by cases z) (by unfold spN at *; rw [sg.1, sg.2.2.1, sg.2.2.2]; exact rN) (by unfold spZ at *; rw [sg.2.1, sg.2.2.1, sg.2.2.2]; exact rZ) (by omega)
          refine ⟨c', h', e1, fin (up1 X k fr) (X k) g c' h' Gg ⟨sg.1, sg.2.1, by unfold spN; rw [sg.2.2.1, sg.2.2.2], by unfold spZ; rw [sg.2.2.1, sg.2.2.2]⟩ (fun j hj => up1_ne (fun z => hj (by rw [z]; exact List.mem_cons_self))) O⟩
        · have qm : q ∈ l1 := by rw [q1]; exact List.mem_append.2 (Or.inr List.mem_cons_self)
          have q0 : q ∉ l0 := fun z => by rw [q1] at n1; exact (List.nodup_append.1 n1).2.2 q z q List.mem_cons_self rfl
          have qlt : q < m := mm q (mem3.2 (Or.inl qm))
          have qk : q ≠ k := fun z => k1 (by rw [← z]; exact qm)
          have ql : q ∉ l := (d1 q qm).1
          have qf : q ∉ lf := (d1 q qm).2
          have xq := Pg.xk qlt
          have Pq := Pg.sX (v := X k) qlt
          rw [q2, if_pos (show (q : Int) ≠ -1 by omega), if_neg y2, if_pos xq.2.2, Int.toNat_natCast, lt1_eq]
          have C1q : ChP (up1 (up1 X k fr) q (X k)) v4 l1 (X k) := by rw [q1] at C1g ⊢; exact C1g.set q0
          have Cfq : ChX (up1 (up1 X k fr) q (X k)) (k : Int) (k :: lf) := Cg.up (fun z => by
            rcases List.mem_cons.1 z with w | w
            · exact qk w
            · exact qf w)
          obtain ⟨c', h', e1, O⟩ := ih (f + 1) m l1 (k :: lf) (X k) v4 (q : Int) (k : Int) F T (up1 (up1 X k fr) q (X k)) _ ⟨Pq, Cfq, ndg, mg, Rg⟩ C1q (C2g.up ql) (Or.inr ⟨l0, q, q1, rfl⟩) t1 (fun z => by cases z) (by show hN g + spN g p ≤ CN; unfold spN at *; rw [sg.1, sg.2.2.1, sg.2.2.2]; exact rN) (by show hZ g + spZ g p ≤ CZ; unfold spZ at *; rw [sg.2.1, sg.2.2.1, sg.2.2.2]; exact rZ) (by omega)
          refine ⟨c', h', e1, fin (up1 (up1 X k fr) q (X k)) v4 _ c' h' (Gg.tr (SpG.sI (Or.inr (Or.inr (Or.inr rfl))))) ⟨sg.1, sg.2.1, by show spN g p = _; unfold spN; rw [sg.2.2.1, sg.2.2.2], by show spZ g p = _; unfold spZ; rw [sg.2.2.1, sg.2.2.2]⟩ (fun j hj => ?_) O⟩
          rw [up1_ne (fun z => hj (List.mem_append.2 (Or.inl (by rw [z]; exact qm)))), up1_ne (fun z => hj (List.mem_append.2 (Or.inr (by rw [z]; exact List.mem_cons_self))))]
      · rw [if_neg cg]
        by_cases ca : T k ≤ a
        · -- wholly below a
          rw [if_pos ca]
          have ap : l1 ++ (k :: l) = (l1 ++ [k]) ++ l := by rw [List.append_assoc]; rfl
          rw [ap] at I ⊢
          exact ih (f + 1) m (l1 ++ [k]) lf (X k) v4 (k : Int) fr F T X h I (C1.app ⟨ek, rfl⟩) C2' (Or.inr ⟨l1, k, rfl, rfl⟩) (fun j hj => by
            rcases List.mem_append.1 hj with w | w
            · exact t1 j w
            · rcases List.mem_cons.1 w with y | y
              · rw [y]; exact ca
              · cases y) hm rN rZ (by omega)
        · rw [if_neg ca]
          have frk : fr ≠ (k : Int) := fun z => by
            cases hl : lf with
            | nil => rw [hl] at Cf; have : fr = -1 := Cf; omega
            | cons i l' => rw [hl] at Cf; have := Cf.1; exact kf (by rw [hl]; rw [show k = i by omega]; exact List.mem_cons_self)
          obtain ⟨g, eg, Gg, rg, zg, s1, s2, s3⟩ := c_strim (a := a) (b := b) P hk I.frb (fun z => hm (ch_nil Cf z)) frk rN rZ
          rw [eg, b1_some]
          have en1 : enR T (-1) l1 < F k := r1
          have nj : ∀ j, j ∈ l1 → j ≠ k := fun j hj z => k1 (by rw [← z]; exact hj)
          have nl : ∀ j, j ∈ l → j ≠ k := fun j hj z => k2 (by rw [← z]; exact hj)
          by_cases cA : a ≤ F k
          · -- its end stays
            have Pg := s1 cA
            have inner : ∀ j, inS (up1 F k b) T (l1 ++ (k :: l)) j ↔ (inS F T (l1 ++ (k :: l)) j ∧ ¬ (a ≤ j ∧ j < b)) := fun j => by
              rw [inS_app, inS_cons, inS_app, inS_cons, up1_eq, inS_cg (F := F) (T := T) (fun i hi => ⟨up1_ne (nj i hi), rfl⟩), inS_cg (F := F) (T := T) (fun i hi => ⟨up1_ne (nl i hi), rfl⟩)]
              constructor
              · rintro (⟨i, hi, q⟩ | z | ⟨i, hi, q⟩)
                · have := t1 i hi
                  exact ⟨Or.inl ⟨i, hi, q⟩, by omega⟩
                · exact ⟨Or.inr (Or.inl (by omega)), by omega⟩
                · have := t2 i hi
                  exact ⟨Or.inr (Or.inr ⟨i, hi, q⟩), by omega⟩
              · rintro ⟨z | z | z, w⟩
                · exact Or.inl z
                · exact Or.inr (Or.inl (by omega))
                · exact Or.inr (Or.inr z)
            refine ⟨v4, g, c_scutE (l2 := l) Pg C2' mml (fun j hj => by rw [up1_ne (nl j hj)]; have := t2 j hj; omega), l1 ++ (k :: l), lf, m, fr, up1 F k b, T, X, ⟨Pg, Cf, nd, mm, ?_⟩, C1.app ⟨ek, C2'⟩, inner, fun j q1 q2 q3 => ⟨up1_ne (fun z => q1 (List.mem_append.2 (Or.inr (by rw [z]; exact List.mem_cons_self)))), rfl, rfl⟩, fun j hj => Or.inl hj, Nat.le_refl _, rfl, Gg, rg, zg⟩
            refine RnL.app.2 ⟨R1.cg (fun i hi => ⟨up1_ne (nj i hi), rfl⟩), ?_⟩
            refine ⟨by rw [up1_eq]; omega, by rw [up1_eq]; omega, r3.cg (fun i hi => ⟨up1_ne (nl i hi), rfl⟩)⟩
          · by_cases cB : T k ≤ b
            · -- its beginning stays
              have Pg := s2 (by omega) cB
              have ap : l1 ++ (k :: l) = (l1 ++ [k]) ++ l := by rw [List.append_assoc]; rfl
              have Rg : RnL F (up1 T k a) (-1) (l1 ++ (k :: l)) := by
                refine RnL.app.2 ⟨R1.cg (fun i hi => ⟨rfl, up1_ne (nj i hi)⟩), ?_⟩
                rw [enR_cg (T := T) (fun i hi => up1_ne (nj i hi))]
                refine ⟨r1, by rw [up1_eq]; omega, ?_⟩
                rw [up1_eq]
                exact (r3.dn (by omega)).cg (fun i hi => ⟨rfl, up1_ne (nl i hi)⟩)
              have Ig : SpI g p m fr F (up1 T k a) X ((l1 ++ [k]) ++ l) lf := by rw [← ap]; exact ⟨Pg, Cf, nd, mm, Rg⟩
              obtain ⟨c', h', e1, l', lf', m', fr', F', T', X', o1, o2, o3, o4, o5, o6, o7, o8, o9, o10⟩ := ih (f + 1) m (l1 ++ [k]) lf (X k) v4 (k : Int) fr F (up1 T k a) X g Ig (C1.app ⟨ek, rfl⟩) C2' (Or.inr ⟨l1, k, rfl, rfl⟩) (fun j hj => by
                rcases List.mem_append.1 hj with w | w
                · rw [up1_ne (nj j w)]; exact t1 j w
                · rcases List.mem_cons.1 w with y | y
                  · rw [y, up1_eq]; exact Int.le_refl _
                  · cases y) hm (by omega) (by omega) (by omega)
              refine ⟨c', h', e1, l', lf', m', fr', F', T', X', o1, o2, fun j => ?_, fun j q1 q2 q3 => ?_, fun j hj => by rw [ap]; exact o5 j hj, o6, by rw [ap]; exact o7, Gg.tr o8, Nat.le_trans o9 rg, Nat.le_trans o10 zg⟩
              · rw [o3 j]
                show (inS F (up1 T k a) ((l1 ++ [k]) ++ l) j ∧ ¬ (a ≤ j ∧ j < b)) ↔ (inS F T (l1 ++ (k :: l)) j ∧ ¬ (a ≤ j ∧ j < b))
                rw [← ap, inS_app, inS_cons, inS_app, inS_cons, up1_eq, inS_cg (F := F) (T := T) (fun i hi => ⟨rfl, up1_ne (nj i hi)⟩), inS_cg (F := F) (T := T) (fun i hi => ⟨rfl, up1_ne (nl i hi)⟩)]
                constructor
                · rintro ⟨z | z | z, w⟩
                  · exact ⟨Or.inl z, w⟩
                  · exact ⟨Or.inr (Or.inl (by omega)), w⟩
                  · exact ⟨Or.inr (Or.inr z), w⟩
                · rintro ⟨z | z | z, w⟩
                  · exact ⟨Or.inl z, w⟩
                  · exact ⟨Or.inr (Or.inl (by omega)), w⟩
                  · exact ⟨Or.inr (Or.inr z), w⟩
              · have := o4 j (by rw [← ap]; exact q1) q2 q3
                refine ⟨this.1, this.2.1.trans (up1_ne (fun z => q1 (List.mem_append.2 (Or.inr (by rw [z]; exact List.mem_cons_self))))), this.2.2⟩
            · -- it falls in two
              obtain ⟨n, m', fr', u2, u3, Pg⟩ := s3 (by omega) (by omega)
              obtain ⟨lf', f1, f2, f3, f4, f5, f6, f7, f8⟩ := sp_free (v := X k) Cf nf (fun i hi => mm i (mem3.2 (Or.inr (Or.inr (Or.inr hi))))) u2 u3
              have kn : k ≠ n := fun z => by
                rcases f5 with y | y
                · exact kf (by rw [z]; exact y)
                · omega
              have nn1 : n ∉ l1 := fun z => by
                rcases f5 with y | y
                · exact (d1 n z).2 y
                · have := mm n (mem3.2 (Or.inl z)); omega
              have nn2 : n ∉ l := fun z => by
                rcases f5 with y | y
                · exact d2 n z y
                · have := mml n z; omega
              have nj' : ∀ j, j ∈ l1 → j ≠ n := fun j hj z => nn1 (by rw [← z]; exact hj)
              have nl' : ∀ j, j ∈ l → j ≠ n := fun j hj z => nn2 (by rw [← z]; exact hj)
              have klf : k ∉ lf' := fun z => kf (f4 k z)
              have C1g : ChP (up1 (up1 X n (X k)) k (n : Int)) v4 l1 kk := (C1.up nn1).up k1
              have C2g : ChX (up1 (up1 X n (X k)) k (n : Int)) (X k) l := (C2'.up nn2).up k2
              have Ck : ChX (up1 (up1 X n (X k)) k (n : Int)) kk (k :: n :: l) := ⟨ek, by rw [up1_eq]; exact ⟨rfl, by rw [up1_ne (fun z => kn z.symm), up1_eq]; exact C2g⟩⟩
              have ndg : ((l1 ++ (k :: n :: l)) ++ lf').Nodup := by
                refine List.nodup_append.2 ⟨List.nodup_append.2 ⟨n1, List.nodup_cons.2 ⟨fun z => ?_, List.nodup_cons.2 ⟨nn2, n2⟩⟩, fun x hx y hy z => ?_⟩, f3, fun x hx y hy z => ?_⟩
                · rcases List.mem_cons.1 z with w | w
                  · exact kn w
                  · exact k2 w
                · subst z
                  rcases List.mem_cons.1 hy with w | w
                  · exact k1 (by rw [← w]; exact hx)
                  · rcases List.mem_cons.1 w with w | w
                    · exact nn1 (by rw [← w]; exact hx)
                    · exact (d1 x hx).1 w
                · subst z
                  rcases List.mem_append.1 hx with w | w
                  · exact (d1 x w).2 (f4 x hy)
                  · rcases List.mem_cons.1 w with w | w
                    · exact klf (by rw [← w]; exact hy)
                    · rcases List.mem_cons.1 w with w | w
                      · exact f2 (by rw [← w]; exact hy)
                      · exact d2 x w (f4 x hy)
              have mg : ∀ j, j ∈ (l1 ++ (k :: n :: l)) ++ lf' → (j ∈ (l1 ++ (k :: l)) ++ lf ∨ m ≤ j) ∧ j < m' := fun j hj => by
                have key : j ∈ (l1 ++ (k :: l)) ++ lf → (j ∈ (l1 ++ (k :: l)) ++ lf ∨ m ≤ j) ∧ j < m' := fun z => ⟨Or.inl z, by have := mm j z; omega⟩
                rcases mem3.1 hj with w | w | w | w
                · exact key (mem3.2 (Or.inl w))
                · exact key (mem3.2 (Or.inr (Or.inl w)))
                · rcases List.mem_cons.1 w with w | w
                  · rw [w]
                    rcases f5 with z | z
                    · exact ⟨Or.inl (mem3.2 (Or.inr (Or.inr (Or.inr z)))), f6⟩
                    · exact ⟨Or.inr (by omega), f6⟩
                  · exact key (mem3.2 (Or.inr (Or.inr (Or.inl w))))
                · exact key (mem3.2 (Or.inr (Or.inr (Or.inr (f4 j w)))))
              have vF : ∀ j, j ≠ n → up1 F n b j = F j := fun j hj => up1_ne hj
              have vT : ∀ j, j ≠ n → j ≠ k → up1 (up1 T n (T k)) k a j = T j := fun j h1 h2 => by rw [up1_ne h2, up1_ne h1]
              have vTn : up1 (up1 T n (T k)) k a n = T k := by rw [up1_ne (fun z => kn z.symm), up1_eq]
              have inner : ∀ j, inS (up1 F n b) (up1 (up1 T n (T k)) k a) (l1 ++ (k :: n :: l)) j ↔ (inS F T (l1 ++ (k :: l)) j ∧ ¬ (a ≤ j ∧ j < b)) := fun j => by
                rw [inS_app, inS_cons, inS_cons, inS_app, inS_cons, up1_eq, up1_eq, vTn, vF k kn, inS_cg (F := F) (T := T) (fun i hi => ⟨vF i (nj' i hi), vT i (nj' i hi) (nj i hi)⟩), inS_cg (F := F) (T := T) (fun i hi => ⟨vF i (nl' i hi), vT i (nl' i hi) (nl i hi)⟩)]
                constructor
                · rintro (⟨i, hi, q⟩ | z | z | ⟨i, hi, q⟩)
                  · have := t1 i hi
                    exact ⟨Or.inl ⟨i, hi, q⟩, by omega⟩
                  · exact ⟨Or.inr (Or.inl (by omega)), by omega⟩
                  · exact ⟨Or.inr (Or.inl (by omega)), by omega⟩
                  · have := t2 i hi
                    exact ⟨Or.inr (Or.inr ⟨i, hi, q⟩), by omega⟩
                · rintro ⟨z | z | z, w⟩
                  · exact Or.inl z
                  · by_cases y : j < a
                    · exact Or.inr (Or.inl (by omega))
                    · exact Or.inr (Or.inr (Or.inl (by omega)))
                  · exact Or.inr (Or.inr (Or.inr z))
              refine ⟨v4, g, c_scutE (l2 := l) Pg C2g (fun j hj => by have := mml j hj; omega) (fun j hj => by rw [vF j (nl' j hj)]; have := t2 j hj; omega), l1 ++ (k :: n :: l), lf', m', fr', _, _, _, ⟨Pg, f1.up klf, ndg, fun j hj => (mg j hj).2, ?_⟩, C1g.app Ck, inner, fun j q1 q2 q3 => ?_, fun j hj => (mg j hj).1, f7, ?_, Gg, rg, zg⟩
              · refine RnL.app.2 ⟨R1.cg (fun i hi => ⟨vF i (nj' i hi), vT i (nj' i hi) (nj i hi)⟩), ?_⟩
                rw [enR_cg (T := T) (fun i hi => vT i (nj' i hi) (nj i hi))]
                refine ⟨by rw [vF k kn]; exact r1, by rw [vF k kn, up1_eq]; omega, ?_⟩
                rw [up1_eq]
                refine ⟨by rw [up1_eq]; omega, by rw [up1_eq, vTn]; omega, ?_⟩
                rw [vTn]
                exact r3.cg (fun i hi => ⟨vF i (nl' i hi), vT i (nl' i hi) (nl i hi)⟩)
              · have jn : j ≠ n := fun z => by
                  rcases f5 with y | y
                  · exact q2 (by rw [z]; exact y)
                  · omega
                have jk : j ≠ k := fun z => q1 (List.mem_append.2 (Or.inr (by rw [z]; exact List.mem_cons_self)))
                exact ⟨vF j jn, vT j jn jk, by rw [up1_ne jk, up1_ne jn]⟩
              · simp only [List.length_append, List.length_cons]; omega
theorem c_scut {h : Hp} {m : Nat} {fr c : Int} {F T X : Nat → Int} {l lf : List Nat} (ab : 0 ≤ a ∧ a < b) (I : SpI h p m fr F T X l lf) (C : ChX X c l) (hT : ∀ k, k ∈ l → T k ≤ 65536) (hm : lf = [] → m < 131072) (rN : hN h + spN h p ≤ CN) (rZ : hZ h + spZ h p ≤ CZ) : ∃ c' h', f_cSpans_cut p c a b h = some (c', h') ∧ SpO h h' p m F T X l lf (fun j => inS F T l j ∧ ¬ (a ≤ j ∧ j < b)) c' := by
  have ll := I.2.2.2.2.len' hT
  obtain ⟨FF, hF, F9⟩ : ∃ FF, FF = FU ∧ 200000 < FF := ⟨FU, rfl, by decide⟩
  have := c_scutL ab l FF m [] lf c c (-1) fr F T X h I rfl C (Or.inl ⟨rfl, rfl⟩) (fun k hk => by cases hk) hm rN rZ (by omega)
  unfold f_cSpans_cut
  rw [← hF]
  exact this
end
