/-! what came: the block with a number -/
/-- numbers of blocks rise -/
def InL (I : Nat → Int) : Int → List Nat → Prop
  | _, [] => True
  | lo, k :: l => lo < I k ∧ InL I (I k) l
/-- a stream's blocks l in the pool, lf free, oth of others -/
def BlI (h : Hp) (o m oth : Nat) (fr : Int) (D M I X : Nat → Int) (l lf : List Nat) : Prop := BlP h o m fr D M I X ∧ ChX X fr lf ∧ (l ++ lf).Nodup ∧ (∀ k, k ∈ l ++ lf → k < m) ∧ InL I (-1) l ∧ (∀ k, k ∈ l → c64 (M k)) ∧ m = oth + l.length + lf.length
/-- what the blocks hold: the places S, the bytes W -/
def BlS (D M I : Nat → Int) (l : List Nat) (S : Nat → Prop) (W : Nat → Int) : Prop := (∀ p, S p ↔ ∃ k, k ∈ l ∧ I k = ((p / 64 : Nat) : Int) ∧ bitL (M k) (p % 64) = true) ∧ ∀ k, k ∈ l → ∀ b, b < 64 → bitL (M k) b = true → D (64 * k + b) = W (64 * (I k).toNat + b)
section
variable {I I' : Nat → Int} {lo hi : Int} {l l1 l2 : List Nat}
def enI (I : Nat → Int) : Int → List Nat → Int
  | lo, [] => lo
  | _, k :: l => enI I (I k) l
theorem InL.app : InL I lo (l1 ++ l2) ↔ InL I lo l1 ∧ InL I (enI I lo l1) l2 := by
  induction l1 generalizing lo with
  | nil => exact ⟨fun z => ⟨trivial, z⟩, fun z => z.2⟩
  | cons k l ih =>
    show (lo < I k ∧ InL I (I k) (l ++ l2)) ↔ (lo < I k ∧ InL I (I k) l) ∧ InL I (enI I (I k) l) l2
    rw [ih]
    exact ⟨fun ⟨a, b, c⟩ => ⟨⟨a, b⟩, c⟩, fun ⟨⟨a, b⟩, c⟩ => ⟨a, b, c⟩⟩
theorem InL.cg (R : InL I lo l) (e : ∀ k, k ∈ l → I' k = I k) : InL I' lo l := by
  induction l generalizing lo with
  | nil => trivial
  | cons k l ih =>
    refine ⟨by rw [e k List.mem_cons_self]; exact R.1, ?_⟩
    rw [e k List.mem_cons_self]
    exact ih R.2 (fun j hj => e j (List.mem_cons_of_mem _ hj))
theorem enI_cg (e : ∀ k, k ∈ l → I' k = I k) : enI I' lo l = enI I lo l := by
  induction l generalizing lo with
  | nil => rfl
  | cons k l ih =>
    show enI I' (I' k) l = enI I (I k) l
    rw [e k List.mem_cons_self]
    exact ih (fun j hj => e j (List.mem_cons_of_mem _ hj))
theorem InL.gt (R : InL I lo l) : ∀ k, k ∈ l → lo < I k := by
  induction l generalizing lo with
  | nil => intro k h; cases h
  | cons j l ih =>
    intro k h
    have r1 := R.1
    rcases List.mem_cons.1 h with z | z
    · rw [z]; exact r1
    · have := ih R.2 k z; omega
theorem InL.len (R : InL I lo l) (h : ∀ k, k ∈ l → I k ≤ hi) (h0 : lo ≤ hi) : (l.length : Int) ≤ hi - lo := by
  induction l generalizing lo with
  | nil => show ((0 : Nat) : Int) ≤ hi - lo; omega
  | cons k l ih =>
    have := ih R.2 (fun j hj => h j (List.mem_cons_of_mem _ hj)) (h k List.mem_cons_self)
    have := R.1
    rw [List.length_cons]; omega
theorem InL.lt (R : InL I lo l) : ∀ k, k ∈ l → I k ≤ enI I lo l := by
  induction l generalizing lo with
  | nil => intro k h; cases h
  | cons j l ih =>
    intro k h
    have q : I j ≤ enI I (I j) l := by
      cases hl : l with
      | nil => exact Int.le_refl _
      | cons i l' =>
        rw [hl] at ih R
        have := ih R.2 i List.mem_cons_self
        have := R.2.1
        show I j ≤ enI I (I j) (i :: l')
        omega
    rcases List.mem_cons.1 h with z | z
    · rw [z]; exact q
    · exact ih R.2 k z
end
section
variable {o r : Nat}
/-- a block is put between l1 and l2 -/
theorem c_b60 {h : Hp} {m oth : Nat} {fr c kk v3 i : Int} {D M I X : Nat → Int} {l1 l2 lf : List Nat} {S : Nat → Prop} {W : Nat → Int} (r0 : r ≠ 0) (rd : ¬ BlD h o r) (rN' : r < hN h) (B : BlI h o m oth fr D M I X (l1 ++ l2) lf) (Q : BlS D M I (l1 ++ l2) S W) (h7 : hI h r 7 = c) (C1 : ChP X c l1 kk) (C2 : ChX X kk l2) (hv : (l1 = [] ∧ v3 = -1) ∨ ∃ (l0 : List Nat) (q : Nat), l1 = l0 ++ [q] ∧ v3 = (q : Int)) (i1 : enI I (-1) l1 < i) (i2 : ∀ k, k ∈ l2 → i < I k) (i0 : 0 ≤ i) (hm : lf = [] → m < 2048) (rN : hN h + blN h o ≤ CN) (rZ : hZ h + blZ h o ≤ CZ) :
    ∃ n h' m' fr' D' M' I' X' lf' c', f_cBlocks_block_b60 o r i v3 kk h = some (((n : Nat) : Int), h') ∧ BlI h' o m' oth fr' D' M' I' X' (l1 ++ (n :: l2)) lf' ∧ BlS D' M' I' (l1 ++ (n :: l2)) S W ∧ hI h' r 7 = c' ∧ ChX X' c' (l1 ++ (n :: l2)) ∧ (I' n = i ∧ ∀ k, k ∈ l1 ++ l2 → I' k = I k) ∧ (∀ k, k ∉ l1 ++ l2 → k ∉ lf → k < m → M' k = M k ∧ I' k = I k ∧ X' k = X k ∧ ∀ b, b < 64 → D' (64 * k + b) = D (64 * k + b)) ∧ m ≤ m' ∧ (∀ k, k ∈ (l1 ++ (n :: l2)) ++ lf' → k ∈ (l1 ++ l2) ++ lf ∨ m ≤ k) ∧ (∀ y, y ≠ 7 → hI h' r y = hI h r y) ∧ GF (fun x => BlD h o x ∨ x = r) h h' ∧ (∀ x, BlD h' o x → BlD h o x ∨ hN h ≤ x) ∧ hN h' + blN h' o ≤ hN h + blN h o ∧ hZ h' + blZ h' o ≤ hZ h + blZ h o := by
  obtain ⟨P, Cf, nd, mm, R, c6, me⟩ := B
  have frb : fr = -1 ∨ (0 ≤ fr ∧ fr < m) := by
    cases lf with
    | nil => exact Or.inl Cf
    | cons k l' =>
      have := Cf.1
      have := mm k (List.mem_append.2 (Or.inr List.mem_cons_self))
      exact Or.inr ⟨by omega, by omega⟩
  have hm' : fr = -1 → m < 2048 := fun z => by
    cases lf with
    | nil => exact hm rfl
    | cons k l' => have := Cf.1; omega
  obtain ⟨n, m', fr', D', g, u1, u2, u3, Pg, dd, Gg, rg, zg⟩ := c_bmake (a := i) (c := kk) P frb hm' rN rZ
  obtain ⟨nd1, nd2, nd12⟩ := List.nodup_append.1 nd
  obtain ⟨n1, n2, n12⟩ := List.nodup_append.1 nd1
  obtain ⟨lf', f1, f2, f3, f4, f5, f6, f7, f8⟩ := sp_free (v := kk) Cf nd2 (fun k hk => mm k (List.mem_append.2 (Or.inr hk))) u2 u3
  have nn : n ∉ l1 ++ l2 := fun z => by
    rcases f5 with y | y
    · exact nd12 n z n y rfl
    · have := mm n (List.mem_append.2 (Or.inl z)); omega
  have nn1 : n ∉ l1 := fun z => nn (List.mem_append.2 (Or.inl z))
  have nn2 : n ∉ l2 := fun z => nn (List.mem_append.2 (Or.inr z))
  have nj : ∀ k, k ∈ l1 ++ l2 → k ≠ n := fun k hk z => nn (by rw [← z]; exact hk)
  have nj1 : ∀ k, k ∈ l1 → k ≠ n := fun k hk => nj k (List.mem_append.2 (Or.inl hk))
  have nj2 : ∀ k, k ∈ l2 → k ≠ n := fun k hk => nj k (List.mem_append.2 (Or.inr hk))
  have lt : ∀ k, k ∈ l1 ++ l2 → k < m := fun k hk => mm k (List.mem_append.2 (Or.inl hk))
  have c2g : ChX (up1 X n kk) kk l2 := C2.up nn2
  have c1g : ChP (up1 X n kk) c l1 kk := C1.up nn1
  have cn : ChX (up1 X n kk) (n : Int) (n :: l2) := ⟨rfl, by rw [up1_eq]; exact c2g⟩
  have ndg : ((l1 ++ (n :: l2)) ++ lf').Nodup := by
    refine List.nodup_append.2 ⟨List.nodup_append.2 ⟨n1, List.nodup_cons.2 ⟨nn2, n2⟩, fun x hx y hy z => ?_⟩, f3, fun x hx y hy z => ?_⟩
    · rcases List.mem_cons.1 hy with w | w
      · exact nn1 (by rw [← w, ← z]; exact hx)
      · exact n12 x hx y w z
    · subst z
      rcases List.mem_append.1 hx with w | w
      · exact nd12 x (List.mem_append.2 (Or.inl w)) x (f4 x hy) rfl
      · rcases List.mem_cons.1 w with w | w
        · exact f2 (by rw [← w]; exact hy)
        · exact nd12 x (List.mem_append.2 (Or.inr w)) x (f4 x hy) rfl
  have mg : ∀ k, k ∈ (l1 ++ (n :: l2)) ++ lf' → (k ∈ (l1 ++ l2) ++ lf ∨ m ≤ k) ∧ k < m' := fun k hk => by
    have key : k ∈ (l1 ++ l2) ++ lf → (k ∈ (l1 ++ l2) ++ lf ∨ m ≤ k) ∧ k < m' := fun z => ⟨Or.inl z, by have := mm k z; omega⟩
    rcases mem3.1 hk with w | w | w | w
    · exact key (List.mem_append.2 (Or.inl (List.mem_append.2 (Or.inl w))))
    · rw [w]
      rcases f5 with z | z
      · exact ⟨Or.inl (List.mem_append.2 (Or.inr z)), f6⟩
      · exact ⟨Or.inr (by omega), f6⟩
    · exact key (List.mem_append.2 (Or.inl (List.mem_append.2 (Or.inr w))))
    · exact key (List.mem_append.2 (Or.inr (f4 k w)))
  have Rg : InL (up1 I n i) (-1) (l1 ++ (n :: l2)) := by
    obtain ⟨R1, R2⟩ := InL.app.1 R
    refine InL.app.2 ⟨R1.cg (fun k hk => up1_ne (nj1 k hk)), ?_⟩
    rw [enI_cg (I := I) (fun k hk => up1_ne (nj1 k hk))]
    refine ⟨by rw [up1_eq]; exact i1, ?_⟩
    rw [up1_eq]
    have R2' : InL I i l2 := by
      cases l2 with
      | nil => trivial
      | cons k l' => exact ⟨i2 k List.mem_cons_self, R2.2⟩
    exact R2'.cg (fun k hk => up1_ne (nj2 k hk))
  have c6g : ∀ k, k ∈ l1 ++ (n :: l2) → c64 (up1 M n 0 k) := fun k hk => by
    by_cases w : k = n
    · rw [w, up1_eq]; exact ⟨by decide, by decide⟩
    · rw [up1_ne w]
      refine c6 k ?_
      rcases List.mem_append.1 hk with z | z
      · exact List.mem_append.2 (Or.inl z)
      · rcases List.mem_cons.1 z with z | z
        · exact absurd z w
        · exact List.mem_append.2 (Or.inr z)
  have meg : m' = oth + (l1 ++ (n :: l2)).length + lf'.length := by
    have : (l1 ++ (n :: l2)).length = (l1 ++ l2).length + 1 := by simp only [List.length_append, List.length_cons]; omega
    omega
  have inL : ∀ k, k ∈ l1 ++ (n :: l2) → k = n ∨ k ∈ l1 ++ l2 := fun k hk => by
    rcases List.mem_append.1 hk with z | z
    · exact Or.inr (List.mem_append.2 (Or.inl z))
    · rcases List.mem_cons.1 z with z | z
      · exact Or.inl z
      · exact Or.inr (List.mem_append.2 (Or.inr z))
  have inR : ∀ k, k ∈ l1 ++ l2 → k ∈ l1 ++ (n :: l2) := fun k hk => by
    rcases List.mem_append.1 hk with z | z
    · exact List.mem_append.2 (Or.inl z)
    · exact List.mem_append.2 (Or.inr (List.mem_cons_of_mem _ z))
  have Qg : BlS D' (up1 M n 0) (up1 I n i) (l1 ++ (n :: l2)) S W := by
    refine ⟨fun p => ?_, fun k hk b hb hbit => ?_⟩
    · rw [Q.1 p]
      constructor
      · rintro ⟨k, k1, k2, k3⟩
        exact ⟨k, inR k k1, by rw [up1_ne (nj k k1)]; exact k2, by rw [up1_ne (nj k k1)]; exact k3⟩
      · rintro ⟨k, k1, k2, k3⟩
        rcases inL k k1 with z | z
        · rw [z, up1_eq, bitL_0] at k3; cases k3
        · rw [up1_ne (nj k z)] at k2 k3; exact ⟨k, z, k2, k3⟩
    · rcases inL k hk with z | z
      · rw [z, up1_eq, bitL_0] at hbit; cases hbit
      · rw [up1_ne (nj k z)] at hbit
        rw [up1_ne (nj k z), dd _ (by have := lt k z; omega)]
        exact Q.2 k z b hb hbit
  have unch : ∀ k, k ∉ l1 ++ l2 → k ∉ lf → k < m → up1 M n 0 k = M k ∧ up1 I n i k = I k ∧ up1 X n kk k = X k ∧ ∀ b, b < 64 → D' (64 * k + b) = D (64 * k + b) := fun k q1 q2 q3 => by
    have kn : k ≠ n := fun z => by
      rcases f5 with y | y
      · exact q2 (by rw [z]; exact y)
      · omega
    exact ⟨up1_ne kn, up1_ne kn, up1_ne kn, fun b hb => dd _ (by omega)⟩
  have rnd : ¬ BlD g o r := fun z => by
    rcases Gg.2 r z with y | y
    · exact rd y
    · omega
  have irg : ∀ y, hI g r y = hI h r y := fun y => Gg.1.i rN' rd
  unfold f_cBlocks_block_b60
  rw [u1, b2_some]
  rcases hv with ⟨q1, q2⟩ | ⟨l0, q, q1, q2⟩
  · rw [q2, if_neg (fun z => z rfl), if_neg r0, lt1_eq]
    subst q1
    have sr : hN (sI g r 7 (n : Int)) = hN g ∧ hR (sI g r 7 (n : Int)) = hR g ∧ ln (sI g r 7 (n : Int)) = ln g := ⟨rfl, rfl, rfl⟩
    refine ⟨n, _, m', fr', D', _, _, _, lf', (n : Int), rfl, ⟨Pg.ot rnd, f1, ndg, fun k hk => (mg k hk).2, Rg, c6g, meg⟩, Qg, by rw [hI_sI, if_pos ⟨rfl, rfl⟩], cn, ⟨up1_eq, fun k hk => up1_ne (nj k hk)⟩, unch, f7, fun k hk => (mg k hk).1, fun y hy => by rw [hI_sI, if_neg (fun z => hy z.2)]; exact irg y, ?_, fun x z => Gg.2 x z, rg, zg⟩
    refine (Gg.1.mono (fun x z => Or.inl z)).trans' (D := fun x => x = r) (OnI.gf (OnI.refl.s) (fun x y hx => by rw [hI_sI, if_neg (fun z => hx z.1)])) (fun x _ z => Or.inr z)
  · have qm : q ∈ l1 := by rw [q1]; exact List.mem_append.2 (Or.inr List.mem_cons_self)
    have q0 : q ∉ l0 := fun z => by rw [q1] at n1; exact (List.nodup_append.1 n1).2.2 q z q List.mem_cons_self rfl
    have qlt : q < m' := by have := lt q (List.mem_append.2 (Or.inl qm)); omega
    have xq := Pg.xk qlt
    obtain ⟨yz, yi, yv, yd⟩ := Pg.i
    have qn : q ≠ n := nj1 q qm
    have ql2 : q ∉ l2 := fun z => n12 q qm q z rfl
    have qf : q ∉ lf' := fun z => nd12 q (List.mem_append.2 (Or.inl qm)) q (f4 q z) rfl
    rw [q2, if_pos (show (q : Int) ≠ -1 by omega), if_neg yz.2.2.2, if_pos xq.2.2, Int.toNat_natCast, lt1_eq]
    have cl1 : ChP (up1 (up1 X n kk) q (n : Int)) c l1 (n : Int) := by rw [q1] at c1g ⊢; exact c1g.set q0
    have cn' : ChX (up1 (up1 X n kk) q (n : Int)) (n : Int) (n :: l2) := cn.up (fun z => by
      rcases List.mem_cons.1 z with w | w
      · exact qn w
      · exact ql2 w)
    have r3 : r ≠ hR g o 3 := fun z => rnd (Or.inr (Or.inr (Or.inr (Or.inr z))))
    have G2 := Gg.tr (BlG.sI (h := g) (o := o) (v := (n : Int)) (y := q) (Or.inr (Or.inr (Or.inr (Or.inr rfl)))))
    refine ⟨n, _, m', fr', D', _, _, _, lf', c, rfl, ⟨Pg.sX qlt, f1.up qf, ndg, fun k hk => (mg k hk).2, Rg, c6g, meg⟩, Qg, ?_, cl1.app cn', ⟨up1_eq, fun k hk => up1_ne (nj k hk)⟩, fun k z1 z2 z3 => ?_, f7, fun k hk => (mg k hk).1, fun y hy => ?_, G2.1.mono (fun x z => Or.inl z), fun x z => G2.2 x z, rg, zg⟩
    · rw [hI_sI, if_neg (fun z => r3 z.1), irg]; exact h7
    · have := unch k z1 z2 z3
      exact ⟨this.1, this.2.1, by rw [up1_ne (fun z => z1 (List.mem_append.2 (Or.inl (by rw [z]; exact qm))))]; exact this.2.2.1, this.2.2.2⟩
    · rw [hI_sI, if_neg (fun z => r3 z.1)]; exact irg y
end
