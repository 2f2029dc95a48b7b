/-! what came: the blocks as one plain state; the block with a number is found or made -/
abbrev BSt : Type := (Nat × Int) × (Nat → Int) × (Nat → Int) × (Nat → Int) × (Nat → Int) × List Nat × List Nat
abbrev BSt.m (s : BSt) : Nat := s.1.1
abbrev BSt.fr (s : BSt) : Int := s.1.2
abbrev BSt.D (s : BSt) : Nat → Int := s.2.1
abbrev BSt.M (s : BSt) : Nat → Int := s.2.2.1
abbrev BSt.I (s : BSt) : Nat → Int := s.2.2.2.1
abbrev BSt.X (s : BSt) : Nat → Int := s.2.2.2.2.1
abbrev BSt.l (s : BSt) : List Nat := s.2.2.2.2.2.1
abbrev BSt.lf (s : BSt) : List Nat := s.2.2.2.2.2.2
/-- stream r's blocks stand in the pool o -/
def BI (h : Hp) (o oth r : Nat) (s : BSt) : Prop := BlI h o s.m oth s.fr s.D s.M s.I s.X s.l s.lf ∧ ChX s.X (hI h r 7) s.l
abbrev BS (s : BSt) (S : Nat → Prop) (W : Nat → Int) : Prop := BlS s.D s.M s.I s.l S W
/-- what a step leaves as it was: other streams' blocks, other memory, room -/
def BK (o r : Nat) (h h' : Hp) (s s' : BSt) : Prop := (∀ k, k ∉ s.l → k ∉ s.lf → k < s.m → s'.M k = s.M k ∧ s'.I k = s.I k ∧ s'.X k = s.X k ∧ ∀ b, b < 64 → s'.D (64 * k + b) = s.D (64 * k + b)) ∧ s.m ≤ s'.m ∧ (∀ k, k ∈ s'.l ++ s'.lf → k ∈ s.l ++ s.lf ∨ s.m ≤ k) ∧ GF (fun x => BlD h o x ∨ x = r) h h' ∧ (∀ x, BlD h' o x → BlD h o x ∨ hN h ≤ x) ∧ hN h' + blN h' o ≤ hN h + blN h o ∧ hZ h' + blZ h' o ≤ hZ h + blZ h o
section
variable {o r oth : Nat} {h h' h'' : Hp} {s s' s'' : BSt}
theorem BK.rf : BK o r h h s s := ⟨fun _ _ _ _ => ⟨rfl, rfl, rfl, fun _ _ => rfl⟩, Nat.le_refl _, fun _ hk => Or.inl hk, GF.refl, fun _ z => Or.inl z, Nat.le_refl _, Nat.le_refl _⟩
theorem BK.tr (A : BK o r h h' s s') (B : BK o r h' h'' s' s'') : BK o r h h'' s s'' := by
  obtain ⟨a1, a2, a3, a4, a5, a6, a7⟩ := A
  obtain ⟨b1, b2, b3, b4, b5, b6, b7⟩ := B
  refine ⟨fun k q1 q2 q3 => ?_, Nat.le_trans a2 b2, fun k hk => ?_, a4.trans' b4 (fun x z1 z2 => ?_), fun x z => ?_, Nat.le_trans b6 a6, Nat.le_trans b7 a7⟩
  · have nk : k ∉ s'.l ++ s'.lf := fun z => by
      rcases a3 k z with y | y
      · rcases List.mem_append.1 y with w | w
        · exact q1 w
        · exact q2 w
      · omega
    obtain ⟨c1, c2, c3, c4⟩ := a1 k q1 q2 q3
    obtain ⟨d1, d2, d3, d4⟩ := b1 k (fun z => nk (List.mem_append.2 (Or.inl z))) (fun z => nk (List.mem_append.2 (Or.inr z))) (by omega)
    exact ⟨by rw [d1, c1], by rw [d2, c2], by rw [d3, c3], fun b hb => by rw [d4 b hb, c4 b hb]⟩
  · rcases b3 k hk with y | y
    · exact a3 k y
    · exact Or.inr (by omega)
  · rcases z2 with y | y
    · rcases a5 x y with w | w
      · exact Or.inl w
      · omega
    · exact Or.inr y
  · rcases b5 x z with y | y
    · exact a5 x y
    · have := a4.1; exact Or.inr (by omega)
theorem enI_sn {I : Nat → Int} {lo : Int} {l : List Nat} {k : Nat} : enI I lo (l ++ [k]) = I k := by
  induction l generalizing lo with
  | nil => rfl
  | cons j l ih => exact ih
theorem c_bs60 {c kk v3 i G H : Int} {l1 l2 : List Nat} {S : Nat → Prop} {W : Nat → Int} (r0 : r ≠ 0) (rd : ¬ BlD h o r) (rN' : r < hN h) (B : BlI h o s.m oth s.fr s.D s.M s.I s.X (l1 ++ l2) s.lf) (hl : s.l = l1 ++ l2) (Q : BS s S W) (h7 : hI h r 7 = c) (C1 : ChP s.X c l1 kk) (C2 : ChX s.X kk l2) (hv : (l1 = [] ∧ v3 = -1) ∨ ∃ (l0 : List Nat) (q : Nat), l1 = l0 ++ [q] ∧ v3 = (q : Int)) (i1 : enI s.I (-1) l1 < i) (i0 : 0 ≤ i) (iH : G ≤ i ∧ i ≤ H) (kH : ∀ k, k ∈ s.l → G ≤ s.I k ∧ s.I k ≤ H) (hm : oth + H < 2048) (rN : hN h + blN h o ≤ CN) (rZ : hZ h + blZ h o ≤ CZ) (i2 : ∀ k, k ∈ l2 → i < s.I k) :
    ∃ (k : Nat) (h' : Hp) (s' : BSt), f_cBlocks_block_b60 o r i v3 kk h = some ((k : Int), h') ∧ BI h' o oth r s' ∧ BS s' S W ∧ k ∈ s'.l ∧ s'.I k = i ∧ (∀ y, y ≠ 7 → hI h' r y = hI h r y) ∧ BK o r h h' s s' ∧ (∀ k, k ∈ s'.l → G ≤ s'.I k ∧ s'.I k ≤ H) := by
  have Q' : BlS s.D s.M s.I (l1 ++ l2) S W := by rw [← hl]; exact Q
  have R := B.2.2.2.2.1
  have me := B.2.2.2.2.2.2
  obtain ⟨R1, R2⟩ := InL.app.1 R
  have R2' : InL s.I i l2 := by
    cases l2 with
    | nil => trivial
    | cons k l' => exact ⟨i2 k List.mem_cons_self, R2.2⟩
  have L1 : (l1.length : Int) ≤ (i - 1) - (-1) := R1.len (fun k hk => by have := R1.lt k hk; omega) (by omega)
  have L2 : (l2.length : Int) ≤ H - i := R2'.len (fun k hk => (kH k (by rw [hl]; exact List.mem_append.2 (Or.inr hk))).2) iH.2
  have hm' : s.lf = [] → s.m < 2048 := fun z => by
    rw [z] at me
    have : (l1 ++ l2).length = l1.length + l2.length := List.length_append
    have : ([] : List Nat).length = 0 := rfl
    omega
  obtain ⟨k, h', m', fr', D', M', I', X', lf', c', u1, u2, u3, u4, u5, u6, u7, u8, u9, v1, v2, v4, v5, v6⟩ := c_b60 r0 rd rN' B Q' h7 C1 C2 hv i1 i2 i0 hm' rN rZ
  have hk : k ∈ l1 ++ (k :: l2) := List.mem_append.2 (Or.inr List.mem_cons_self)
  refine ⟨k, h', ((m', fr'), D', M', I', X', l1 ++ (k :: l2), lf'), u1, ⟨u2, by rw [u4]; exact u5⟩, u3, hk, u6.1, v1, ⟨?_, u8, ?_, v2, v4, v5, v6⟩, fun j hj => ?_⟩
  · rw [hl]; exact u7
  · rw [hl]; exact u9
  · show G ≤ I' j ∧ I' j ≤ H
    rcases List.mem_append.1 hj with z | z
    · rw [show I' j = s.I j from u6.2 j (List.mem_append.2 (Or.inl z))]
      exact kH j (by rw [hl]; exact List.mem_append.2 (Or.inl z))
    · rcases List.mem_cons.1 z with z | z
      · rw [z, show I' k = i from u6.1]; exact iH
      · rw [show I' j = s.I j from u6.2 j (List.mem_append.2 (Or.inr z))]
        exact kH j (by rw [hl]; exact List.mem_append.2 (Or.inr z))
theorem c_bsearch {c kk v3 i G H : Int} {l1 l2 : List Nat} {n : Nat} {S : Nat → Prop} {W : Nat → Int} (r0 : r ≠ 0) (rd : ¬ BlD h o r) (rN' : r < hN h) (B : BlI h o s.m oth s.fr s.D s.M s.I s.X (l1 ++ l2) s.lf) (hl : s.l = l1 ++ l2) (Q : BS s S W) (h7 : hI h r 7 = c) (C1 : ChP s.X c l1 kk) (C2 : ChX s.X kk l2) (hv : (l1 = [] ∧ v3 = -1) ∨ ∃ (l0 : List Nat) (q : Nat), l1 = l0 ++ [q] ∧ v3 = (q : Int)) (i1 : enI s.I (-1) l1 < i) (i0 : 0 ≤ i) (iH : G ≤ i ∧ i ≤ H) (kH : ∀ k, k ∈ s.l → G ≤ s.I k ∧ s.I k ≤ H) (hm : oth + H < 2048) (rN : hN h + blN h o ≤ CN) (rZ : hZ h + blZ h o ≤ CZ) (hn : l2.length < n) :
    ∃ (k : Nat) (h' : Hp) (s' : BSt), f_cBlocks_block_b8_lp n o r i v3 kk h = some ((k : Int), h') ∧ BI h' o oth r s' ∧ BS s' S W ∧ k ∈ s'.l ∧ s'.I k = i ∧ (∀ y, y ≠ 7 → hI h' r y = hI h r y) ∧ BK o r h h' s s' ∧ (∀ k, k ∈ s'.l → G ≤ s'.I k ∧ s'.I k ≤ H) := by
  induction n generalizing l1 l2 v3 kk with
  | zero => exact absurd hn (Nat.not_lt_zero _)
  | succ n ih =>
    unfold f_cBlocks_block_b8_lp f_cBlocks_block_b8 f_cBlocks_block_b40
    cases l2 with
    | nil =>
      have k1 : kk = -1 := C2
      rw [if_pos k1, if_pos k1]
      exact c_bs60 r0 rd rN' B hl Q h7 C1 C2 hv i1 i0 iH kH hm rN rZ (fun k hk => by cases hk)
    | cons k l' =>
      have R2 := (InL.app.1 B.2.2.2.2.1).2
      have kl : k ∈ s.l := by rw [hl]; exact List.mem_append.2 (Or.inr List.mem_cons_self)
      have km : k < s.m := B.2.2.2.1 k (List.mem_append.2 (Or.inl (by rw [← hl]; exact kl)))
      have xk := B.1.xk km
      obtain ⟨yz, yi, yv, yd⟩ := B.1.i
      have kk0 : kk = (k : Int) := C2.1
      have kn : kk ≠ -1 := by omega
      have ee := yv k km
      rw [if_neg kn, if_neg yz.2.2.1, if_neg kn, if_neg yz.2.2.1, kk0, if_pos xk.2.1, if_pos xk.2.1, if_neg yz.2.2.2, if_pos xk.2.2, Int.toNat_natCast, lt1_eq, ee.2.1, ee.2.2, ← kk0]
      by_cases z : i ≤ s.I k
      · rw [if_pos z]
        by_cases w : s.I k = i
        · rw [if_neg (fun q => q w), kk0]
          refine ⟨k, h, s, rfl, ⟨by rw [hl]; exact B, by rw [h7, hl]; exact C1.app C2⟩, Q, kl, w, fun _ _ => rfl, BK.rf, kH⟩
        · rw [if_pos w]
          refine c_bs60 r0 rd rN' B hl Q h7 C1 C2 hv i1 i0 iH kH hm rN rZ (fun j hj => ?_)
          rcases List.mem_cons.1 hj with q | q
          · rw [q]; omega
          · have := R2.2.gt j q; omega
      · rw [if_neg z]
        have e : l1 ++ (k :: l') = (l1 ++ [k]) ++ l' := by rw [List.append_assoc]; rfl
        have C1' : ChP s.X c (l1 ++ [k]) (s.X k) := C1.app ⟨kk0, rfl⟩
        rw [e] at B
        have hn' : l'.length < n := by rw [List.length_cons] at hn; omega
        rw [kk0]
        exact ih (l1 := l1 ++ [k]) (l2 := l') B (by rw [hl, e]) C1' C2.2 (Or.inr ⟨l1, k, rfl, rfl⟩) (by rw [enI_sn]; omega) hn'
end
