/-! spans: cut -/
section
variable {p : Nat} {a b : Int}
/-- what a step of cut needs -/
def SpI (h : Hp) (p m : Nat) (fr : Int) (F T X : Nat → Int) (l lf : List Nat) : Prop := SpP h p m fr F T X ∧ ChX X fr lf ∧ (l ++ lf).Nodup ∧ (∀ k, k ∈ l ++ lf → k < m) ∧ RnL F T (-1) l
/-- what it leaves, of the list l -/
def SpO (h h' : Hp) (p m : Nat) (F T X : Nat → Int) (l lf : List Nat) (S : Int → Prop) (c' : Int) : Prop := ∃ l' lf' m' fr' F' T' X', SpI h' p m' fr' F' T' X' l' lf' ∧ ChX X' c' l' ∧ (∀ j, inS F' T' l' j ↔ S j) ∧ (∀ k, k ∉ l → k ∉ lf → k < m → F' k = F k ∧ T' k = T k ∧ X' k = X k) ∧ (∀ k, k ∈ l' ++ lf' → k ∈ l ++ lf ∨ m ≤ k) ∧ m ≤ m' ∧ l'.length + lf'.length + m = l.length + lf.length + m' ∧ SpG p h h' ∧ hN h' + spN h' p ≤ hN h + spN h p ∧ hZ h' + spZ h' p ≤ hZ h + spZ h p
theorem mem3 {l1 l2 lf : List Nat} {k j : Nat} : j ∈ (l1 ++ (k :: l2)) ++ lf ↔ j ∈ l1 ∨ j = k ∨ j ∈ l2 ∨ j ∈ lf := by
  simp only [List.mem_append, List.mem_cons]
  constructor
  · rintro ((z | z | z) | z)
    · exact Or.inl z
    · exact Or.inr (Or.inl z)
    · exact Or.inr (Or.inr (Or.inl z))
    · exact Or.inr (Or.inr (Or.inr z))
  · rintro (z | z | z | z)
    · exact Or.inl (Or.inl z)
    · exact Or.inl (Or.inr (Or.inl z))
    · exact Or.inl (Or.inr (Or.inr z))
    · exact Or.inr z
/-- nodes of l1, k, l2, lf are all different -/
theorem nod3 {l1 l2 lf : List Nat} {k : Nat} (nd : ((l1 ++ (k :: l2)) ++ lf).Nodup) : k ∉ l1 ∧ k ∉ l2 ∧ k ∉ lf ∧ l1.Nodup ∧ l2.Nodup ∧ lf.Nodup ∧ (∀ j, j ∈ l1 → j ∉ l2 ∧ j ∉ lf) ∧ (∀ j, j ∈ l2 → j ∉ lf) := by
  obtain ⟨n1, n2, n3⟩ := List.nodup_append.1 nd
  obtain ⟨n4, n5, n6⟩ := List.nodup_append.1 n1
  obtain ⟨n7, n8⟩ := List.nodup_cons.1 n5
  refine ⟨fun z => n6 k z k List.mem_cons_self rfl, n7, fun z => n3 k (List.mem_append.2 (Or.inr List.mem_cons_self)) k z rfl, n4, n8, n2, fun j hj => ⟨fun z => n6 j hj j (List.mem_cons_of_mem _ z) rfl, fun z => n3 j (List.mem_append.2 (Or.inl hj)) j z rfl⟩, fun j hj z => n3 j (List.mem_append.2 (Or.inr (List.mem_cons_of_mem _ hj))) j z rfl⟩
/-- a loop's step when the rest lies at b or above -/
theorem c_scutE {h : Hp} {m : Nat} {fr v4 v5 kk : Int} {F T X : Nat → Int} {l2 : List Nat} {f : Nat} (P : SpP h p m fr F T X) (C : ChX X kk l2) (mm : ∀ k, k ∈ l2 → k < m) (e : ∀ k, k ∈ l2 → b ≤ F k) : f_cSpans_cut_b9_lp (f + 1) p a b v4 v5 kk h = some (v4, h) := by
  show f_cSpans_cut_b9 (f_cSpans_cut_b9_lp f) p a b v4 v5 kk h = _
  unfold f_cSpans_cut_b9
  cases l2 with
  | nil =>
    have ek : kk = -1 := C
    rw [if_pos ek]
  | cons k l =>
    have ek := C.1
    obtain ⟨z0, z1, z2, pi, pv⟩ := P.i
    have hk := mm k List.mem_cons_self
    rw [ek, if_neg (show ¬ (k : Int) = -1 by omega), if_neg z0, if_pos (P.xk hk).1, Int.toNat_natCast, (pv k hk).1, if_pos (e k List.mem_cons_self)]
/-- the step itself -/
theorem c_scutS {h : Hp} {m k : Nat} {fr v4 v5 : Int} {F T X : Nat → Int} {f : Nat} (P : SpP h p m fr F T X) (hk : k < m) (hb : F k < b) : f_cSpans_cut_b9_lp (f + 1) p a b v4 v5 (k : Int) h =
    if a ≤ F k ∧ T k ≤ b then f_cSpans_cut_b62 (f_cSpans_cut_b9_lp f) p a b v4 v5 (k : Int) (X k) 1 h
    else if T k ≤ a then f_cSpans_cut_b9_lp f p a b v4 (k : Int) (X k) h
    else b1 (f_cSpans_trim p (k : Int) a b h) fun h11 => f_cSpans_cut_b9_lp f p a b v4 (k : Int) (X k) h11 := by
  obtain ⟨z0, z1, z2, pi, pv⟩ := P.i
  have x := P.xk hk
  have vk := pv k hk
  have b61 : f_cSpans_cut_b61 (f_cSpans_cut_b9_lp f) p a b v4 v5 (k : Int) (X k) h = if T k ≤ a then f_cSpans_cut_b9_lp f p a b v4 (k : Int) (X k) h else b1 (f_cSpans_trim p (k : Int) a b h) fun h11 => f_cSpans_cut_b9_lp f p a b v4 (k : Int) (X k) h11 := by
    unfold f_cSpans_cut_b61 f_cSpans_cut_b62 f_cSpans_cut_b119 f_cSpans_cut_b123
    rw [if_pos rfl, if_neg z1, if_pos x.2.1, Int.toNat_natCast, vk.2.1]
  show f_cSpans_cut_b9 (f_cSpans_cut_b9_lp f) p a b v4 v5 (k : Int) h = _
  unfold f_cSpans_cut_b9
  rw [if_neg (show ¬ (k : Int) = -1 by omega), if_neg z0, if_pos x.1, Int.toNat_natCast, vk.1, if_neg (show ¬ b ≤ F k by omega), if_neg z2, if_pos x.2.2, vk.2.2, lt1_eq, if_pos x.1]
  by_cases c1 : F k < a
  · rw [if_pos c1, if_neg (show ¬ (a ≤ F k ∧ T k ≤ b) by omega), b61]
  · rw [if_neg c1, if_neg z1, if_pos x.2.1, vk.2.1]
    by_cases c2 : b < T k
    · rw [if_pos c2, if_neg (show ¬ (a ≤ F k ∧ T k ≤ b) by omega), b61]
    · rw [if_neg c2, if_pos (show a ≤ F k ∧ T k ≤ b by omega)]
/-- trim: what is above a goes, but for what is at b or above -/
theorem c_strim {h : Hp} {m k : Nat} {fr : Int} {F T X : Nat → Int} (P : SpP h p m fr F T X) (hk : k < m) (hfr : fr = -1 ∨ (0 ≤ fr ∧ fr < m)) (hm2 : fr = -1 → m < 131072) (nk : fr ≠ (k : Int)) (rN : hN h + spN h p ≤ CN) (rZ : hZ h + spZ h p ≤ CZ) :
    ∃ h', f_cSpans_trim p (k : Int) a b h = some h' ∧ SpG p h h' ∧ hN h' + spN h' p ≤ hN h + spN h p ∧ hZ h' + spZ h' p ≤ hZ h + spZ h p ∧
      (a ≤ F k → SpP h' p m fr (up1 F k b) T X) ∧ (F k < a → T k ≤ b → SpP h' p m fr F (up1 T k a) X) ∧
      (F k < a → b < T k → ∃ n m' fr', (fr = -1 → n = m ∧ m' = m + 1 ∧ fr' = -1) ∧ (fr ≠ -1 → ((n : Nat) : Int) = fr ∧ m' = m ∧ fr' = X n) ∧ SpP h' p m' fr' (up1 F n b) (up1 (up1 T n (T k)) k a) (up1 (up1 X n (X k)) k (n : Int))) := by
  obtain ⟨z0, z1, z2, pi, pv⟩ := P.i
  have x := P.xk hk
  have vk := pv k hk
  unfold f_cSpans_trim f_cSpans_trim_b55
  rw [if_neg z0, if_pos x.1, Int.toNat_natCast, vk.1]
  by_cases c1 : F k < a
  · rw [if_pos c1, if_neg z1, if_pos x.2.1, vk.2.1]
    by_cases c2 : T k ≤ b
    · rw [if_pos c2, if_neg z1, if_pos x.2.1, lt1_eq]
      exact ⟨_, rfl, SpG.sI (Or.inr (Or.inr (Or.inl rfl))), Nat.le_refl _, Nat.le_refl _, fun z => by omega, fun _ _ => P.sT hk, fun _ z => by omega⟩
    · obtain ⟨n, m', fr', h2, u1, u2, u3, P2, G2, rn2, rz2⟩ := c_smake (a := b) (b := T k) (c := X k) P hfr hm2 rN rZ
      have hk2 : k < m' := by
        by_cases q : fr = -1
        · have := u2 q; omega
        · have := u3 q; omega
      have x2 := P2.xk hk2
      obtain ⟨y0, y1, y2, yi, yv⟩ := P2.i
      have Q1 := P2.sX (v := (n : Int)) hk2
      have x3 := Q1.xk hk2
      obtain ⟨w0, w1, w2, wi, wv⟩ := Q1.i
      rw [if_neg c2, if_pos x.2.1, if_neg z2, if_pos x.2.2, vk.2.2, u1, b2_some, if_neg y2, if_pos x2.2.2, lt1_eq, if_neg w1, if_pos x3.2.1, lt1_eq]
      refine ⟨_, rfl, (G2.tr (SpG.sI (Or.inr (Or.inr (Or.inr rfl))))).tr (SpG.sI (Or.inr (Or.inr (Or.inl rfl)))), rn2, rz2, fun z => by omega, fun _ z => by omega, fun _ _ => ⟨n, m', fr', u2, u3, Q1.sT hk2⟩⟩
  · rw [if_neg c1, if_pos x.1, lt1_eq]
    exact ⟨_, rfl, SpG.sI (Or.inr (Or.inl rfl)), Nat.le_refl _, Nat.le_refl _, fun _ => P.sF hk, fun z => by omega, fun z => by omega⟩
end
