/-! spans: add, its loops -/
section
variable {p m : Nat} {F T : Nat → Int} {a v1 : Int}
theorem SpP.i {h : Hp} {fr : Int} {X : Nat → Int} (P : SpP h p m fr F T X) : hR h p 0 ≠ 0 ∧ hR h p 1 ≠ 0 ∧ hR h p 2 ≠ 0 ∧ (hI h p 3 = (m : Int) ∧ hI h p 4 = fr) ∧ ∀ k, k < m → hI h (hR h p 0) k = F k ∧ hI h (hR h p 1) k = T k ∧ hI h (hR h p 2) k = X k := ⟨P.2.2.1.1.1, P.2.2.1.2.1.1, P.2.2.1.2.2.1, P.2.1, P.2.2.2.2.2⟩
theorem c_sadd2 {v4 lo : Int} : ∀ (l2 : List Nat) (f : Nat) (kk : Int) (lf : List Nat) (X : Nat → Int) (fr low high : Int) (h : Hp), SpP h p m fr F T X → ChX X kk l2 → ChX X fr lf → (l2 ++ lf).Nodup → (∀ k, k ∈ l2 ++ lf → k < m) → RnL F T lo l2 → (∀ k, k ∈ l2 → low ≤ T k) → lo < low → low < high → l2.length < f →
    ∃ l3 l4 X' fr' low' high' kk' h', l2 = l3 ++ l4 ∧ f_cSpans_add_b45_lp f p v1 v4 kk low high h = f_cSpans_add_b113 p v1 v4 kk' low' high' h' ∧ SpP h' p m fr' F T X' ∧ ChX X' kk' l4 ∧ ChX X' fr' (l3.reverse ++ lf) ∧ (∀ k, k ∉ l3 → X' k = X k) ∧ RnL F T high' l4 ∧ (lo < low' ∧ low' ≤ low ∧ low' < high') ∧ (∀ j, (low' ≤ j ∧ j < high') ↔ (low ≤ j ∧ j < high) ∨ inS F T l3 j) ∧ SpG p h h' ∧ (hN h' = hN h ∧ hZ h' = hZ h ∧ hR h' = hR h ∧ ln h' = ln h) := by
  intro l2
  induction l2 with
  | nil =>
    intro f kk lf X fr low high h P C Cf nd mm R lt h1 h2 h3
    obtain ⟨f, rfl⟩ : ∃ f', f = f' + 1 := ⟨f - 1, by omega⟩
    have ek : kk = -1 := C
    refine ⟨[], [], X, fr, low, high, kk, h, rfl, ?_, P, C, Cf, fun _ _ => rfl, trivial, ⟨h1, Int.le_refl _, h2⟩, fun j => ⟨fun z => Or.inl z, fun z => z.elim (fun y => y) (fun y => absurd y inS_nil)⟩, SpG.rf, rfl, rfl, rfl, rfl⟩
    show f_cSpans_add_b45 (f_cSpans_add_b45_lp f) p v1 v4 kk low high h = _
    unfold f_cSpans_add_b45
    rw [if_pos ek]
  | cons k l ih =>
    intro f kk lf X fr low high h P C Cf nd mm R lt h1 h2 h3
    obtain ⟨f, rfl⟩ : ∃ f', f = f' + 1 := ⟨f - 1, by omega⟩
    obtain ⟨ek, C'⟩ := C
    obtain ⟨r1, r2, r3⟩ := R
    have hk : k < m := mm k (List.mem_append.2 (Or.inl List.mem_cons_self))
    obtain ⟨z0, z1, z2, pi, pv⟩ := P.i
    have x := P.xk hk
    have vk := pv k hk
    have step : f_cSpans_add_b45_lp (f + 1) p v1 v4 kk low high h = if high < F k then f_cSpans_add_b113 p v1 v4 kk low high h else (b1 (f_cSpans_release p (k : Int) h) fun h16 => f_cSpans_add_b45_lp f p v1 v4 (X k) (min low (F k)) (max high (T k)) h16) := by
      show f_cSpans_add_b45 (f_cSpans_add_b45_lp f) p v1 v4 kk low high h = _
      unfold f_cSpans_add_b45
      rw [ek, if_neg (show ¬ (k : Int) = -1 by omega), if_neg z0, if_pos x.1, Int.toNat_natCast, vk.1, if_pos x.1, lt1_eq, if_neg z1, if_pos x.2.1, lt1_eq, vk.2.1, if_neg z2, if_pos x.2.2, lt1_eq, vk.2.2]
    rw [step]
    by_cases c : high < F k
    · rw [if_pos c]
      refine ⟨[], k :: l, X, fr, low, high, kk, h, rfl, rfl, P, ⟨ek, C'⟩, Cf, fun _ _ => rfl, ⟨c, r2, r3⟩, ⟨h1, Int.le_refl _, h2⟩, fun j => ⟨fun z => Or.inl z, fun z => z.elim (fun y => y) (fun y => absurd y inS_nil)⟩, SpG.rf, rfl, rfl, rfl, rfl⟩
    · rw [if_neg c]
      have nd' : (k :: (l ++ lf)).Nodup := nd
      have kn := (List.nodup_cons.1 nd').1
      have kl : k ∉ l := fun z => kn (List.mem_append.2 (Or.inl z))
      have kf : k ∉ lf := fun z => kn (List.mem_append.2 (Or.inr z))
      obtain ⟨g, eg, Pg, Gg, sg⟩ := c_srel P hk
      have ltk := lt k List.mem_cons_self
      obtain ⟨l3, l4, X', fr', low', high', kk', h', e1, e2, e3, e4, e5, e6, e7, e8, e9, e10, e11⟩ := ih f (X k) (k :: lf) (up1 X k fr) (k : Int) (min low (F k)) (max high (T k)) g Pg (C'.up kl) ⟨rfl, by rw [up1_eq]; exact Cf.up kf⟩ (List.perm_middle.nodup_iff.2 nd') (fun j hj => by
        rcases List.mem_append.1 hj with z | z
        · exact mm j (List.mem_append.2 (Or.inl (List.mem_cons_of_mem _ z)))
        · rcases List.mem_cons.1 z with y | y
          · rw [y]; exact hk
          · exact mm j (List.mem_append.2 (Or.inr y))) (r3.dn (by omega)) (fun j hj => by have := lt j (List.mem_cons_of_mem _ hj); omega) (by omega) (by omega) (by rw [List.length_cons] at h3; omega)
      refine ⟨k :: l3, l4, X', fr', low', high', kk', h', by rw [e1]; rfl, by rw [eg, b1_some]; exact e2, e3, e4, ?_, fun j hj => ?_, e7, ⟨e8.1, by omega, e8.2.2⟩, fun j => ?_, Gg.tr e10, e11.1.trans sg.1, e11.2.1.trans sg.2.1, e11.2.2.1.trans sg.2.2.1, e11.2.2.2.trans sg.2.2.2⟩
      · rw [List.reverse_cons, List.append_assoc]; exact e5
      · rw [e6 j (fun z => hj (List.mem_cons_of_mem _ z)), up1_ne (fun z => hj (by rw [z]; exact List.mem_cons_self))]
      · rw [e9 j, inS_cons]
        constructor
        · rintro (z | z)
          · by_cases q : low ≤ j ∧ j < high
            · exact Or.inl q
            · exact Or.inr (Or.inl (by omega))
          · exact Or.inr (Or.inr z)
        · rintro (z | z | z)
          · exact Or.inl (by omega)
          · exact Or.inl (by omega)
          · exact Or.inr z
theorem c_sadd1 {X : Nat → Int} {fr v6 v7 : Int} {h : Hp} (P : SpP h p m fr F T X) : ∀ (l : List Nat) (f : Nat) (kk v4 : Int), ChX X kk l → (∀ k, k ∈ l → k < m) → l.length < f →
    ∃ (l1 l2 : List Nat) (kk' v4' : Int), l = l1 ++ l2 ∧ f_cSpans_add_b12_lp f p v1 a v4 kk v6 v7 h = f_cSpans_add_b45_lp FU p v1 v4' kk' v6 v7 h ∧ ChP X kk l1 kk' ∧ ChX X kk' l2 ∧ (∀ k, k ∈ l1 → T k < a) ∧ (l2 = [] ∨ ∃ k l', l2 = k :: l' ∧ a ≤ T k) ∧ ((l1 = [] ∧ v4' = v4) ∨ ∃ (l0 : List Nat) (k : Nat), l1 = l0 ++ [k] ∧ v4' = (k : Int)) := by
  obtain ⟨F0, hF⟩ : ∃ F0, F0 = FU := ⟨FU, rfl⟩
  rw [← hF]
  intro l
  induction l with
  | nil =>
    intro f kk v4 C mm hf
    obtain ⟨f, rfl⟩ : ∃ f', f = f' + 1 := ⟨f - 1, by omega⟩
    have ek : kk = -1 := C
    refine ⟨[], [], kk, v4, rfl, ?_, rfl, C, (fun k hk => by cases hk), Or.inl rfl, Or.inl ⟨rfl, rfl⟩⟩
    show f_cSpans_add_b12 (f_cSpans_add_b12_lp f) p v1 a v4 kk v6 v7 h = _
    unfold f_cSpans_add_b12
    rw [if_pos ek, hF]
  | cons k l ih =>
    intro f kk v4 C mm hf
    obtain ⟨f, rfl⟩ : ∃ f', f = f' + 1 := ⟨f - 1, by omega⟩
    obtain ⟨ek, C'⟩ := C
    have hk : k < m := mm k List.mem_cons_self
    obtain ⟨z0, z1, z2, pi, pv⟩ := P.i
    have x := P.xk hk
    have vk := pv k hk
    have step : f_cSpans_add_b12_lp (f + 1) p v1 a v4 kk v6 v7 h = if a ≤ T k then f_cSpans_add_b45_lp F0 p v1 v4 kk v6 v7 h else f_cSpans_add_b12_lp f p v1 a kk (X k) v6 v7 h := by
      show f_cSpans_add_b12 (f_cSpans_add_b12_lp f) p v1 a v4 kk v6 v7 h = _
      unfold f_cSpans_add_b12
      rw [ek, if_neg (show ¬ (k : Int) = -1 by omega), if_neg z1, if_pos x.2.1, Int.toNat_natCast, vk.2.1, if_neg z2, if_pos x.2.2, vk.2.2, lt1_eq, ← hF]
    rw [step]
    by_cases c : a ≤ T k
    · rw [if_pos c]
      exact ⟨[], k :: l, kk, v4, rfl, rfl, rfl, ⟨ek, C'⟩, (fun j hj => by cases hj), Or.inr ⟨k, l, rfl, c⟩, Or.inl ⟨rfl, rfl⟩⟩
    · rw [if_neg c]
      obtain ⟨l1, l2, kk', v4', e1, e2, e3, e4, e5, e6, e7⟩ := ih f (X k) kk C' (fun j hj => mm j (List.mem_cons_of_mem _ hj)) (by rw [List.length_cons] at hf; omega)
      refine ⟨k :: l1, l2, kk', v4', by rw [e1]; rfl, e2, ⟨ek, e3⟩, e4, fun j hj => ?_, e6, ?_⟩
      · rcases List.mem_cons.1 hj with z | z
        · rw [z]; omega
        · exact e5 j z
      · right
        rcases e7 with ⟨q1, q2⟩ | ⟨l0, q, q1, q2⟩
        · exact ⟨[], k, by rw [q1]; rfl, by rw [q2, ek]⟩
        · exact ⟨k :: l0, q, by rw [q1]; rfl, q2⟩
end
