/-! the book: what was found is told -/
section
variable {hc hm : Hp} {a m s n b : Nat} {w : Nat → Nat}
theorem j_next (B : BkR hc a w hm m) (hs : s < 3) (hn : hI hm (m + 1) s = (n : Int)) (hb : b < 2) : wp (f_cQueue_next (a + 6 + 11 * s + 4 + 2 * b) hc) (fun o => wp (f_mBook_next m (s : Int) (b : Int) hm) (fun p => o.1 = p.1 ∧ BkR o.2 a w p.2 m ∧ OnI hc o.2 ∧ OnI hm p.2 ∧ (o.1 = -1 ∨ (0 ≤ o.1 ∧ o.1 < n)) ∧ (∀ x y, x ≠ a + 6 + 11 * s + 4 + 2 * b → hI o.2 x y = hI hc x y) ∧ ∀ x y, ¬ (x = m + 14 ∧ y = 2 * s + b) → hI p.2 x y = hI hm x y)) := by
  obtain ⟨tm, sz, mk, fo, W, K1, K2, Q, S, TT⟩ := SpR.opn B hs hn
  have L := B.1.1
  have LM := B.1.2
  have a0 := L.1
  have m0 := LM.1
  have bw := B.2.1
  have wa := B.2.2.1
  have BB := B.2.2.2.2.2
  obtain ⟨l, el⟩ : ∃ l, l = 2 * s + b := ⟨_, rfl⟩
  obtain ⟨p, ep⟩ : ∃ p, p = a + 6 + 11 * s := ⟨_, rfl⟩
  obtain ⟨q, eq⟩ : ∃ q, q = a + 6 + 11 * s + 4 + 2 * b := ⟨_, rfl⟩
  have hq : q = p + 4 ∧ b = 0 ∨ q = p + 6 ∧ b = 1 := by lia
  rw [← eq, ← el]
  rw [← ep] at W K1 Q S
  have W0 := W
  obtain ⟨w1, w2, w3, w4, w5, w6, w7, w8, w9, w10, w11, w0⟩ := W
  have x6 : ix (l : Int) 6 := ⟨by lia, by lia⟩
  have ey : w32 (w32 (2 * (s : Int)) + (b : Int)) = (l : Int) := by unfold w32; lia
  have mn : f_mBook_next m (s : Int) (b : Int) hm = f_mBook_next_b12 m (w32 (2 * (s : Int))) (b : Int) hm := by
    unfold f_mBook_next
    rcases (show b = 0 ∨ b = 1 by lia) with rfl | rfl
    · exact if_pos rfl
    · exact if_neg (by decide)
  obtain ⟨f0, e0, V0, f1, e1, V1, Q0, Q1, qa, qz⟩ := Q
  have ext : ∃ f e V, QuC hc q f e V ∧ ((f = e ∧ hI hm (m + 14) l = hI hm (m + 13) l) ∨ (f ≠ e ∧ hI hm (m + 9) s = 0 ∧ QMs hm m l f e V ∧ ∀ j, j < e → 0 ≤ V j ∧ V j < n)) := by
    rcases hq with ⟨h1, h2⟩ | ⟨h1, h2⟩
    · have el0 : l = 2 * s := by lia
      refine ⟨f0, e0, V0, by rw [h1]; exact Q0, ?_⟩
      by_cases c : f0 = e0
      · refine Or.inl ⟨c, ?_⟩
        rw [el0]
        by_cases d : hI hm (m + 9) s = 0
        · rw [(qa d).1.1, (qa d).1.2.1, c]
        · exact (qz d).2.2.1
      · by_cases d : hI hm (m + 9) s = 0
        · exact Or.inr ⟨c, d, by rw [el0]; exact (qa d).1, (qa d).2.2.2.1⟩
        · exact absurd (qz d).1 c
    · have el1 : l = 2 * s + 1 := by lia
      refine ⟨f1, e1, V1, by rw [h1]; exact Q1, ?_⟩
      by_cases c : f1 = e1
      · refine Or.inl ⟨c, ?_⟩
        rw [el1]
        by_cases d : hI hm (m + 9) s = 0
        · rw [(qa d).2.1.1, (qa d).2.1.2.1, c]
        · exact (qz d).2.2.2.1
      · by_cases d : hI hm (m + 9) s = 0
        · exact Or.inr ⟨c, d, by rw [el1]; exact (qa d).2.1, (qa d).2.2.2.2⟩
        · exact absurd (qz d).2.1 c
  obtain ⟨f, e, V, QC, alt⟩ := ext
  have QC0 := QC
  obtain ⟨q1, q2, q3, q4, ⟨z1, z2, z3, z4, z5⟩, q5, q6, q7, q8⟩ := QC
  rcases alt with ⟨c, cm⟩ | ⟨c, d, QM, vb⟩
  · unfold f_cQueue_next
    rw [q1, q2, if_neg (show ¬ ((f : Int) ≠ (e : Int)) by lia), wp_some, mn]
    unfold f_mBook_next_b12
    rw [ey, lt1_eq, LM.r0_17, if_neg (show ¬ (m + 14 = 0) by lia), LM.l14, if_pos x6, LM.r0_16, if_neg (show ¬ (m + 13 = 0) by lia), LM.l13, if_pos x6, Int.toNat_natCast, if_neg (fun h => h cm), wp_some]
    exact ⟨rfl, B, OnI.refl, OnI.refl, Or.inl rfl, fun _ _ _ => rfl, fun _ _ _ => rfl⟩
  · obtain ⟨u1, u2, u3⟩ := QM
    have fe : (f : Int) ≠ (e : Int) := by lia
    obtain ⟨h1, eh⟩ : ∃ h1, h1 = sI hc q 1 ((f + 1 : Nat) : Int) := ⟨_, rfl⟩
    obtain ⟨m1, em⟩ : ∃ m1, m1 = sI hm (m + 14) l ((f + 1 : Nat) : Int) := ⟨_, rfl⟩
    have O1 : OnI hc h1 := by rw [eh]; exact OnI.refl.s
    have M1 : OnI hm m1 := by rw [em]; exact OnI.refl.s
    have hI1 : ∀ x y, x ≠ q → hI h1 x y = hI hc x y := fun x y h => by rw [eh, hI_sI, if_neg (fun z => h z.1)]
    have mI : ∀ x y, ¬ (x = m + 14 ∧ y = l) → hI m1 x y = hI hm x y := fun x y h => by rw [em, hI_sI, if_neg h]
    have m14 : hI m1 (m + 14) l = ((f + 1 : Nat) : Int) := by rw [em, hI_sI, if_pos ⟨rfl, rfl⟩]
    have MO := MBk.of LM M1.r M1.l
    have xf : ix (f : Int) (ln hc (hR hc q 0)) := ⟨by lia, by lia⟩
    have vf : hI h1 (hR hc q 0) f = V f := by rw [hI1 _ _ z3]; exact q8 f (by lia)
    have ei : w32 (w32 (w32 (4096 * (l : Int)) + ((f + 1 : Nat) : Int)) - 1) = ((4096 * l + f : Nat) : Int) := by unfold w32; lia
    have xq : ix ((4096 * l + f : Nat) : Int) 24576 := ⟨by lia, by lia⟩
    have vm : hI m1 (m + 12) (4096 * l + f) = V f := by rw [mI _ _ (by lia)]; exact u3 f (by lia)
    unfold f_cQueue_next
    rw [q1, q2, if_pos fe, w_k1 (show f < 1000000000 by lia), lt1_eq, ← eh, if_neg z2, O1.l, if_pos xf, Int.toNat_natCast, vf, wp_some, mn]
    unfold f_mBook_next_b12
    rw [ey, lt1_eq, LM.r0_17, if_neg (show ¬ (m + 14 = 0) by lia), LM.l14, if_pos x6, LM.r0_16, if_neg (show ¬ (m + 13 = 0) by lia), LM.l13, if_pos x6, Int.toNat_natCast, u1, u2, if_pos fe, if_pos x6, if_pos x6, w_k1 (show f < 1000000000 by lia), lt1_eq, ← em, M1.r, LM.r0_17, if_neg (show ¬ (m + 14 = 0) by lia), M1.l, LM.l14, if_pos x6, LM.r0_15, if_neg (show ¬ (m + 12 = 0) by lia), m14, ei, LM.l12, if_pos xq, Int.toNat_natCast, vm, wp_some]
    have QN : QuC h1 q (f + 1) e V := by rw [eh]; exact QC0.nxt c
    have K2' : PkM m1 m s n tm sz mk fo := by
      obtain ⟨⟨_, g0⟩, k1, k2, k3, k4, k5, k6⟩ := K2
      refine ⟨⟨MO, g0⟩, by rw [mI _ _ (by lia)]; exact k1, by rw [mI _ _ (by lia)]; exact k2, k3, k4, fun k hk => ?_, k6⟩
      rw [mI _ _ (by lia), mI _ _ (by lia), mI _ _ (by lia), mI _ _ (by lia), mI _ _ (by lia), mI _ _ (by lia)]
      exact k5 k hk
    have d' : hI m1 (m + 9) s = 0 := by rw [mI _ _ (by lia)]; exact d
    have T0 : hI m1 m 0 = hI hm m 0 := mI _ _ (by lia)
    have MF : ∀ s', s' < 3 → s' ≠ s → MFs hm m1 m s' := fun s' g1 g2 => ⟨fun i y hi hy => mI _ _ (by lia), fun i y _ _ hy => mI _ _ (by lia), fun i y hi hy => mI _ _ (by lia), fun y hy => mI _ _ (by lia), fun _ => MO⟩
    have fl : ∀ s', s' < 3 → flM m1 m s' = flM hm m s' ∧ dnM m1 m s' = dnM hm m s' := fun s' g1 => by
      by_cases cs : s' = s
      · rw [cs, K2'.fl.1, K2.fl.1, K2'.fl.2, K2.fl.2]
        unfold flS
        rw [if_pos d', if_pos d]; exact ⟨rfl, rfl⟩
      · exact flM_fr (B.2.2.2.1 s' g1) (MF s' g1 cs)
    have wq : w q = 10 * s + 15 ∨ w q = 10 * s + 17 := by
      rcases hq with ⟨g1, _⟩ | ⟨g1, _⟩
      · rw [g1]; exact Or.inl w5
      · rw [g1]; exact Or.inr w7
    have ne : ∀ x, w x ≠ 10 * s + 15 → w x ≠ 10 * s + 17 → x ≠ q := fun x g1 g2 g3 => by rw [g3] at g1 g2; lia
    have hS : ∀ x y, w x ≠ 10 * s + 15 → w x ≠ 10 * s + 17 → hI h1 x y = hI hc x y := fun x y g1 g2 => hI1 x y (ne x g1 g2)
    obtain ⟨qa1, qa2, qa3, qa4, qa5⟩ := qa d
    have qs : ∀ l' f' e' V', l' ≠ l → QMs hm m l' f' e' V' → QMs m1 m l' f' e' V' := fun l' f' e' V' g t => ⟨by rw [mI _ _ (by lia)]; exact t.1, by rw [mI _ _ (by lia)]; exact t.2.1, fun j hj => by rw [mI _ _ (by lia)]; exact t.2.2 j hj⟩
    have qn : QMs m1 m l (f + 1) e V := ⟨m14, by rw [mI _ _ (by lia)]; exact u2, fun j hj => by rw [mI _ _ (by lia)]; exact u3 j hj⟩
    have SP : SpR h1 p w m1 m s (hI m1 m 0) := by
      rw [T0]
      refine ⟨n, tm, sz, mk, fo, W0.on O1, K1.on O1 (fun x hx y => ?_), K2', ?_, ?_, TT⟩
      · rcases hx with g | g | g | g
        · rw [g]; exact hS _ _ (by lia) (by lia)
        · rw [g]; exact hS _ _ (by lia) (by lia)
        · rw [g]; exact hS _ _ (by lia) (by lia)
        · rw [g]; exact hS _ _ (by lia) (by lia)
      · rcases hq with ⟨g1, g2⟩ | ⟨g1, g2⟩
        · have el0 : l = 2 * s := by lia
          have ee : e = e0 := by have := Q0.2.1; rw [← g1, q2] at this; lia
          rw [ee] at QN qn vb
          rw [g1] at QN
          rw [el0] at qn
          refine ⟨f + 1, e0, V, f1, e1, V1, QN, Q1.on O1 (fun y => hI1 _ _ (by lia)) (fun y => hS _ _ (by lia) (by lia)), fun _ => ⟨qn, qs _ _ _ _ (by lia) qa2, qa3, vb, qa5⟩, fun g => absurd d' g⟩
        · have el1 : l = 2 * s + 1 := by lia
          have ee : e = e1 := by have := Q1.2.1; rw [← g1, q2] at this; lia
          rw [ee] at QN qn vb
          rw [g1] at QN
          rw [el1] at qn
          refine ⟨f0, e0, V0, f + 1, e1, V, Q0.on O1 (fun y => hI1 _ _ (by lia)) (fun y => hS _ _ (by lia) (by lia)), QN, fun _ => ⟨qs _ _ _ _ (by lia) qa1, qn, qa3, qa4, vb⟩, fun g => absurd d' g⟩
      · obtain ⟨⟨s1, s1'⟩, ⟨s2, s3, s3'⟩, s4, s5, s6, s7⟩ := S
        have hp : ∀ y, hI h1 p y = hI hc p y := fun y => hS _ _ (by lia) (by lia)
        unfold ScR
        rw [hp, hp, hp, hp, hp, mI _ _ (by lia), mI _ _ (by lia), mI _ _ (by lia)]
        exact ⟨⟨s1, s1'⟩, ⟨s2, s3, s3'⟩, s4, s5, s6, fun k hk g1 g2 => by rw [hp]; exact s7 k hk g1 g2⟩
    have ea : ∀ x y, (x = a ∨ x = a + 2 ∨ x = a + 3) → hI h1 x y = hI hc x y := fun x y hx => hI1 x y (by lia)
    have mS : ∀ y, hI m1 m y = hI hm m y := fun y => mI _ _ (by lia)
    refine ⟨rfl, ⟨⟨L.of O1.r O1.l, MO⟩, fun x hx => by rw [O1.n]; exact bw x hx, wa, fun s' g1 => ?_, ?_, ?_⟩, O1, M1, Or.inr (vb f (by lia)), hI1, mI⟩
    · by_cases cs : s' = s
      · show SpR h1 (a + 6 + 11 * s') w m1 m s' (hI m1 m 0)
        rw [cs, ← ep]; exact SP
      · show SpR h1 (a + 6 + 11 * s') w m1 m s' (hI m1 m 0)
        rw [T0]
        exact (B.2.2.2.1 s' g1).fr (C := fun x => x = q) bw (O1.gf (fun x y hx => hI1 x y hx)) (fun x hx z => by rw [z] at hx; lia) (fun _ _ => rfl) w0 (MF s' g1 cs)
    · show BkS h1 a m1 m
      have b := B.2.2.2.2.1
      unfold BkS at b ⊢
      simp only [ea a _ (Or.inl rfl), ea (a + 2) _ (Or.inr (Or.inl rfl)), ea (a + 3) _ (Or.inr (Or.inr rfl)), mS, (fl 0 (by decide)).1, (fl 1 (by decide)).1, (fl 2 (by decide)).1]
      exact b
    · show BkB m1 m
      unfold BkB at BB ⊢
      simp only [mS, (fl 0 (by decide)).2, (fl 1 (by decide)).2, (fl 2 (by decide)).2]
      exact BB
end
