/-! the book: queues of the class; growing frames -/
/-- cells outside C that were there are as they were -/
def GF (C : Nat → Prop) (h h' : Hp) : Prop := hN h ≤ hN h' ∧ ∀ x, x < hN h → ¬ C x → (∀ y, hI h' x y = hI h x y ∧ hJ h' x y = hJ h x y ∧ hR h' x y = hR h x y) ∧ ln h' x = ln h x
section
variable {C D : Nat → Prop} {h h' h'' : Hp} {x y : Nat}
theorem GF.i (F : GF C h h') (h1 : x < hN h) (h2 : ¬ C x) : hI h' x y = hI h x y := ((F.2 x h1 h2).1 y).1
theorem GF.j (F : GF C h h') (h1 : x < hN h) (h2 : ¬ C x) : hJ h' x y = hJ h x y := ((F.2 x h1 h2).1 y).2.1
theorem GF.r (F : GF C h h') (h1 : x < hN h) (h2 : ¬ C x) : hR h' x y = hR h x y := ((F.2 x h1 h2).1 y).2.2
theorem GF.l (F : GF C h h') (h1 : x < hN h) (h2 : ¬ C x) : ln h' x = ln h x := (F.2 x h1 h2).2
theorem GF.refl : GF C h h := ⟨Nat.le_refl _, fun _ _ _ => ⟨fun _ => ⟨rfl, rfl, rfl⟩, rfl⟩⟩
theorem GF.mono (F : GF C h h') (m : ∀ x, C x → D x) : GF D h h' := ⟨F.1, fun x h1 h2 => F.2 x h1 (fun z => h2 (m x z))⟩
theorem GF.trans (F : GF C h h') (G : GF C h' h'') : GF C h h'' := ⟨Nat.le_trans F.1 G.1, fun x h1 h2 => by
  have f := F.2 x h1 h2
  have g := G.2 x (Nat.lt_of_lt_of_le h1 F.1) h2
  exact ⟨fun y => ⟨(g.1 y).1.trans (f.1 y).1, (g.1 y).2.1.trans (f.1 y).2.1, (g.1 y).2.2.trans (f.1 y).2.2⟩, g.2.trans f.2⟩⟩
/-- a frame whose set may hold fresh cells -/
theorem GF.trans' (F : GF C h h') (G : GF D h' h'') (m : ∀ x, x < hN h → D x → C x) : GF C h h'' := ⟨Nat.le_trans F.1 G.1, fun x h1 h2 => by
  have f := F.2 x h1 h2
  have g := G.2 x (Nat.lt_of_lt_of_le h1 F.1) (fun z => h2 (m x h1 z))
  exact ⟨fun y => ⟨(g.1 y).1.trans (f.1 y).1, (g.1 y).2.1.trans (f.1 y).2.1, (g.1 y).2.2.trans (f.1 y).2.2⟩, g.2.trans f.2⟩⟩
theorem OnI.gf (O : OnI h h') (e : ∀ x y, ¬ C x → hI h' x y = hI h x y) : GF C h h' := ⟨by rw [O.n]; exact Nat.le_refl _, fun x _ h2 => ⟨fun y => ⟨e x y h2, by rw [O.j], by rw [O.r]⟩, by rw [O.l]⟩⟩
end
/-- a queue at q: what was taken, what was put in -/
def QuC (h : Hp) (q f e : Nat) (V : Nat → Int) : Prop := hI h q 1 = (f : Int) ∧ hI h q 2 = (e : Int) ∧ f ≤ e ∧ e ≤ 4096 ∧ (q ≠ 0 ∧ hR h q 0 ≠ 0 ∧ hR h q 0 ≠ q ∧ q < hN h ∧ hR h q 0 < hN h) ∧ e ≤ ln h (hR h q 0) ∧ 16 ≤ ln h (hR h q 0) ∧ ln h (hR h q 0) ≤ 8192 ∧ ∀ j, j < e → hI h (hR h q 0) j = V j
section
variable {h h' : Hp} {q f e : Nat} {V : Nat → Int} {v : Int} {C : Nat → Prop}
theorem QuC.fr (Q : QuC h q f e V) (F : GF C h h') (c1 : ¬ C q) (c2 : ¬ C (hR h q 0)) : QuC h' q f e V := by
  obtain ⟨q1, q2, q3, q4, ⟨z1, z2, z3, z4, z5⟩, q5, q6, q7, q8⟩ := Q
  have hn := F.1
  have er : hR h' q 0 = hR h q 0 := F.r z4 c1
  refine ⟨by rw [F.i z4 c1]; exact q1, by rw [F.i z4 c1]; exact q2, q3, q4, by rw [er]; exact ⟨z1, z2, z3, by lia, by lia⟩, ?_, ?_, ?_, ?_⟩
  · rw [er, F.l z5 c2]; exact q5
  · rw [er, F.l z5 c2]; exact q6
  · rw [er, F.l z5 c2]; exact q7
  · rw [er]; intro j hj; rw [F.i z5 c2]; exact q8 j hj
theorem QuC.cg {V' : Nat → Int} (Q : QuC h q f e V) (c : ∀ j, j < e → V j = V' j) : QuC h q f e V' := by
  obtain ⟨q1, q2, q3, q4, z, q5, q6, q7, q8⟩ := Q
  exact ⟨q1, q2, q3, q4, z, q5, q6, q7, fun j hj => by rw [q8 j hj, c j hj]⟩
theorem c_qclear (Q : QuC h q f e V) : f_cQueue_clear q h = some (sI (sI h q 1 0) q 2 0) := rfl
theorem QuC.clr (Q : QuC h q f e V) : QuC (sI (sI h q 1 0) q 2 0) q 0 0 V := by
  obtain ⟨q1, q2, q3, q4, ⟨z1, z2, z3, z4, z5⟩, q5, q6, q7, q8⟩ := Q
  exact ⟨by rw [hI_sI, if_neg (by lia), hI_sI, if_pos ⟨rfl, rfl⟩]; rfl, by rw [hI_sI, if_pos ⟨rfl, rfl⟩]; rfl, Nat.le_refl _, by lia, ⟨z1, z2, z3, z4, z5⟩, Nat.zero_le _, q6, q7, fun j hj => absurd hj (Nat.not_lt_zero j)⟩
theorem c_qnext (Q : QuC h q f e V) : f_cQueue_next q h = some (if f = e then (-1, h) else (V f, sI h q 1 ((f + 1 : Nat) : Int))) := by
  obtain ⟨q1, q2, q3, q4, ⟨z1, z2, z3, z4, z5⟩, q5, q6, q7, q8⟩ := Q
  unfold f_cQueue_next
  rw [q1, q2]
  by_cases c : f = e
  · rw [if_neg (by lia), if_pos c]
  · have x1 : ix (f : Int) (ln h (hR h q 0)) := ⟨by lia, by lia⟩
    rw [if_pos (by lia), if_neg c, lt1_eq, if_neg z2, ln_sI, if_pos x1, Int.toNat_natCast, hI_sI, if_neg (by lia), q8 f (by lia), w_k1 (by lia)]
theorem QuC.nxt (Q : QuC h q f e V) (c : f ≠ e) : QuC (sI h q 1 ((f + 1 : Nat) : Int)) q (f + 1) e V := by
  obtain ⟨q1, q2, q3, q4, ⟨z1, z2, z3, z4, z5⟩, q5, q6, q7, q8⟩ := Q
  exact ⟨by rw [hI_sI, if_pos ⟨rfl, rfl⟩], by rw [hI_sI, if_neg (by lia)]; exact q2, by lia, q4, ⟨z1, z2, z3, z4, z5⟩, q5, q6, q7, fun j hj => by rw [hR_sI, hI_sI, if_neg (by lia)]; exact q8 j hj⟩
theorem c_q40 (Q : QuC h q f e V) (he : e < 4096) (hl : e < ln h (hR h q 0)) : f_cQueue_add_b40 q v h = some (sI (sI h (hR h q 0) e v) q 2 ((e + 1 : Nat) : Int)) ∧ QuC (sI (sI h (hR h q 0) e v) q 2 ((e + 1 : Nat) : Int)) q f (e + 1) (up1 V e v) := by
  obtain ⟨q1, q2, q3, q4, ⟨z1, z2, z3, z4, z5⟩, q5, q6, q7, q8⟩ := Q
  have x1 : ix (e : Int) (ln h (hR h q 0)) := ⟨by lia, by lia⟩
  constructor
  · unfold f_cQueue_add_b40
    rw [if_neg z2, q2, if_pos x1, Int.toNat_natCast, lt1_eq, hI_sI, if_neg (by lia), q2, lt1_eq, w_k1 (by lia)]
  · refine ⟨by rw [hI_sI, if_neg (by lia), hI_sI, if_neg (by lia)]; exact q1, by rw [hI_sI, if_pos ⟨rfl, rfl⟩], by lia, by lia, ⟨z1, z2, z3, z4, z5⟩, hl, q6, q7, fun j hj => ?_⟩
    rw [hR_sI, hR_sI, hI_sI, if_neg (by lia), hI_sI]
    unfold up1
    by_cases c : j = e
    · rw [if_pos ⟨rfl, c⟩, if_pos c]
    · rw [if_neg (fun z => c z.2), if_neg c]; exact q8 j (by lia)
/-- what adding to a queue leaves -/
def QaF (h h' : Hp) (q : Nat) : Prop := GF (fun x => x = q ∨ x = hR h q 0) h h' ∧ (hR h' q 0 = hR h q 0 ∨ hN h ≤ hR h' q 0)
theorem c_qadd {X Y : Nat} (Q : QuC h q f e V) (he : e < 4096) (hX : X ≤ CN) (hY : Y ≤ CZ) (rX : hN h + (8192 - ln h (hR h q 0)) ≤ X) (rY : hZ h + 2 * (8192 - ln h (hR h q 0)) ≤ Y) : wp (f_cQueue_add q v h) (fun o => QuC o q f (e + 1) (up1 V e v) ∧ QaF h o q ∧ hN o + (8192 - ln o (hR o q 0)) ≤ hN h + (8192 - ln h (hR h q 0)) ∧ hZ o + 2 * (8192 - ln o (hR o q 0)) ≤ hZ h + 2 * (8192 - ln h (hR h q 0))) := by
  have Q' := Q
  obtain ⟨q1, q2, q3, q4, ⟨z1, z2, z3, z4, z5⟩, q5, q6, q7, q8⟩ := Q
  unfold f_cQueue_add
  rw [if_neg z2, q2]
  by_cases c : e = ln h (hR h q 0)
  · rw [if_neg (by lia)]
    have w2 : w32 (2 * (e : Int)) = ((2 * e : Nat) : Int) := by unfold w32; lia
    have hck : (0 : Int) ≤ ((2 * e : Nat) : Int) ∧ hN h + 1 ≤ CN ∧ hZ h + 2 * e ≤ CZ := ⟨by lia, by lia, by lia⟩
    rw [w2, Int.toNat_natCast, if_pos hck]
    have i0 : Int.toNat 0 = 0 := rfl
    have r1 : hR (nwC h 101 (2 * e) (2 * e)) q 0 = hR h q 0 := by rw [hR_nw, if_neg (by lia)]
    have r2 : hI (nwC h 101 (2 * e) (2 * e)) q 2 = (e : Int) := by rw [hI_nw, if_neg (by lia)]; exact q2
    have r3 : ln (nwC h 101 (2 * e) (2 * e)) (hR h q 0) = e := by rw [ln_nw', if_neg (by lia)]; exact c.symm
    have r4 : ln (nwC h 101 (2 * e) (2 * e)) (hN h) = 2 * e := by rw [ln_nw', if_pos rfl]
    have hc : cpk 0 0 (e : Int) e (2 * e) := ⟨by decide, by decide, by lia, by lia, by lia⟩
    simp only [lt1_eq, r1, r2, r3, r4, if_neg z2, if_pos hc, Int.toNat_natCast, i0]
    generalize eh : sR (cpI (nwC h 101 (2 * e) (2 * e)) (hR h q 0) 0 (hN h) 0 e) q 0 (hN h) = h2
    have R2 : ∀ x y, x < hN h → hR h2 x y = if x = q ∧ y = 0 then hN h else hR h x y := fun x y hx => by rw [← eh, hR_sR, hR_cI, hR_nw, if_neg (show ¬ x = hN h by lia)]
    have I2 : ∀ x y, x < hN h → hI h2 x y = hI h x y := fun x y hx => by rw [← eh, hI_sR, hI_cI, if_neg (by lia), hI_nw, if_neg (by lia)]
    have J2 : ∀ x y, x < hN h → hJ h2 x y = hJ h x y := fun x y hx => by rw [← eh, hJ_sR, hJ_cI, hJ_nw, if_neg (by lia)]
    have L2 : ∀ x, ln h2 x = if x = hN h then 2 * e else ln h x := fun x => by rw [← eh, ln_sR, ln_cI, ln_nw']
    have N2 : hN h2 = hN h + 1 := by rw [← eh]; rfl
    have Z2 : hZ h2 = hZ h + 2 * e := by rw [← eh]; rfl
    have V2 : ∀ j, j < e → hI h2 (hN h) j = V j := fun j hj => by rw [← eh, hI_sR, hI_cI, if_pos ⟨rfl, by lia, by lia⟩, hI_nw, if_neg (by lia), Nat.zero_add, Nat.sub_zero]; exact q8 j hj
    clear eh
    have rq : hR h2 q 0 = hN h := by rw [R2 q 0 z4, if_pos ⟨rfl, rfl⟩]
    have lq : ln h2 (hN h) = 2 * e := by rw [L2, if_pos rfl]
    have Qn : QuC h2 q f e V := ⟨by rw [I2 q 1 z4]; exact q1, by rw [I2 q 2 z4]; exact q2, q3, q4, by rw [rq]; exact ⟨z1, by lia, by lia, by lia, by lia⟩, by rw [rq, lq]; lia, by rw [rq, lq]; lia, by rw [rq, lq]; lia, by rw [rq]; exact V2⟩
    obtain ⟨g1, g2⟩ := c_q40 (v := v) Qn he (by rw [rq, lq]; lia)
    rw [rq] at g1 g2
    rw [g1, wp_some]
    refine ⟨g2, ⟨⟨?_, fun x hx hc => ⟨fun y => ⟨?_, ?_, ?_⟩, ?_⟩⟩, Or.inr ?_⟩, ?_, ?_⟩
    · show hN h ≤ hN h2; lia
    · rw [hI_sI, if_neg (by lia), hI_sI, if_neg (by lia)]; exact I2 x y hx
    · exact J2 x y hx
    · show hR h2 x y = _; rw [R2 x y hx, if_neg (by lia)]
    · show ln h2 x = _; rw [L2, if_neg (by lia)]
    · show hN h ≤ hR h2 q 0; lia
    · show hN h2 + (8192 - ln h2 (hR h2 q 0)) ≤ _; rw [rq, lq, N2]; lia
    · show hZ h2 + 2 * (8192 - ln h2 (hR h2 q 0)) ≤ _; rw [rq, lq, Z2]; lia
  · rw [if_pos (by lia)]
    obtain ⟨g1, g2⟩ := c_q40 (v := v) Q' he (by lia)
    rw [g1, wp_some]
    refine ⟨g2, ⟨OnI.refl.s.s.gf (fun x y hc => by rw [hI_sI, if_neg (by lia), hI_sI, if_neg (by lia)]), Or.inl rfl⟩, Nat.le_refl _, Nat.le_refl _⟩
end
