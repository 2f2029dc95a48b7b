/-! the greeting, class: take -/
section
variable {h h' : Hp} {g l : Nat} {s : GSt}
theorem FX.inG {D : Nat → Prop} {a b : Hp} (F : FX D a b) (c : ∀ x, D x → inG g x) : FX (inG g) a b := F.mono c
/-- one byte, from the loop's second half on -/
theorem c_gtk1 {row fr f : Nat} {e : Int} {B : Nat → Int} (G : GC h g s) (I : GI s) (f0 : s.1 4 = 0) (hl : l < 2) (hB : hI h row fr = i8 (B 0) ∧ 0 ≤ B 0 ∧ B 0 < 256) (r0 : row ≠ 0) (rd : ¬ inG g row) (rl : fr + 1 ≤ ln h row) (rz : fr + 1 < 2147483648) (ne : (fr : Int) ≠ e) (hw : 0 ≤ s.1 2 ∧ s.1 2 < 128) :
    ∃ h' f', GC h' g (sTk1 s l (B 0)) ∧ GI (sTk1 s l (B 0)) ∧ FX (inG g) h h' ∧ f ≤ f' ∧ f' ≤ f + 1 ∧ f_cGreeting_take_b194 (f_cGreeting_take_b17_lp (f + 2)) g (l : Int) row (g + 31 + 2 * l) (fr : Int) e h =
      if (sTk1 s l (B 0)).1 4 ≠ 0 then some ((sTk1 s l (B 0)).1 4, h') else f_cGreeting_take_b194 (f_cGreeting_take_b17_lp f') g (l : Int) row (g + 31 + 2 * l) ((fr + 1 : Nat) : Int) e h' := by
  have L := G.1.1
  have l0 := L.1
  obtain ⟨V, P, St⟩ := id I
  have st := St f0
  have m := sLook_le V hl (st l hl).1
  have V1 := V.add hl hB.2 (by lia)
  have v10 := V.2.2.2.2.1 (10 + l) (by lia) (by lia)
  have c10 : gCc (10 + l) = 31 + 2 * l ∧ gCr (10 + l - 4) = 32 + 2 * l := by rcases (show l = 0 ∨ l = 1 by lia) with rfl | rfl <;> exact ⟨rfl, rfl⟩
  have ry : hR h (g + 31 + 2 * l) 0 = g + 32 + 2 * l := by rcases (show l = 0 ∨ l = 1 by lia) with rfl | rfl; exact L.r31_0; exact L.r33_0
  have lw : ln h (g + 32 + 2 * l) = 1024 := by rcases (show l = 0 ∨ l = 1 by lia) with rfl | rfl; exact L.l32; exact L.l34
  have iz : hI h (g + 31 + 2 * l) 1 = (((s.1 (10 + l)).toNat : Nat) : Int) := by
    have := G.i (k := 10 + l) (by lia) (by lia) (fun z => by lia) c10.1 (gc_s1 _ (by lia) (by lia))
    rw [show g + (31 + 2 * l) = g + 31 + 2 * l by lia] at this; rw [this]; lia
  have G1 : GC (RB h (g + 31 + 2 * l) 1 (g + 32 + 2 * l) (s.1 (10 + l)).toNat (s.1 (10 + l)).toNat 1 (fun _ => i8 (B 0))) g (sAdd s l (B 0)) := by
    have := G.app (k := 10 + l) (N := 1) (F := fun _ => B 0) (by lia) v10.1
    rw [c10.1, c10.2, show g + (31 + 2 * l) = g + 31 + 2 * l by lia, show g + (32 + 2 * l) = g + 32 + 2 * l by lia] at this
    exact this
  have stt : RB h (g + 31 + 2 * l) 1 (g + 32 + 2 * l) (s.1 (10 + l)).toNat (s.1 (10 + l)).toNat 0 (fun _ => i8 (B 0)) = h := RB_0 iz
  have p := c_radd (h := h) (y := g + 31 + 2 * l) (b := g + 32 + 2 * l) (z := (s.1 (10 + l)).toNat) (n := 0) (m := 1) (src := row) (sp := fr) (F := fun _ => i8 (B 0)) (by lia) r0 (by lia) ry (by rw [lw]; lia) (by lia) rl (fun j hj => by rw [stt, show j = 0 by lia, Nat.add_zero]; exact hB.1)
  rw [stt, Nat.zero_add] at p
  obtain ⟨h1, e1⟩ : ∃ h1, h1 = RB h (g + 31 + 2 * l) 1 (g + 32 + 2 * l) (s.1 (10 + l)).toNat (s.1 (10 + l)).toNat 1 (fun _ => i8 (B 0)) := ⟨_, rfl⟩
  rw [← e1] at p G1
  have F1 : FX (inG g) h h1 := by rw [e1]; exact FX.RB ⟨by lia, by lia⟩ ⟨by lia, by lia⟩
  have ew : w32 ((fr : Int) + 1) = ((fr + 1 : Nat) : Int) := by unfold w32; lia
  have w2 : (sAdd s l (B 0)).1 2 = s.1 2 := sAdd_o (by lia)
  have w4 : (sAdd s l (B 0)).1 4 = 0 := by rw [sAdd_o (by lia)]; exact f0
  have n1 := sAdd_n (s := s) (b := B 0) hl
  have look : sLook (sAdd s l (B 0)) l ≤ 0 ∨ sLook (sAdd s l (B 0)) l = (sAdd s l (B 0)).1 (10 + l) := by
    by_cases c : 0 < sLook (sAdd s l (B 0)) l
    · exact Or.inr (sLook_add V hl hB.2 (st l hl).1 c).1
    · exact Or.inl (by lia)
  have top := c_gtop (k := f_cGreeting_take_b17_lp (f + 1)) (row := row) (at_ := ((fr + 1 : Nat) : Int)) (end_ := e) G1 V1 hl w4 (by rw [w2]; exact hw) look
  have go : f_cGreeting_take_b194 (f_cGreeting_take_b17_lp (f + 2)) g (l : Int) row (g + 31 + 2 * l) (fr : Int) e h = f_cGreeting_take_b17 (f_cGreeting_take_b17_lp (f + 1)) g (l : Int) row (g + 31 + 2 * l) ((fr + 1 : Nat) : Int) e h1 := by
    have p' : f_cRow_add (g + 31 + 2 * l) row (fr : Int) 1 h = some h1 := p
    unfold f_cGreeting_take_b194
    rw [if_pos ne, if_neg (by lia), p', b1_some, ew]
    rfl
  rw [go, top]
  by_cases c : sLook (sAdd s l (B 0)) l < 0
  · obtain ⟨h2, p2, G2, F2⟩ := c_gfails (w := -sLook (sAdd s l (B 0)) l) G1
    have et : sTk1 s l (B 0) = sFail (sAdd s l (B 0)) (-sLook (sAdd s l (B 0)) l) := if_pos c
    have I2 := I.tk1 f0 hl hB.2 (fun z => by lia)
    refine ⟨h2, f, by rw [et]; exact G2, I2, F1.tr (F2.mono (fun x q => ⟨by lia, by lia⟩)), by lia, by lia, ?_⟩
    rw [if_pos c, p2, b2_some, et, sFail_4, if_pos (by lia)]
  · rw [if_neg c]
    by_cases c0 : sLook (sAdd s l (B 0)) l = 0
    · have et : sTk1 s l (B 0) = sAdd s l (B 0) := by unfold sTk1; rw [if_neg c, if_pos c0]
      have I2 := I.tk1 f0 hl hB.2 (fun z => by lia)
      refine ⟨h1, f + 1, by rw [et]; exact G1, I2, F1, by lia, by lia, ?_⟩
      rw [if_pos c0, et, w4, if_neg (fun z => z rfl)]
    · rw [if_neg c0]
      have q := sLook_add V hl hB.2 (st l hl).1 (by lia)
      obtain ⟨n, en⟩ : ∃ n : Nat, n = (sLook (sAdd s l (B 0)) l).toNat := ⟨_, rfl⟩
      have ev : sLook (sAdd s l (B 0)) l = (n : Int) := by lia
      obtain ⟨h2, p2, G2, V2, F2⟩ := c_gcomes (n := n) (l := l) G1 V1 (gPh_add P hl) (by rw [w2]; exact q.2.1) (by rw [w2]; exact q.2.2.1) (by rw [← q.1, ev]) (by lia) (by rw [w2, ← ev]; exact q.2.2.2.2)
      have I2 := I.tk1 f0 hl hB.2 (fun z => by rw [← en]; exact V2)
      have et : sTk1 s l (B 0) = sNum (sMsg (sAdd s l (B 0)) n) (10 + l) 0 := by unfold sTk1; rw [if_neg c, if_neg c0, ← en]
      have G3 : GC (sI h2 (g + 31 + 2 * l) 1 0) g (sTk1 s l (B 0)) := by
        have := G2.num (k := 10 + l) (v := 0) (by lia) (gLn_n0 (by lia))
        rw [c10.1, gc_s1 _ (by lia) (by lia), show g + (31 + 2 * l) = g + 31 + 2 * l by lia] at this
        rw [et]; exact this
      have F3 : FX (inG g) h (sI h2 (g + 31 + 2 * l) 1 0) := (F1.tr F2).tr (FX.sI ⟨by lia, by lia⟩)
      have cl : f_cRow_clear (g + 31 + 2 * l) h2 = some (sI h2 (g + 31 + 2 * l) 1 0) := rfl
      obtain ⟨h3, e3⟩ : ∃ h3, h3 = sI h2 (g + 31 + 2 * l) 1 0 := ⟨_, rfl⟩
      rw [← e3] at G3 F3 cl
      obtain ⟨t, etq⟩ : ∃ t, t = sTk1 s l (B 0) := ⟨_, rfl⟩
      rw [← etq] at G3 I2 ⊢
      refine ⟨h3, f, G3, I2, F3, by lia, by lia, ?_⟩
      rw [ev, p2, b1_some, cl, b1_some]
      show f_cGreeting_take_b17 (f_cGreeting_take_b17_lp f) g (l : Int) row (g + 31 + 2 * l) ((fr + 1 : Nat) : Int) e h3 = _
      by_cases d : t.1 4 = 0
      · rw [if_neg (fun z => z d)]
        have hwt : 0 ≤ t.1 2 ∧ t.1 2 < 128 := by
          rcases I2.2.1 with z | ⟨_, z⟩ <;> lia
        have sl := (I2.2.2 d l hl).1
        rw [c_gtop (k := f_cGreeting_take_b17_lp f) (row := row) (at_ := ((fr + 1 : Nat) : Int)) (end_ := e) G3 I2.1 hl d hwt (Or.inl (by lia)), sl, if_neg (by decide), if_pos rfl]
      · rw [if_pos d]
        have i4 : hI h3 g 19 = t.1 4 := G3.i (k := 4) (by decide) (by decide) (fun z => by lia) (x := 0) (y := 19) rfl rfl
        unfold f_cGreeting_take_b17
        rw [i4, if_pos d]
theorem GI.w (I : GI s) : 0 ≤ s.1 2 ∧ s.1 2 < 128 := by rcases I.2.1 with z | ⟨_, z⟩ <;> lia
theorem c_gtakeL {row : Nat} : ∀ (r f fr : Nat) (s : GSt) (h : Hp) (B : Nat → Int), GC h g s → GI s → s.1 4 = 0 → l < 2 → (∀ j, j < r → hI h row (fr + j) = i8 (B j) ∧ 0 ≤ B j ∧ B j < 256) → row ≠ 0 → ¬ inG g row → fr + r ≤ ln h row → fr + r < 2147483648 → 2 * r ≤ f →
    ∃ h', f_cGreeting_take_b194 (f_cGreeting_take_b17_lp f) g (l : Int) row (g + 31 + 2 * l) (fr : Int) ((fr + r : Nat) : Int) h = some ((sTake s l B r).1 4, h') ∧ GC h' g (sTake s l B r) ∧ GI (sTake s l B r) ∧ FX (inG g) h h' := by
  intro r
  induction r with
  | zero =>
    intro f fr s h B G I f0 hl hB r0 rd rl rz hf
    refine ⟨h, ?_, G, I, FX.rf⟩
    unfold f_cGreeting_take_b194
    rw [Nat.add_zero, if_neg (fun z => z rfl)]
    show some (0, h) = some (s.1 4, h)
    rw [f0]
  | succ r ih =>
    intro f fr s h B G I f0 hl hB r0 rd rl rz hf
    obtain ⟨f, rfl⟩ : ∃ f', f = f' + 2 := ⟨f - 2, by lia⟩
    obtain ⟨h1, f', G1, I1, F1, hf1, hf2, e1⟩ := c_gtk1 (row := row) (fr := fr) (f := f) (e := ((fr + (r + 1) : Nat) : Int)) (B := B) G I f0 hl (by have := hB 0 (by lia); rw [Nat.add_zero] at this; exact this) r0 rd (by lia) (by lia) (by lia) I.w
    rw [e1]
    show ∃ h', _ = some ((if (sTk1 s l (B 0)).1 4 ≠ 0 then sTk1 s l (B 0) else sTake (sTk1 s l (B 0)) l (fun j => B (j + 1)) r).1 4, h') ∧ GC h' g (if (sTk1 s l (B 0)).1 4 ≠ 0 then sTk1 s l (B 0) else sTake (sTk1 s l (B 0)) l (fun j => B (j + 1)) r) ∧ GI (if (sTk1 s l (B 0)).1 4 ≠ 0 then sTk1 s l (B 0) else sTake (sTk1 s l (B 0)) l (fun j => B (j + 1)) r) ∧ _
    by_cases c : (sTk1 s l (B 0)).1 4 ≠ 0
    · rw [if_pos c, if_pos c]
      exact ⟨h1, rfl, G1, I1, F1⟩
    · rw [if_neg c, if_neg c]
      obtain ⟨h2, e2, G2, I2, F2⟩ := ih f' (fr + 1) _ h1 (fun j => B (j + 1)) G1 I1 (by lia) hl (fun j hj => by rw [F1.i rd, show fr + 1 + j = fr + (j + 1) by lia]; exact hB (j + 1) (by lia)) r0 rd (by rw [F1.l]; lia) (by lia) (by lia)
      rw [show fr + 1 + r = fr + (r + 1) by lia] at e2
      exact ⟨h2, e2, G2, I2, F1.tr F2⟩
theorem c_gtake {row fr n : Nat} {B : Nat → Int} (G : GC h g s) (I : GI s) (f0 : s.1 4 = 0) (hl : l < 2) (hB : ∀ j, j < n → hI h row (fr + j) = i8 (B j) ∧ 0 ≤ B j ∧ B j < 256) (r0 : row ≠ 0) (rd : ¬ inG g row) (rl : fr + n ≤ ln h row) (rz : fr + n < 100000000) :
    ∃ h', f_cGreeting_take g (l : Int) row (fr : Int) (n : Int) h = some ((sTake s l B n).1 4, h') ∧ GC h' g (sTake s l B n) ∧ GI (sTake s l B n) ∧ FX (inG g) h h' := by
  have L := G.1.1
  have l0 := L.1
  obtain ⟨F, hF, F9⟩ : ∃ F, F + 1 = FU ∧ 2 * n ≤ F := ⟨FU - 1, by decide, by unfold FU; lia⟩
  obtain ⟨h1, e1, G1, I1, F1⟩ := c_gtakeL (g := g) (l := l) (row := row) n F fr s h B G I f0 hl hB r0 rd rl (by lia) F9
  refine ⟨h1, ?_, G1, I1, F1⟩
  have ry : hR h (g + 30) l = g + 31 + 2 * l := by rcases (show l = 0 ∨ l = 1 by lia) with rfl | rfl; exact L.r30_0; exact L.r30_1
  have ew : w32 ((fr : Int) + (n : Int)) = ((fr + n : Nat) : Int) := by unfold w32; lia
  unfold f_cGreeting_take
  rw [L.r0_9, if_neg (by lia), L.l30, if_pos (show ix (l : Int) 2 from ⟨by lia, by lia⟩), Int.toNat_natCast, ry, lt1_eq, lt1_eq, ew, ← hF]
  show f_cGreeting_take_b17 (f_cGreeting_take_b17_lp F) g (l : Int) row (g + 31 + 2 * l) (fr : Int) ((fr + n : Nat) : Int) h = _
  rw [c_gtop (k := f_cGreeting_take_b17_lp F) (row := row) (at_ := (fr : Int)) (end_ := ((fr + n : Nat) : Int)) G I.1 hl f0 I.w (Or.inl (by rw [(I.2.2 f0 l hl).1]; decide)), (I.2.2 f0 l hl).1, if_neg (by decide), if_pos rfl]
  exact e1
end
