/-! what is written: add -/
section
variable {h : Hp} {o u np : Nat} {A Z X B : Nat → Int} {s r fr nn n : Nat} {e : Nat → Nat} {l : List Nat} {c la : Int}
theorem SoP.cgB {B' : Nat → Int} (P : SoP h o u np A Z X B) (q : ∀ j, j < 65536 → B' j = B j) : SoP h o u np A Z X B' := by
  obtain ⟨p1, p2, p3, p4, p5, p6⟩ := P
  exact ⟨p1, p2, p3, p4, p5, fun j hj => by rw [q j hj]; exact p6 j hj⟩
/-- a stream's pieces: first, last, how many bytes, where they lie -/
def StS (A Z X : Nat → Int) (np : Nat) (c la : Int) (n : Nat) (e : Nat → Nat) (l : List Nat) : Prop := ChX X c l ∧ ((l = [] ∧ la = -1) ∨ ∃ (l0 : List Nat) (q : Nat), l = l0 ++ [q] ∧ la = (q : Int)) ∧ l.Nodup ∧ (∀ k, k ∈ l → k < np ∧ 0 ≤ Z k ∧ Z k ≤ 65536 ∧ 0 ≤ A k ∧ A k + Z k ≤ 65536) ∧ PcB A Z e 0 l ∧ totZ Z l = n ∧ l.length ≤ np
theorem c_stadd (P : SoP h o u np A Z X B) (S : StS A Z X np c la n e l) (hn : np < 64) (s0 : s ≠ 0) (sd : ¬ SoD h o s) (r0 : r ≠ 0) (rd : ¬ SoD h o r) (rs : r ≠ s) (h4 : hI h s 4 = c) (h5 : hI h s 5 = la) (h1 : hI h s 1 = (n : Int)) (nb : n ≤ 65536) (hr : fr + nn ≤ ln h r) (hz : fr + nn < 900000) :
    ∃ t np' c' la' A' Z' X' l' h', t = min nn (65536 - u) ∧ f_cStore_add o s r (fr : Int) (nn : Int) h = some ((t : Int), h') ∧ SoP h' o (u + t) np' A' Z' X' (fun j => if u ≤ j ∧ j < u + t then hI h r (fr + (j - u)) else B j) ∧ StS A' Z' X' np' c' la' (n + t) (fun j => if j < n then e j else u + (j - n)) l' ∧ hI h' s 4 = c' ∧ hI h' s 5 = la' ∧ hI h' s 1 = ((n + t : Nat) : Int) ∧ (∀ y, y ≠ 1 → y ≠ 4 → y ≠ 5 → hI h' s y = hI h s y) ∧ (np ≤ np' ∧ np' ≤ np + 1) ∧ (∀ k, k ∉ l → k < np → A' k = A k ∧ Z' k = Z k ∧ X' k = X k) ∧ (∀ k, k ∈ l' → k ∈ l ∨ np ≤ k) ∧ FI (fun x => SoD h o x ∨ x = s) h h' := by
  have ub := P.2.2.2.1.1
  obtain ⟨t, et⟩ : ∃ t, t = min nn (65536 - u) := ⟨_, rfl⟩
  have p2 : hI h o 1 = (u : Int) := P.1.2.1
  have em : min (nn : Int) (w32 (65536 - (u : Int))) = (t : Int) := by
    rw [w32_id ⟨by lia, by lia⟩]; lia
  have tb : u + t ≤ 65536 ∧ t ≤ nn := by omega
  unfold f_cStore_add
  rw [p2, em, lt1_eq]
  by_cases t0 : t = 0
  · rw [if_neg (show ¬ ((t : Int) ≠ 0) by omega)]
    refine ⟨t, np, c, la, A, Z, X, l, h, et, by rw [t0]; rfl, ?_, ?_, h4, h5, by rw [t0]; exact h1, fun _ _ _ _ => rfl, ⟨Nat.le_refl _, Nat.le_succ _⟩, fun _ _ _ => ⟨rfl, rfl, rfl⟩, fun k hk => Or.inl hk, FI.rf⟩
    · rw [t0, Nat.add_zero]
      exact P.cgB (fun j hj => if_neg (by omega))
    · obtain ⟨a1, a2, a3, a4, a5, a6, a7⟩ := S
      refine ⟨a1, a2, a3, a4, a5.cg (fun _ _ => ⟨rfl, rfl⟩) (fun j _ hj => if_pos (by omega)), by rw [a6, t0]; rfl, a7⟩
  · rw [if_pos (show (t : Int) ≠ 0 by omega), if_neg s0, h5]
    obtain ⟨a1, a2, a3, a4, a5, a6, a7⟩ := S
    -- a new piece
    have fresh : ∃ np' c' la' A' Z' X' l' h', f_cStore_add_b55 o s r (fr : Int) (t : Int) h = some ((t : Int), h') ∧ SoP h' o (u + t) np' A' Z' X' (fun j => if u ≤ j ∧ j < u + t then hI h r (fr + (j - u)) else B j) ∧ StS A' Z' X' np' c' la' (n + t) (fun j => if j < n then e j else u + (j - n)) l' ∧ hI h' s 4 = c' ∧ hI h' s 5 = la' ∧ hI h' s 1 = ((n + t : Nat) : Int) ∧ (∀ y, y ≠ 1 → y ≠ 4 → y ≠ 5 → hI h' s y = hI h s y) ∧ (np ≤ np' ∧ np' ≤ np + 1) ∧ (∀ k, k ∉ l → k < np → A' k = A k ∧ Z' k = Z k ∧ X' k = X k) ∧ (∀ k, k ∈ l' → k ∈ l ∨ np ≤ k) ∧ FI (fun x => SoD h o x ∨ x = s) h h' := by
      obtain ⟨g, eg, Pg, Fg⟩ := c_stpiece P hn
      have ig : ∀ y, hI g s y = hI h s y := fun y => Fg.i sd
      have irg : ∀ y, hI g r y = hI h r y := fun y => Fg.i rd
      have nl : np ∉ l := fun z => by have := (a4 np z).1; omega
      have hx4 : hR g o 4 ≠ 0 := Pg.2.1.2.2.2.1
      have lx4 : ln g (hR g o 4) = 64 := Pg.2.1.2.2.2.2.2
      -- common end: g2 is the heap behind the links, first c2, pieces l ++ [np]
      have fin : ∀ (g2 : Hp) (X2 : Nat → Int) (c2 : Int), SoP g2 o u (np + 1) (up1 A np (u : Int)) (up1 Z np 0) X2 B → FI (fun x => SoD h o x ∨ x = s) g g2 → hI g2 s 4 = c2 → hI g2 s 1 = (n : Int) → (∀ y, y ≠ 4 → y ≠ 5 → hI g2 s y = hI h s y) → ChX X2 c2 (l ++ [np]) → (∀ k, k ∉ l → k < np → X2 k = X k) → ∃ np' c' la' A' Z' X' l' h', f_cStore_add_b89 o s r (fr : Int) (t : Int) (np : Int) g2 = some ((t : Int), h') ∧ SoP h' o (u + t) np' A' Z' X' (fun j => if u ≤ j ∧ j < u + t then hI h r (fr + (j - u)) else B j) ∧ StS A' Z' X' np' c' la' (n + t) (fun j => if j < n then e j else u + (j - n)) l' ∧ hI h' s 4 = c' ∧ hI h' s 5 = la' ∧ hI h' s 1 = ((n + t : Nat) : Int) ∧ (∀ y, y ≠ 1 → y ≠ 4 → y ≠ 5 → hI h' s y = hI h s y) ∧ (np ≤ np' ∧ np' ≤ np + 1) ∧ (∀ k, k ∉ l → k < np → A' k = A k ∧ Z' k = Z k ∧ X' k = X k) ∧ (∀ k, k ∈ l' → k ∈ l ∨ np ≤ k) ∧ FI (fun x => SoD h o x ∨ x = s) h h' := fun g2 X2 c2 P2 F2 i4 i1 io C2 ux => by
        have r2 : hR g2 = hR h := by rw [F2.r, Fg.r]
        have l2 : ln g2 = ln h := by rw [F2.l, Fg.l]
        have dd : ∀ x, SoD g2 o x ↔ SoD h o x := fun x => by unfold SoD; rw [r2]
        have ir2 : ∀ y, hI g2 r y = hI h r y := fun y => by rw [F2.i (fun z => by rcases z with z | z; exact rd z; exact rs z)]; exact irg y
        have P3 : SoP (sI g2 s 5 (np : Int)) o u (np + 1) (up1 A np (u : Int)) (up1 Z np 0) X2 B := P2.ot (fun z => sd ((dd s).1 z))
        have d3 : ∀ x, SoD (sI g2 s 5 (np : Int)) o x ↔ SoD h o x := dd
        obtain ⟨h', q1, q2, q3, q4, q5⟩ := c_st95 (s := s) (r := r) (fr := fr) (t := t) (q := np) (n := (n : Int)) P3 s0 (fun z => sd ((d3 s).1 z)) r0 (fun z => rd ((d3 r).1 z)) (by rw [hI_sI, if_pos ⟨rfl, rfl⟩]) (by rw [hI_sI, if_neg (by lia)]; exact i1) ⟨by lia, by lia⟩ (by omega) (by rw [up1_eq]; decide) tb.1 (by show fr + t ≤ ln g2 r; rw [l2]; omega) (by omega)
        have uz : ∀ v : Int, up1 (up1 Z np 0) np v = up1 Z np v := fun v => funext fun j => by
          by_cases q : j = np
          · rw [q, up1_eq, up1_eq]
          · rw [up1_ne q, up1_ne q, up1_ne q]
        rw [up1_eq, uz, Int.zero_add] at q2
        have nk : ∀ k, k ∈ l → k ≠ np := fun k hk z => nl (by rw [← z]; exact hk)
        refine ⟨np + 1, c2, (np : Int), _, _, X2, l ++ [np], h', ?_, q2.cgB (fun j hj => ?_), ⟨C2, Or.inr ⟨l, np, rfl, rfl⟩, List.nodup_append.2 ⟨a3, List.nodup_cons.2 ⟨(fun z => by cases z), List.nodup_nil⟩, fun x hx y hy z => ?_⟩, fun k hk => ?_, PcB_app.2 ⟨a5.cg (fun k hk => ⟨up1_ne (nk k hk), up1_ne (nk k hk)⟩) (fun j _ hj => if_pos (by omega)), ?_⟩, ?_, by rw [List.length_append]; show l.length + 1 ≤ np + 1; omega⟩, ?_, ?_, by rw [q3]; rfl, fun y y1 y4 y5 => ?_, ⟨by omega, Nat.le_refl _⟩, fun k k1 k2 => ⟨up1_ne (by omega), up1_ne (by omega), ux k k1 k2⟩, fun k hk => ?_, ?_⟩
        · unfold f_cStore_add_b89
          rw [if_neg s0, lt1_eq]; exact q1
        · show (if u ≤ j ∧ j < u + t then hI h r (fr + (j - u)) else B j) = if u ≤ j ∧ j < u + t then hI (sI g2 s 5 (np : Int)) r (fr + (j - u)) else B j
          have e5 : ∀ y, hI (sI g2 s 5 (np : Int)) r y = hI h r y := fun y => by rw [hI_sI, if_neg (fun z => rs z.1)]; exact ir2 y
          rw [e5]
        · rcases List.mem_cons.1 hy with w | w
          · exact nk x hx (by rw [z, w])
          · cases w
        · rcases List.mem_append.1 hk with w | w
          · have := a4 k w
            rw [up1_ne (nk k w), up1_ne (nk k w)]
            exact ⟨by omega, this.2⟩
          · rcases List.mem_cons.1 w with w | w
            · rw [w, up1_eq, up1_eq]; exact ⟨by omega, by omega, by omega, by omega, by omega⟩
            · cases w
        · rw [totZ_cg (Z := Z) (fun k hk => up1_ne (nk k hk)), a6]
          refine ⟨by rw [up1_eq]; omega, by rw [up1_eq]; omega, fun j hj => ?_, trivial⟩
          rw [up1_eq] at hj
          rw [up1_eq]
          show (if 0 + n + j < n then e (0 + n + j) else u + (0 + n + j - n)) = _
          rw [if_neg (by omega)]; omega
        · rw [totZ_app, totZ_cg (Z := Z) (fun k hk => up1_ne (nk k hk)), a6]
          show n + ((up1 Z np (t : Int) np).toNat + 0) = n + t
          rw [up1_eq]; omega
        · rw [q4 4 (by decide), hI_sI, if_neg (by lia)]; exact i4
        · rw [q4 5 (by decide), hI_sI, if_pos ⟨rfl, rfl⟩]
        · rw [q4 y y1, hI_sI, if_neg (fun z => y5 z.2)]; exact io y y4 y5
        · rcases List.mem_append.1 hk with w | w
          · exact Or.inl w
          · rcases List.mem_cons.1 w with w | w
            · exact Or.inr (by omega)
            · cases w
        · refine ((Fg.mono (fun x z => Or.inl z)).tr F2).tr (FI.tr (FI.sI (Or.inr rfl)) (q5.mono (fun x z => ?_)))
          rcases z with z | z
          · exact Or.inl ((d3 x).1 z)
          · exact Or.inr z
      unfold f_cStore_add_b55
      rw [eg, b2_some, if_neg s0, ig 5, h5]
      rcases a2 with ⟨b1, b2⟩ | ⟨l0, q, b1, b2⟩
      · -- the first piece
        rw [b2, if_neg (fun z => z rfl), lt1_eq]
        subst b1
        refine fin (sI g s 4 (np : Int)) (up1 X np (-1)) (np : Int) (Pg.ot (fun z => sd ((SoD.fx Fg).1 z))) (FI.sI (Or.inr rfl)) (by rw [hI_sI, if_pos ⟨rfl, rfl⟩]) (by rw [hI_sI, if_neg (by lia), ig]; exact h1) (fun y y4 y5 => by rw [hI_sI, if_neg (fun z => y4 z.2)]; exact ig y) ⟨rfl, by show up1 X np (-1) np = -1; exact up1_eq⟩ (fun k _ k2 => up1_ne (by omega))
      · have hq := a4 q (by rw [b1]; exact List.mem_append.2 (Or.inr List.mem_cons_self))
        have q0 : q ∉ l0 := fun z => by rw [b1] at a3; exact (List.nodup_append.1 a3).2.2 q z q List.mem_cons_self rfl
        have xq : ix (q : Int) 64 := ⟨by lia, by lia⟩
        rw [b2, if_pos (show (q : Int) ≠ -1 by omega), if_neg hx4, lx4, if_pos xq, Int.toNat_natCast, lt1_eq]
        have C1 : ChP (up1 X np (-1)) c l (-1) := ChP.up a1 nl
        have C2 : ChP (up1 (up1 X np (-1)) q (np : Int)) c l (np : Int) := by rw [b1] at C1 ⊢; exact C1.set q0
        have qnp : q ≠ np := by omega
        refine fin (sI g (hR g o 4) q (np : Int)) (up1 (up1 X np (-1)) q (np : Int)) c (Pg.sx (by omega)) (FI.sI (Or.inl ((SoD.fx Fg).1 (Or.inr (Or.inr (Or.inr (Or.inr rfl))))))) ?_ ?_ (fun y y4 y5 => ?_) (C2.app ⟨rfl, ?_⟩) (fun k k1 k2 => ?_)
        · rw [hI_sI, if_neg (fun z => sd ((SoD.fx Fg).1 (Or.inr (Or.inr (Or.inr (Or.inr z.1)))))), ig]; exact h4
        · rw [hI_sI, if_neg (fun z => sd ((SoD.fx Fg).1 (Or.inr (Or.inr (Or.inr (Or.inr z.1)))))), ig]; exact h1
        · rw [hI_sI, if_neg (fun z => sd ((SoD.fx Fg).1 (Or.inr (Or.inr (Or.inr (Or.inr z.1)))))), ig]
        · show up1 (up1 X np (-1)) q (np : Int) np = -1
          rw [up1_ne (fun z => qnp z.symm), up1_eq]
        · rw [up1_ne (fun z => k1 (by rw [z, b1]; exact List.mem_append.2 (Or.inr List.mem_cons_self))), up1_ne (by omega)]
    obtain ⟨np', c', la', A', Z', X', l', h', f1, f2⟩ := fresh
    have a2' := a2
    rcases a2' with ⟨b1, b2⟩ | ⟨l0, q, b1, b2⟩
    · rw [b2, if_pos rfl]
      exact ⟨t, np', c', la', A', Z', X', l', h', et, f1, f2⟩
    · have qm : q ∈ l := by rw [b1]; exact List.mem_append.2 (Or.inr List.mem_cons_self)
      have hq := a4 q qm
      have q0 : q ∉ l0 := fun z => by rw [b1] at a3; exact (List.nodup_append.1 a3).2.2 q z q List.mem_cons_self rfl
      have xq : ix (q : Int) 64 := ⟨by lia, by lia⟩
      have v := P.2.2.2.2.1 q hq.1
      have ew : w32 (A q + Z q) = A q + Z q := w32_id ⟨by lia, by lia⟩
      rw [b2, if_neg (show ¬ (q : Int) = -1 by omega), if_neg P.2.1.2.1.1, P.2.1.2.1.2.2, if_pos xq, if_neg P.2.1.2.2.1.1, P.2.1.2.2.1.2.2, if_pos xq, Int.toNat_natCast, v.1, v.2.1, ew]
      by_cases cu : A q + Z q = (u : Int)
      · -- behind the last piece
        rw [if_pos cu]
        obtain ⟨g, g1, g2, g3, g4, g5⟩ := c_st95 (s := s) (r := r) (fr := fr) (t := t) (q := q) (n := (n : Int)) P s0 sd r0 rd (by rw [h5, b2]) h1 ⟨by lia, by lia⟩ hq.1 ⟨hq.2.1, hq.2.2.1⟩ tb.1 (by omega) (by omega)
        have nk : ∀ k, k ∈ l0 → k ≠ q := fun k hk z => q0 (by rw [← z]; exact hk)
        rw [b1, PcB_app] at a5
        rw [b1, totZ_app] at a6
        have a6' : totZ Z l0 + ((Z q).toNat + 0) = n := a6
        obtain ⟨c1, c2, c3, c4⟩ := a5.2
        refine ⟨t, np, c, la, A, _, X, l, g, et, g1, g2, ⟨a1, a2, a3, fun k hk => ?_, ?_, ?_, a7⟩, by rw [g4 4 (by decide)]; exact h4, by rw [g4 5 (by decide)]; exact h5, by rw [g3]; rfl, fun y y1 _ _ => g4 y y1, ⟨Nat.le_refl _, Nat.le_succ _⟩, fun k k1 _ => ⟨rfl, up1_ne (fun z => k1 (by rw [z]; exact qm)), rfl⟩, fun k hk => Or.inl hk, g5⟩
        · have := a4 k hk
          by_cases w : k = q
          · rw [w, up1_eq]; rw [w] at this; exact ⟨this.1, by omega, by omega, this.2.2.2.1, by omega⟩
          · rw [up1_ne w]; exact this
        · rw [b1, PcB_app, totZ_cg (Z := Z) (fun k hk => up1_ne (nk k hk))]
          refine ⟨a5.1.cg (fun k hk => ⟨rfl, up1_ne (nk k hk)⟩) (fun j _ hj => if_pos (by omega)), by rw [up1_eq]; omega, c2, fun j hj => ?_, trivial⟩
          rw [up1_eq] at hj
          show (if 0 + totZ Z l0 + j < n then e (0 + totZ Z l0 + j) else u + (0 + totZ Z l0 + j - n)) = _
          by_cases w : j < (Z q).toNat
          · rw [if_pos (by omega)]; exact c3 j w
          · rw [if_neg (by omega)]; omega
        · rw [b1, totZ_app, totZ_cg (Z := Z) (fun k hk => up1_ne (nk k hk))]
          show totZ Z l0 + ((up1 Z q (Z q + (t : Int)) q).toNat + 0) = n + t
          rw [up1_eq]; omega
      · rw [if_neg cu]
        exact ⟨t, np', c', la', A', Z', X', l', h', et, f1, f2⟩
end
