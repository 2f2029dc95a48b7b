/-! Poly: folding a number of 36 bytes -/
def loD (p : Nat → Int) (k : Nat) : Int := if k < 16 then p k else if k = 16 then p 16 % 4 else 0
def hiD (p : Nat → Int) (k : Nat) : Int := if k < 18 then p (16 + k) / 4 + 64 * (p (17 + k) % 4) else 0
def foD (p : Nat → Int) (k : Nat) : Int := loD p k + 5 * hiD p k
theorem dg_add (D E : Nat → Int) : ∀ n, dg (fun k => D k + 5 * E k) n = dg D n + 5 * dg E n
  | 0 => rfl
  | n + 1 => by
    show dg (fun k => D k + 5 * E k) n + (D n + 5 * E n) * 256 ^ n = dg D n + D n * 256 ^ n + 5 * (dg E n + E n * 256 ^ n)
    rw [dg_add D E n]
    grind
theorem lo_val {p : Nat → Int} : dg (loD p) 36 = dg p 16 + 340282366920938463463374607431768211456 * (p 16 % 4) := by
  rw [dg_z (m := 17) 36 (by omega) (fun i h1 _ => by unfold loD; rw [if_neg (by omega), if_neg (by omega)])]
  show dg (loD p) 16 + loD p 16 * 256 ^ 16 = _
  rw [dg_congr (E := p) 16 (fun i hi => by unfold loD; rw [if_pos hi]), show loD p 16 = p 16 % 4 from rfl, show (256 : Int) ^ 16 = 340282366920938463463374607431768211456 from by decide]
  generalize p 16 % 4 = z
  generalize dg p 16 = w
  omega
theorem fold_val {p : Nat → Int} (h : dgs p 36) (hN : dg p 36 < 256 ^ 34) : ∃ H, 0 ≤ H ∧ dg p 36 = dg (foD p) 36 + PP * H ∧ dg p 36 = (dg p 16 + 340282366920938463463374607431768211456 * (p 16 % 4)) + 1361129467683753853853498429727072845824 * H ∧ dg (foD p) 36 = (dg p 16 + 340282366920938463463374607431768211456 * (p 16 % 4)) + 5 * H := by
  obtain ⟨-, z⟩ := dg_small (m := 34) (n := 2) h hN
  have p34 := z 34 (by omega) (by omega)
  have q := dg_quart (fun i => if i < 20 then p (16 + i) else 0) (fun i => by
    show 0 ≤ (if i < 20 then p (16 + i) else 0)
    by_cases g : i < 20
    · rw [if_pos g]; exact (h _ (by omega)).1
    · rw [if_neg g]; decide) 18
  have e1 : dg (fun k => (if k < 20 then p (16 + k) else 0) / 4 + 64 * ((if k + 1 < 20 then p (16 + (k + 1)) else 0) % 4)) 18 = dg (hiD p) 18 := dg_congr 18 (fun i hi => by
    unfold hiD
    rw [if_pos hi]
    show (if i < 20 then p (16 + i) else 0) / 4 + 64 * ((if i + 1 < 20 then p (16 + (i + 1)) else 0) % 4) = _
    rw [if_pos (by omega), if_pos (by omega), show 16 + (i + 1) = 17 + i by omega])
  have e2 : dg (fun i => if i < 20 then p (16 + i) else 0) 18 = dg (fun i => p (16 + i)) 18 := dg_congr 18 (fun i hi => by show (if i < 20 then p (16 + i) else 0) = _; rw [if_pos (by omega)])
  have q' : 4 * dg (hiD p) 18 + p 16 % 4 = dg (fun i => p (16 + i)) 18 + p 34 % 4 * 256 ^ 18 := by
    rw [← e1, ← e2]; exact q
  rw [p34] at q'
  have e3 : dg p 36 = dg p 16 + 256 ^ 16 * dg (fun i => p (16 + i)) 20 := dg_split p 16 20
  have e4 : dg (fun i => p (16 + i)) 20 = dg (fun i => p (16 + i)) 18 := dg_z 20 (by omega) (fun i h1 h2 => z (16 + i) (by omega) (by omega))
  have e5 : dg (hiD p) 36 = dg (hiD p) 18 := dg_z 36 (by omega) (fun i h1 _ => by unfold hiD; rw [if_neg (by omega)])
  have e6 : dg (foD p) 36 = dg (loD p) 36 + 5 * dg (hiD p) 36 := dg_add _ _ 36
  have hH := dg_lt (D := hiD p) 18 (fun i hi => by
    unfold hiD
    rw [if_pos hi]
    have a := h (16 + i) (by omega)
    have b := h (17 + i) (by omega)
    omega)
  rw [e4] at e3
  rw [lo_val, e5] at e6
  refine ⟨dg (hiD p) 18, hH.1, ?_, ?_, e6⟩
  · rw [e6, e3, show (256 : Int) ^ 16 = 340282366920938463463374607431768211456 from by decide]
    unfold PP
    generalize dg (fun i => p (16 + i)) 18 = x at *
    generalize dg (hiD p) 18 = y at *
    generalize dg p 16 = w at *
    generalize p 16 % 4 = t at *
    clear e1 e2 e3 e4 e5 e6 q z hH
    omega
  · rw [e3, show (256 : Int) ^ 16 = 340282366920938463463374607431768211456 from by decide]
    generalize dg (fun i => p (16 + i)) 18 = x at *
    generalize dg (hiD p) 18 = y at *
    generalize dg p 16 = w at *
    generalize p 16 % 4 = t at *
    clear e1 e2 e3 e4 e5 e6 q z hH
    omega
/-- two foldings of a number below 2 ^ 255 bring it below 2 ^ 130 -/
theorem fold2 {p q : Nat → Int} (hp : dgs p 36) (hq : dgs q 36) (hN : dg p 36 < 57896044618658097711785492504343953926634992332820282019728792003956564819968) (e : dg q 36 = dg (foD p) 36) : dg (foD p) 36 < 256 ^ 34 ∧ dg (foD q) 36 < 1361129467683753853853498429727072845824 ∧ dg (foD q) 36 % PP = dg p 36 % PP := by
  have c34 : (256 : Int) ^ 34 = 7588550360256754183279148073529370729071901715047420004889892225542594864082845696 := by decide
  obtain ⟨H, h0, h1, h2, h3⟩ := fold_val hp (by rw [c34]; omega)
  have b16 := dg_lt (D := p) 16 (fun i hi => hp i (by omega))
  have r16 : 0 ≤ p 16 % 4 ∧ p 16 % 4 < 4 := by omega
  rw [show (256 : Int) ^ 16 = 340282366920938463463374607431768211456 from by decide] at b16
  have f1 : dg (foD p) 36 < 2000000000000000000000000000000000000000 := by omega
  have f2 : dg (foD p) 36 < 256 ^ 34 := by rw [c34]; omega
  obtain ⟨G, g0, g1, g2, g3⟩ := fold_val hq (by rw [e]; exact f2)
  have b17 := dg_lt (D := q) 16 (fun i hi => hq i (by omega))
  have r17 : 0 ≤ q 16 % 4 ∧ q 16 % 4 < 4 := by omega
  rw [show (256 : Int) ^ 16 = 340282366920938463463374607431768211456 from by decide] at b17
  refine ⟨f2, ?_, ?_⟩
  · rw [e] at g2
    have hG : G = 0 ∨ G = 1 := by omega
    rcases hG with z | z
    · subst z; omega
    · subst z; omega
  · rw [h1, ← e, g1, Int.add_mul_emod_self_left, Int.add_mul_emod_self_left]
