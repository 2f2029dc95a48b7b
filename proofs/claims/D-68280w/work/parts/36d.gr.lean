/-! the greeting, class: what is sent, kept, told; numbers -/
/-- a row b has n bytes more from q on; the number at (y, ys) was z -/
def RB (h : Hp) (y ys b q z n : Nat) (F : Nat → Int) : Hp := (h.1, h.2.1, fun x k => if x = y ∧ k = ys then ((z + n : Nat) : Int) else if x = b ∧ q ≤ k ∧ k < q + n then F (k - q) else hI h x k, h.2.2.2.1, h.2.2.2.2)
section
variable {h h' : Hp} {y ys b q z n m g : Nat} {F : Nat → Int} {v : Int} {s : GSt}
theorem hI_RB {x k : Nat} : hI (RB h y ys b q z n F) x k = if x = y ∧ k = ys then ((z + n : Nat) : Int) else if x = b ∧ q ≤ k ∧ k < q + n then F (k - q) else hI h x k := rfl
theorem hR_RB : hR (RB h y ys b q z n F) = hR h := rfl
theorem ln_RB : ln (RB h y ys b q z n F) = ln h := rfl
theorem FX.RB {D : Nat → Prop} (c1 : D y) (c2 : D b) : FX D h (RB h y ys b q z n F) := ⟨⟨rfl, rfl, rfl⟩, fun x k hx => by rw [hI_RB, if_neg (fun e => hx (by rw [e.1]; exact c1)), if_neg (fun e => hx (by rw [e.1]; exact c2))], fun _ _ _ => rfl⟩
theorem hpX {h h' : Hp} (e1 : h'.1 = h.1) (e2 : h'.2.1 = h.2.1) (e3 : ∀ x k, hI h' x k = hI h x k) (e4 : h'.2.2.2 = h.2.2.2) : h' = h := Prod.ext e1 (Prod.ext e2 (Prod.ext (funext fun x => funext fun k => e3 x k) e4))
theorem RB_0 (e : hI h y ys = (z : Int)) : RB h y ys b q z 0 F = h := hpX rfl rfl (fun x k => by
  rw [hI_RB]
  by_cases c : x = y ∧ k = ys
  · rw [if_pos c, c.1, c.2, e, Nat.add_zero]
  · rw [if_neg c, if_neg (by lia)]) rfl
theorem RB_s (hb : b ≠ y) : sI (sI (RB h y ys b q z n F) y ys ((z + (n + 1) : Nat) : Int)) b (q + n) (F n) = RB h y ys b q z (n + 1) F := hpX rfl rfl (fun x k => by
  rw [hI_sI, hI_sI, hI_RB, hI_RB]
  by_cases c : x = y ∧ k = ys
  · rw [if_neg (by lia), if_pos c, if_pos c]
  · rw [if_neg c, if_neg c, if_neg c]
    by_cases d : x = b ∧ k = q + n
    · rw [if_pos d, if_pos (by lia)]; exact congrArg F (by lia)
    · rw [if_neg d]
      by_cases e : x = b ∧ q ≤ k ∧ k < q + n
      · rw [if_pos e, if_pos (by lia)]
      · rw [if_neg e, if_neg (by lia)]) rfl
theorem RB_s' (hb : b ≠ y) : sI (sI (RB h y ys b q z n F) b (q + n) (F n)) y ys ((z + (n + 1) : Nat) : Int) = RB h y ys b q z (n + 1) F := hpX rfl rfl (fun x k => by
  rw [hI_sI, hI_sI, hI_RB, hI_RB]
  by_cases c : x = y ∧ k = ys
  · rw [if_pos c, if_pos c]
  · rw [if_neg c, if_neg c, if_neg c]
    by_cases d : x = b ∧ k = q + n
    · rw [if_pos d, if_pos (by lia)]; exact congrArg F (by lia)
    · rw [if_neg d]
      by_cases e : x = b ∧ q ≤ k ∧ k < q + n
      · rw [if_pos e, if_pos (by lia)]
      · rw [if_neg e, if_neg (by lia)]) rfl
theorem RB_c {src sp : Nat} (hb : b ≠ y) (hs : ∀ j, j < m → hI (RB h y ys b q z n F) src (sp + j) = F (n + j)) : sI (cpI (RB h y ys b q z n F) src sp b (q + n) m) y ys ((z + (n + m) : Nat) : Int) = RB h y ys b q z (n + m) F := hpX rfl rfl (fun x k => by
  rw [hI_sI, hI_cI]
  by_cases c : x = y ∧ k = ys
  · rw [if_pos c, hI_RB, if_pos c]
  · rw [if_neg c]
    by_cases d : x = b ∧ q + n ≤ k ∧ k < q + n + m
    · rw [if_pos d, hs (k - (q + n)) (by omega), hI_RB, if_neg c, if_pos (by omega)]
      exact congrArg F (by omega)
    · rw [if_neg d, hI_RB, hI_RB, if_neg c, if_neg c]
      by_cases e : x = b ∧ q ≤ k ∧ k < q + n
      · rw [if_pos e, if_pos (by omega)]
      · rw [if_neg e, if_neg (by omega)]) rfl
/-- the class's rows -/
def RW (h : Hp) (y b z n : Nat) : Prop := y ≠ 0 ∧ b ≠ 0 ∧ b ≠ y ∧ hR h y 0 = b ∧ ln h b = 1024 ∧ hI h y 1 = ((z + n : Nat) : Int)
theorem c_rput (r0 : b ≠ 0) (hb : b ≠ y) (hr : hR h y 0 = b) (hl : z + n + 1 ≤ ln h b) (hz : z + n + 1 < 2147483648) (e : i8 (i8 v) = F n) : f_cRow_put y v (RB h y 1 b z z n F) = some (RB h y 1 b z z (n + 1) F) := by
  have e1 : w32 (((z + n : Nat) : Int) + 1) = ((z + (n + 1) : Nat) : Int) := by unfold w32; lia
  have e0 : hI (RB h y 1 b z z n F) y 1 = ((z + n : Nat) : Int) := by rw [hI_RB, if_pos ⟨rfl, rfl⟩]
  unfold f_cRow_put
  rw [e0, e1, hR_RB, hr]
  show (if b = 0 then none else if ix ((z + n : Nat) : Int) (ln h b) then lt1 (sI (sI (RB h y 1 b z z n F) y 1 ((z + (n + 1) : Nat) : Int)) b (((z + n : Nat) : Int)).toNat (i8 (i8 v))) fun h4 => some h4 else none) = _
  rw [if_neg r0, if_pos ⟨by lia, by lia⟩, lt1_eq, Int.toNat_natCast, e, RB_s hb]
theorem c_radd {src sp : Nat} (r0 : b ≠ 0) (s0 : src ≠ 0) (hb : b ≠ y) (hr : hR h y 0 = b) (hl : z + n + m ≤ ln h b) (hz : z + n + m < 2147483648) (hsl : sp + m ≤ ln h src) (hs : ∀ j, j < m → hI (RB h y 1 b z z n F) src (sp + j) = F (n + j)) : f_cRow_add y src (sp : Int) (m : Int) (RB h y 1 b z z n F) = some (RB h y 1 b z z (n + m) F) := by
  have e1 : w32 (((z + n : Nat) : Int) + (m : Int)) = ((z + (n + m) : Nat) : Int) := by unfold w32; lia
  have e0 : hI (RB h y 1 b z z n F) y 1 = ((z + n : Nat) : Int) := by rw [hI_RB, if_pos ⟨rfl, rfl⟩]
  have e2 : hI (cpI (RB h y 1 b z z n F) src sp b (z + n) m) y 1 = ((z + n : Nat) : Int) := by rw [hI_cI, if_neg (fun e => hb e.1.symm), e0]
  unfold f_cRow_add
  rw [if_neg s0, hR_RB, hr, if_neg r0, e0, ln_RB, if_pos ⟨by lia, by lia, by lia, by lia, by lia⟩, lt1_eq, Int.toNat_natCast, Int.toNat_natCast, Int.toNat_natCast, e2, e1, lt1_eq, RB_c hb hs]
theorem i8_0 : i8 (i8 0) = i8 0 := by decide
theorem c_gsends {l t n na a bb z tz : Nat} {B : Nat → Int} (L : LGr h g) (hl : l < 2) (a0 : a ≠ 0) (b0 : bb ≠ 0) (az : a ≠ g + 23 ∧ a ≠ g + 24 ∧ a ≠ g + 26 + 2 * l ∧ a ≠ g + 27 + 2 * l) (bz : bb ≠ g + 23 ∧ bb ≠ g + 24 ∧ bb ≠ g + 26 + 2 * l ∧ bb ≠ g + 27 + 2 * l)
    (nn : na ≤ n) (n1 : n < 65536) (al : na ≤ ln h a) (bl : n - na ≤ ln h bb) (hA : ∀ j, j < na → hI h a j = i8 (B j)) (hB : ∀ j, j < n - na → hI h bb j = i8 (B (na + j))) (hz : hI h (g + 26 + 2 * l) 1 = (z : Int)) (htz : hI h (g + 23) 1 = (tz : Int)) (z1 : z + (4 + n) ≤ 1024) (tz1 : tz + (4 + n) ≤ 1024) :
    f_cGreeting_sends g (l : Int) (t : Int) a (na : Int) bb ((n - na : Nat) : Int) h = some (RB (RB h (g + 26 + 2 * l) 1 (g + 27 + 2 * l) z z (4 + n) (fun j => i8 (sBody t n B j))) (g + 23) 1 (g + 24) tz tz (4 + n) (fun j => i8 (sBody t n B j))) := by
  have l0 := L.1
  obtain ⟨y, ey⟩ : ∃ y, y = g + 26 + 2 * l := ⟨_, rfl⟩
  obtain ⟨b, eb⟩ : ∃ b, b = g + 27 + 2 * l := ⟨_, rfl⟩
  have ry : hR h (g + 25) l = y := by rcases (show l = 0 ∨ l = 1 by lia) with rfl | rfl; rw [L.r25_0, ey]; rw [L.r25_1, ey]
  have rb : hR h y 0 = b := by rcases (show l = 0 ∨ l = 1 by lia) with rfl | rfl; rw [ey, eb]; exact L.r26_0; rw [ey, eb]; exact L.r28_0
  have lb : ln h b = 1024 := by rcases (show l = 0 ∨ l = 1 by lia) with rfl | rfl; rw [eb]; exact L.l27; rw [eb]; exact L.l29
  obtain ⟨G, eG⟩ : ∃ G : Nat → Int, G = fun j => i8 (sBody t n B j) := ⟨_, rfl⟩
  rw [← ey, ← eb, ← eG]
  rw [← ey] at hz az bz
  rw [← eb] at az bz
  have st : RB h y 1 b z z 0 G = h := RB_0 hz
  have hby : b ≠ y := by lia
  have eN : w32 ((na : Int) + ((n - na : Nat) : Int)) = (n : Int) := by unfold w32; lia
  have e8 : iShr (n : Int) 8 = ((n / 256 : Nat) : Int) := by
    have := iShr_eq (x := (n : Int)) ⟨by lia, by lia⟩ (n := 8) (by decide)
    rw [show ((8 : Nat) : Int) = 8 from rfl] at this
    rw [this]; lia
  have p0 := c_rput (h := h) (y := y) (b := b) (z := z) (n := 0) (F := G) (v := (t : Int)) (by lia) hby rb (by rw [lb]; lia) (by lia) (by rw [eG]; exact i8_1 _)
  have p1 := c_rput (h := h) (y := y) (b := b) (z := z) (n := 1) (F := G) (v := 0) (by lia) hby rb (by rw [lb]; lia) (by lia) (by rw [eG]; exact i8_0)
  have p2 := c_rput (h := h) (y := y) (b := b) (z := z) (n := 2) (F := G) (v := ((n / 256 : Nat) : Int)) (by lia) hby rb (by rw [lb]; lia) (by lia) (by rw [eG, i8_1]; show i8 _ = i8 ((n : Int) / 256); exact congrArg i8 (by lia))
  have p3 := c_rput (h := h) (y := y) (b := b) (z := z) (n := 3) (F := G) (v := (n : Int)) (by lia) hby rb (by rw [lb]; lia) (by lia) (by rw [eG, i8_1]; show i8 _ = i8 ((n : Int) % 256); exact i8_congr (by lia))
  have sb : ∀ j, sBody t n B (4 + j) = B j := fun j => by unfold sBody; rw [if_neg (by lia), if_neg (by lia), if_neg (by lia), if_neg (by lia)]; exact congrArg B (by lia)
  have p4 := c_radd (h := h) (y := y) (b := b) (z := z) (n := 4) (m := na) (src := a) (sp := 0) (F := G) (by lia) a0 hby rb (by rw [lb]; lia) (by lia) (by lia) (fun j hj => by rw [hI_RB, if_neg (by lia), if_neg (by lia), Nat.zero_add, hA j hj, eG]; exact congrArg i8 (sb j).symm)
  have p5 := c_radd (h := h) (y := y) (b := b) (z := z) (n := 4 + na) (m := n - na) (src := bb) (sp := 0) (F := G) (by lia) b0 hby rb (by rw [lb]; lia) (by lia) (by lia) (fun j hj => by rw [hI_RB, if_neg (by lia), if_neg (by lia), Nat.zero_add, hB j hj, eG]; show _ = i8 (sBody t n B _); rw [show 4 + na + j = 4 + (na + j) by lia, sb])
  rw [show 4 + na + (n - na) = 4 + n by lia] at p5
  obtain ⟨h5, e5⟩ : ∃ h5, h5 = RB h y 1 b z z (4 + n) G := ⟨_, rfl⟩
  rw [← e5] at p5 ⊢
  have i5 : ∀ x k, hI h5 x k = if x = y ∧ k = 1 then ((z + (4 + n) : Nat) : Int) else if x = b ∧ z ≤ k ∧ k < z + (4 + n) then G (k - z) else hI h x k := fun x k => by rw [e5, hI_RB]
  have L5 : LGr h5 g := by rw [e5]; exact L.of rfl rfl
  have l5 : ln h5 b = 1024 := by rw [e5, ln_RB, lb]
  have r5 : hR h5 y 0 = b := by rw [e5, hR_RB, rb]
  have st5 : RB h5 (g + 23) 1 (g + 24) tz tz 0 G = h5 := RB_0 (by rw [i5, if_neg (by lia), if_neg (by lia)]; exact htz)
  have p6 := c_radd (h := h5) (y := g + 23) (b := g + 24) (z := tz) (n := 0) (m := 4 + n) (src := b) (sp := z) (F := G) (by lia) (by lia) (by lia) L5.r23_0 (by rw [L5.l24]; lia) (by lia) (by rw [l5]; lia) (fun j hj => by rw [st5, i5, if_neg (by lia), if_pos (by lia), Nat.zero_add]; exact congrArg G (by lia))
  rw [st5, Nat.zero_add] at p6
  rw [st] at p0
  rw [show (((0 : Nat)) : Int) = 0 from rfl] at p4 p5
  unfold f_cGreeting_sends
  rw [L.r0_8, if_neg (by lia), L.l25, if_pos (show ix (l : Int) 2 from ⟨by lia, by lia⟩), Int.toNat_natCast, ry, lt1_eq, if_neg (show ¬ y = 0 by lia), lt1_eq, hz, eN, e8, p0, b1_some, p1, b1_some, p2, b1_some, p3, b1_some, p4, b1_some, p5, b1_some, L5.r0_7, if_neg (by lia), r5, i5 y 1, if_pos ⟨rfl, rfl⟩]
  have ew : w32 (((z + (4 + n) : Nat) : Int) - (z : Int)) = ((4 + n : Nat) : Int) := by unfold w32; lia
  rw [ew, p6, b1_some]
end
