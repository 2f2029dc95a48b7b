/-! the book: a packet that arrived, class and model -/
/-- what a found packet leaves of the model -/
def DnM (hm hm' : Hp) (m s k b : Nat) : Prop := OnI hm hm' ∧ (∀ x y, ¬ (x = m + 4 ∧ y = 4096 * s + k) → ¬ (x = m + 8 ∧ y = s) → x ≠ m + 12 → ¬ (x = m + 13 ∧ y = 2 * s + b) → ¬ (x = m ∧ y = 24) → hI hm' x y = hI hm x y) ∧ hI hm' (m + 4) (4096 * s + k) = ((b + 1 : Nat) : Int) ∧ ∃ e : Nat, e < 4096 ∧ hI hm (m + 13) (2 * s + b) = (e : Int) ∧ hI hm' (m + 13) (2 * s + b) = ((e + 1 : Nat) : Int) ∧ hI hm' (m + 12) (4096 * (2 * s + b) + e) = (k : Int) ∧ ∀ y, y ≠ 4096 * (2 * s + b) + e → hI hm' (m + 12) y = hI hm (m + 12) y
section
variable {hc h2 h6 hc' hm hm' : Hp} {a m p s n fo k : Nat} {tm sz mk : Nat → Int} {w : Nat → Nat} {X Y : Nat}
theorem PkC.on (K : PkC hc p n tm sz mk fo) (O : OnI hc hc') (e : ∀ x, x = p ∨ x = hR hc p 0 ∨ x = hR hc p 1 ∨ x = hR hc p 2 → ∀ y, hI hc' x y = hI hc x y) : PkC hc' p n tm sz mk fo := by
  obtain ⟨k1, k2, k3, k4, k5, k6, k7⟩ := K
  refine ⟨by rw [e p (Or.inl rfl)]; exact k1, by rw [e p (Or.inl rfl)]; exact k2, k3, k4, by rw [O.r, O.l]; exact k5, fun i hi => ?_, k7⟩
  rw [O.r, e _ (Or.inr (Or.inl rfl)), e _ (Or.inr (Or.inr (Or.inl rfl))), e _ (Or.inr (Or.inr (Or.inr rfl)))]
  exact k6 i hi
theorem SpW.on (W : SpW hc p s w) (O : OnI hc hc') : SpW hc' p s w := by unfold SpW; rw [O.r]; exact W
theorem QuC.on {q f e : Nat} {V : Nat → Int} (Q : QuC hc q f e V) (O : OnI hc hc') (e1 : ∀ y, hI hc' q y = hI hc q y) (e2 : ∀ y, hI hc' (hR hc q 0) y = hI hc (hR hc q 0) y) : QuC hc' q f e V := by
  obtain ⟨q1, q2, q3, q4, z, q5, q6, q7, q8⟩ := Q
  refine ⟨by rw [e1]; exact q1, by rw [e1]; exact q2, q3, q4, by rw [O.r, O.n]; exact z, by rw [O.r, O.l]; exact q5, by rw [O.r, O.l]; exact q6, by rw [O.r, O.l]; exact q7, fun j hj => by rw [O.r, e2]; exact q8 j hj⟩
theorem BkR.ws_le (B : BkR hc a w hm m) : 2400 ≤ hI hm m 24 ∧ hI hm m 24 ≤ 500000000 := by
  have h0 := dnM_le (B.2.2.2.1 0 (by decide))
  have h1 := dnM_le (B.2.2.2.1 1 (by decide))
  have h2 := dnM_le (B.2.2.2.1 2 (by decide))
  have := B.2.2.2.2.2.2.2.2.2.2.2.2.1
  exact ⟨this.1, by lia⟩
theorem QR.room {f0 e0 f1 e1 : Nat} {V0 V1 : Nat → Int} (Q0 : QuC hc (p + 4) f0 e0 V0) (Q1 : QuC hc (p + 6) f1 e1 V1) (s3 : s < 3) (ep : p = a + 6 + 11 * s) (rN : hN hc + bpot hc a ≤ X) (rZ : hZ hc + 2 * bpot hc a ≤ Y) : (hN hc + (8192 - ln hc (hR hc (p + 4) 0)) ≤ X ∧ hZ hc + 2 * (8192 - ln hc (hR hc (p + 4) 0)) ≤ Y) ∧ (hN hc + (8192 - ln hc (hR hc (p + 6) 0)) ≤ X ∧ hZ hc + 2 * (8192 - ln hc (hR hc (p + 6) 0)) ≤ Y) := by
  unfold bpot bps at rN rZ
  subst ep
  rcases (show s = 0 ∨ s = 1 ∨ s = 2 by lia) with rfl | rfl | rfl <;> exact ⟨⟨by lia, by lia⟩, by lia, by lia⟩
theorem j_done (B : BkR hc a w hm m) (hs : s < 3) (hn : hI hm (m + 1) s = (n : Int)) (hk : k < n) (d : hI hm (m + 9) s = 0) (o : hI hm (m + 4) (4096 * s + k) = 0) (hX : X ≤ CN) (hY : Y ≤ CZ) (rN : hN hc + bpot hc a ≤ X) (rZ : hZ hc + 2 * bpot hc a ≤ Y) : wp (f_cBook_done a (a + 6 + 11 * s) (k : Int) hc) (fun hc' => wp (f_mBook_find m (s : Int) (k : Int) 1 hm) (fun hm1 => wp (f_mBook_grow m (w32 (w32 (4096 * (s : Int)) + (k : Int))) hm1) (fun hm' => ∃ w', BkR hc' a w' hm' m ∧ WE w w' hc s ∧ GF (CFs w a s) hc hc' ∧ hN hc' + bpot hc' a ≤ X ∧ hZ hc' + 2 * bpot hc' a ≤ Y ∧ CmF a hc hc' ∧ DnM hm hm' m s k 0))) := by
  obtain ⟨tm, sz, mk, fo, W0, K1, K2, Q, S, T⟩ := SpR.opn B hs hn
  have L := B.1.1
  have LM := B.1.2
  have a0 := L.1
  have m0 := LM.1
  have ws := B.ws_le
  have wa := B.2.2.1
  have BS := B.2.2.2.2.1
  have BB := B.2.2.2.2.2
  have k4096 : k < 4096 := by have := K2.2.2.2.1; lia
  have hmk : mk k % 4 = 0 := by rw [← (K2.2.2.2.2.2.1 k hk).2.2.1]; exact o
  obtain ⟨f0, e0, V0, f1, e1, V1, Q0, Q1, QM, _⟩ := Q
  have QM' := QM d
  have pos := ctO_pos hk hmk
  have he0 : e0 < 4096 := by have := K2.2.2.2.1; have := QM'.2.2.1; lia
  have g13 : hI hm (m + 13) (2 * s + 0) = (e0 : Int) := QM'.1.2.1
  have sp := L.sp hs
  have rm := QR.room Q0 Q1 hs rfl rN rZ
  have dd : hI hc (a + 6 + 11 * s) 10 = 0 := by rw [S.1.1]; exact d
  have c4 : hI hc (a + 6 + 11 * s) 4 = ctO mk n := by have := S.2.2.2.1; rw [if_pos d] at this; exact this
  have c5 : hI hc (a + 6 + 11 * s) 5 = ctE mk n := by have := S.2.2.2.2.1; rw [if_pos d] at this; exact this
  have bsz := (K2.2.2.2.2.2.2 k hk).2
  have wS := W0
  obtain ⟨w1, w2, w3, w4, w5, w6, w7, w8, w9, w10, w11, w0⟩ := W0
  unfold f_cBook_done f_cBook_done_b45
  rw [if_neg (by lia)]
  refine wp_b2o (c_settle wS K1 hk hmk (Or.inl rfl) c4 c5) (fun r4 h2 _ q => ?_)
  obtain ⟨er, F2, u4, u5, fo2, K3⟩ := q
  dsimp only at er F2 u4 u5 K3
  have n3 : ∀ x, w x ≠ 53 → x ≠ a + 3 := fun x hx z => hx (by rw [z]; exact wa.2.2.2.1)
  have r2 : ∀ x y, hR h2 x y = hR hc x y := fun x y => by rw [F2.1.r]
  have l2 : ∀ x, ln h2 x = ln hc x := fun x => by rw [F2.1.l]
  have z3 : ¬ (a + 3 = 0) := by lia
  rw [r2, L.r0_2, if_neg z3, wp_lt1]
  -- the class's window, grown or not
  have key : wp (if r4 ≤ 0 then (if a + 6 + 11 * s = 0 then none else if hR (sI h2 (a + 3) 3 (w32 (hI h2 (a + 3) 3 - r4))) (a + 6 + 11 * s) 11 = 0 then none else b1 (f_cQueue_add (hR (sI h2 (a + 3) 3 (w32 (hI h2 (a + 3) 3 - r4))) (a + 6 + 11 * s) 11) (k : Int) (sI h2 (a + 3) 3 (w32 (hI h2 (a + 3) 3 - r4)))) fun h17 => some h17) else none) (fun _ => True) ∨ True := Or.inr trivial
  clear key
  have ca3 : ∀ y, hI h2 (a + 3) y = hI hc (a + 3) y := fun y => F2.2 _ _ (fun z => by have := congrArg w z.1; lia) (by lia)
  obtain ⟨WW, hWW⟩ : ∃ WW, WW = if mk k / 8 % 2 = 1 then gwV (hI hm m 24) (hI hm m 25) (hI hm m 26) (tm k) (sz k) (mk k / 16 % 2) else hI hm m 24 := ⟨_, rfl⟩
  have bW := gwV_b (ws := hI hm m 24) (wt := hI hm m 25) (wr := hI hm m 26) (t := tm k) (b := sz k) (fi := mk k / 16 % 2) ws.1 bsz.1
  obtain ⟨h3, e3⟩ : ∃ h3, h3 = sI (sI h2 (a + 3) 3 (w32 (hI h2 (a + 3) 3 - r4))) (a + 3) 0 WW := ⟨_, rfl⟩
  have rest : ∀ Q : Hp → Prop, (wp (f_cQueue_add (a + 6 + 11 * s + 4) (k : Int) h3) Q) → wp (if r4 ≤ 0 then (if a + 6 + 11 * s = 0 then none else if hR (sI h2 (a + 3) 3 (w32 (hI h2 (a + 3) 3 - r4))) (a + 6 + 11 * s) 11 = 0 then none else b1 (f_cQueue_add (hR (sI h2 (a + 3) 3 (w32 (hI h2 (a + 3) 3 - r4))) (a + 6 + 11 * s) 11) (k : Int) (sI h2 (a + 3) 3 (w32 (hI h2 (a + 3) 3 - r4)))) fun h17 => some h17)
      else if hR (sI h2 (a + 3) 3 (w32 (hI h2 (a + 3) 3 - r4))) (a + 6 + 11 * s) 0 = 0 then none else if ix (k : Int) (ln (sI h2 (a + 3) 3 (w32 (hI h2 (a + 3) 3 - r4))) (hR (sI h2 (a + 3) 3 (w32 (hI h2 (a + 3) 3 - r4))) (a + 6 + 11 * s) 0)) then b2 (f_cSpace_is (a + 6 + 11 * s) (k : Int) 16 (sI h2 (a + 3) 3 (w32 (hI h2 (a + 3) 3 - r4)))) fun r11 h9 => if hR (sI h2 (a + 3) 3 (w32 (hI h2 (a + 3) 3 - r4))) a 2 = 0 then none else b1 (f_cWindow_grow (hR (sI h2 (a + 3) 3 (w32 (hI h2 (a + 3) 3 - r4))) a 2) (hI (sI h2 (a + 3) 3 (w32 (hI h2 (a + 3) 3 - r4))) (hR (sI h2 (a + 3) 3 (w32 (hI h2 (a + 3) 3 - r4))) (a + 6 + 11 * s) 0) (Int.toNat (k : Int))) r4 r11 h9) fun h13 => if a + 6 + 11 * s = 0 then none else if hR h13 (a + 6 + 11 * s) 11 = 0 then none else b1 (f_cQueue_add (hR h13 (a + 6 + 11 * s) 11) (k : Int) h13) fun h17 => some h17
      else none) Q := fun Q hQ => by
    obtain ⟨h6, e6⟩ : ∃ h6, h6 = sI h2 (a + 3) 3 (w32 (hI h2 (a + 3) 3 - r4)) := ⟨_, rfl⟩
    rw [← e6] at e3 ⊢
    have r6 : ∀ x y, hR h6 x y = hR hc x y := fun x y => by rw [e6, hR_sI, r2]
    have l6 : ∀ x, ln h6 x = ln hc x := fun x => by rw [e6, ln_sI, l2]
    have i6 : hI h6 (a + 3) 0 = hI hm m 24 := by rw [e6, hI_sI, if_neg (by lia), ca3]; exact BS.2.2.1
    simp only [r6, l6, sp.2.1, L.r0_2, if_neg z3, if_neg (show ¬ (a + 6 + 11 * s = 0) by lia), if_neg (show ¬ (a + 6 + 11 * s + 4 = 0) by lia)]
    by_cases c : mk k / 8 % 2 = 1
    · rw [if_pos c] at er hWW
      have zT : hR hc (a + 6 + 11 * s) 0 ≠ 0 := wne (w := w) (by rw [w2, w0]; lia)
      have x1 : ix (k : Int) (ln hc (hR hc (a + 6 + 11 * s) 0)) := ⟨by lia, by have := K1.2.2.2.2.1.1; lia⟩
      have sk : 0 < sz k := (T.1 k hk).2.2
      have K6 : PkC h6 (a + 6 + 11 * s) n tm sz (up1 mk k (mk k + 1)) fo2 := K3.on (by rw [e6]; exact OnI.refl.s) (fun x hx y => by
        rw [e6, hI_sI, if_neg]
        rintro ⟨z, _⟩
        rw [r2, r2, r2] at hx
        rcases hx with h | h | h | h
        · lia
        · exact n3 _ (by rw [h, w2]; lia) z
        · exact n3 _ (by rw [h, w3]; lia) z
        · exact n3 _ (by rw [h, w4]; lia) z)
      have W6 : SpW h6 (a + 6 + 11 * s) s w := by have := wS.on F2.1; rw [e6]; exact this.on OnI.refl.s
      have bit : up1 mk k (mk k + 1) k / 16 % 2 = mk k / 16 % 2 := by unfold up1; rw [if_pos rfl]; lia
      have tk : hI h6 (hR hc (a + 6 + 11 * s) 0) k = tm k := by have := (K6.2.2.2.2.2.1 k hk).1; rw [r6] at this; exact this
      rw [if_neg (by rw [er]; lia), if_neg zT, if_pos x1, c_is W6 K6 hk (b := 16) (by decide), b2_some, Int.toNat_natCast, tk, bit, er]
      have cg := c_wgrow (hc := h6) (a := a + 3) (t := tm k) (b := sz k) (fi := mk k / 16 % 2) (ws := hI hm m 24) (wt := hI hm m 25) (wr := hI hm m 26) (by lia) i6 (by rw [e6, hI_sI, if_neg (by lia), ca3]; exact BS.2.2.2.1) (by rw [e6, hI_sI, if_neg (by lia), ca3]; exact BS.2.2.2.2.1) ⟨ws.1, by lia⟩ bsz
      rw [cg, b1_some, ← hWW, ← e3]
      have r3 : ∀ x y, hR h3 x y = hR hc x y := fun x y => by rw [e3, hR_sI, r6]
      simp only [r3, sp.2.1, if_neg (show ¬ (a + 6 + 11 * s + 4 = 0) by lia)]
      exact wp_b1o hQ (fun h17 _ q => by rw [wp_some]; exact q)
    · rw [if_neg c] at er hWW
      rw [hWW, ← i6, sI_id rfl] at e3
      rw [if_pos (by lia), ← e3]
      exact wp_b1o hQ (fun h17 _ q => by rw [wp_some]; exact q)
  refine rest _ ?_
  clear rest
  have O3 : OnI hc h3 := by rw [e3]; exact F2.1.s.s
  have i3 : ∀ x y, ¬ (x = hR hc (a + 6 + 11 * s) 2 ∧ y = k) → ¬ (x = a + 6 + 11 * s ∧ (y = 4 ∨ y = 5 ∨ y = 9)) → x ≠ a + 3 → hI h3 x y = hI hc x y := fun x y q1 q2 q3 => by
    rw [e3, hI_sI, if_neg (by lia), hI_sI, if_neg (by lia)]; exact F2.2 x y q1 q2
  have Q03 : QuC h3 (a + 6 + 11 * s + 4) f0 e0 V0 := Q0.on O3 (fun y => i3 _ _ (fun z => by have := congrArg w z.1; lia) (by lia) (by lia)) (fun y => i3 _ _ (fun z => by have := congrArg w z.1; lia) (fun z => by have := congrArg w z.1; lia) (n3 _ (by rw [w6]; lia)))
  refine wp_of (c_qadd (v := (k : Int)) Q03 he0 hX hY (by rw [O3.n, O3.l, O3.r]; exact rm.1.1) (by rw [O3.z, O3.l, O3.r]; exact rm.1.2)) (fun hc' _ q => ?_)
  obtain ⟨QA, QF, pN, pZ⟩ := q
  refine wp_of (m_find (b := 0) (st := 1) K2 hk hmk (by decide) rfl he0 g13) (fun hm1 _ q => ?_)
  obtain ⟨FM, g1, g2, fo3, K4⟩ := q
  have mm : ∀ y, hI hm1 m y = hI hm m y := fun y => FM.2 _ _ (by lia) (by lia) (by lia) (by lia)
  have up16 : up1 mk k (mk k + 1) k / 8 % 2 = mk k / 8 % 2 ∧ up1 mk k (mk k + 1) k / 16 % 2 = mk k / 16 % 2 := by unfold up1; rw [if_pos rfl]; lia
  have mg := m_wgrow (ws := hI hm m 24) (wt := hI hm m 25) (wr := hI hm m 26) K4 hk (mm 24) (mm 25) (mm 26) ⟨ws.1, by lia⟩ BB.2.2.2.2.2.2.2.2.1.1 (T.1 k hk).1
  rw [up16.1, up16.2, ← hWW] at mg
  rw [w4s hs (by lia), mg, wp_some]
  have hW : 2400 ≤ WW ∧ WW ≤ hI hm m 24 + if (0 : Nat) = 0 then sz k else 0 := by
    rw [hWW, if_pos rfl]
    by_cases c : mk k / 8 % 2 = 1
    · rw [if_pos c]; exact bW
    · rw [if_neg c]; lia
  obtain ⟨w', R1, R2, R3, R4, R5, R6⟩ := j_core (st := 1) B hs (b := 0) (by decide) rfl hk hmk d wS K1 K2 Q0 Q1 QM' S T F2 u4 u5 K3 er e3 ⟨fun _ => ⟨rfl, rfl, rfl⟩, fun z => absurd z (by decide)⟩ QA QF pN pZ FM g1 g2 K4 rfl hW rN rZ
  refine ⟨w', R1, R2, R3, R4, R5, R6, FM.1.s, fun x y q1 q2 q3 q4 q5 => ?_, ?_, e0, he0, g13, ?_, ?_, fun y hy => ?_⟩
  · rw [hI_sI, if_neg q5]; exact FM.2 x y q1 q2 (fun z => q3 z.1) q4
  · rw [hI_sI, if_neg (by lia), (K4.2.2.2.2.2.1 k hk).2.2.1]
    unfold up1; rw [if_pos rfl]; lia
  · rw [hI_sI, if_neg (by lia)]; exact g1
  · rw [hI_sI, if_neg (by lia)]; exact g2
  · rw [hI_sI, if_neg (by lia)]; exact FM.2 _ _ (by lia) (by lia) (by lia) (by lia)
end
