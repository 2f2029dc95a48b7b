/-! the book: a packet is found, the relation behind it -/
section
variable {hc hc' h2 h3 hm hm1 hm' : Hp} {a m s n fo fo' fo'' k b ff ee : Nat} {tm sz mk VV : Nat → Int} {w : Nat → Nat} {WW r st : Int}
theorem dnM_le {p : Nat} {T : Int} (K : SpR hc p w hm m s T) : 0 ≤ dnM hm m s ∧ dnM hm m s ≤ 140000000 := by
  obtain ⟨n, tm, sz, mk, fo, _, _, K2, _⟩ := K
  rw [K2.fl.2]
  obtain ⟨_, _, _, k3, _, _, k6⟩ := K2
  have g : ∀ i, i ≤ n → 0 ≤ ctD mk sz i ∧ ctD mk sz i ≤ 32768 * i := by
    intro i
    induction i with
    | zero => intro _; exact ⟨Int.le_refl 0, Int.le_refl 0⟩
    | succ i ih =>
      intro hi
      have := ih (by lia)
      have := (k6 i (by lia)).2
      show 0 ≤ ctD mk sz i + _ ∧ ctD mk sz i + _ ≤ _
      split <;> lia
  have := g n (Nat.le_refl _)
  lia
theorem SpR.opn (B : BkR hc a w hm m) (hs : s < 3) (hn : hI hm (m + 1) s = (n : Int)) : ∃ tm sz mk fo, SpW hc (a + 6 + 11 * s) s w ∧ PkC hc (a + 6 + 11 * s) n tm sz mk fo ∧ PkM hm m s n tm sz mk fo ∧ QR hc (a + 6 + 11 * s) hm m s n mk ∧ ScR hc (a + 6 + 11 * s) hm m s n tm mk ∧ TmR n tm sz (hI hm m 0) := by
  obtain ⟨n', tm, sz, mk, fo, h1, h2, h3, h4⟩ := B.2.2.2.1 s hs
  have : n' = n := by have := h3.2.1; lia
  subst this
  exact ⟨tm, sz, mk, fo, h1, h2, h3, h4⟩
theorem j_core {f0 e0 f1 e1 : Nat} {V0 V1 : Nat → Int} {X Y : Nat} (B : BkR hc a w hm m) (hs : s < 3) (hb : b < 2) (hst : st = ((b + 1 : Nat) : Int)) (hk : k < n) (hm0 : mk k % 4 = 0) (d : hI hm (m + 9) s = 0)
    (W0 : SpW hc (a + 6 + 11 * s) s w) (K1 : PkC hc (a + 6 + 11 * s) n tm sz mk fo) (K2 : PkM hm m s n tm sz mk fo)
    (Q0 : QuC hc (a + 6 + 11 * s + 4) f0 e0 V0) (Q1 : QuC hc (a + 6 + 11 * s + 6) f1 e1 V1) (QM : QMs hm m (2 * s) f0 e0 V0 ∧ QMs hm m (2 * s + 1) f1 e1 V1 ∧ (e0 : Int) + e1 + ctO mk n = n ∧ (∀ j, j < e0 → 0 ≤ V0 j ∧ V0 j < n) ∧ ∀ j, j < e1 → 0 ≤ V1 j ∧ V1 j < n)
    (S0 : ScR hc (a + 6 + 11 * s) hm m s n tm mk) (T0 : TmR n tm sz (hI hm m 0))
    (F2 : StF hc h2 (a + 6 + 11 * s) k) (c4 : hI h2 (a + 6 + 11 * s) 4 = ctO (up1 mk k (mk k + st)) n) (c5 : hI h2 (a + 6 + 11 * s) 5 = ctE (up1 mk k (mk k + st)) n) (K3 : PkC h2 (a + 6 + 11 * s) n tm sz (up1 mk k (mk k + st)) fo')
    (er : r = if mk k / 8 % 2 = 1 then sz k else 0) (e3 : h3 = sI (sI h2 (a + 3) 3 (w32 (hI h2 (a + 3) 3 - r))) (a + 3) 0 WW)
    (hee : (b = 0 → ff = f0 ∧ ee = e0 ∧ VV = V0) ∧ (b = 1 → ff = f1 ∧ ee = e1 ∧ VV = V1))
    (QA : QuC hc' (a + 6 + 11 * s + 4 + 2 * b) ff (ee + 1) (up1 VV ee (k : Int))) (QF : QaF h3 hc' (a + 6 + 11 * s + 4 + 2 * b))
    (pN : hN hc' + (8192 - ln hc' (hR hc' (a + 6 + 11 * s + 4 + 2 * b) 0)) ≤ hN h3 + (8192 - ln h3 (hR h3 (a + 6 + 11 * s + 4 + 2 * b) 0))) (pZ : hZ hc' + 2 * (8192 - ln hc' (hR hc' (a + 6 + 11 * s + 4 + 2 * b) 0)) ≤ hZ h3 + 2 * (8192 - ln h3 (hR h3 (a + 6 + 11 * s + 4 + 2 * b) 0)))
    (FM : FdF hm hm1 m s k b ee) (g1 : hI hm1 (m + 13) (2 * s + b) = ((ee + 1 : Nat) : Int)) (g2 : hI hm1 (m + 12) (4096 * (2 * s + b) + ee) = (k : Int)) (K4 : PkM hm1 m s n tm sz (up1 mk k (mk k + st)) fo'') (e5 : hm' = sI hm1 m 24 WW)
    (hW : 2400 ≤ WW ∧ WW ≤ hI hm m 24 + if b = 0 then sz k else 0)
    (rN : hN hc + bpot hc a ≤ X) (rZ : hZ hc + 2 * bpot hc a ≤ Y) :
    ∃ w', BkR hc' a w' hm' m ∧ WE w w' hc s ∧ GF (CFs w a s) hc hc' ∧ hN hc' + bpot hc' a ≤ X ∧ hZ hc' + 2 * bpot hc' a ≤ Y ∧ CmF a hc hc' := by
  have L := B.1.1
  have LM := B.1.2
  have bw := B.2.1
  have wa := B.2.2.1
  have a0 := L.1
  have m0 := LM.1
  obtain ⟨w1, w2, w3, w4, w5, w6, w7, w8, w9, w10, w11, w0⟩ := W0
  generalize ep' : a + 6 + 11 * s = p at *
  have ep : p = a + 6 + 11 * s := ep'.symm
  obtain ⟨q, eq⟩ : ∃ q, q = p + 4 + 2 * b := ⟨_, rfl⟩
  rw [← eq] at QA QF pN pZ
  -- the cell of the queue and its row
  have wq : w q = 10 * s + 15 + 2 * b := by rw [eq]; rcases (show b = 0 ∨ b = 1 by lia) with rfl | rfl; exact w5; exact w7
  have wr : w (hR hc q 0) = 10 * s + 16 + 2 * b := by rw [eq]; rcases (show b = 0 ∨ b = 1 by lia) with rfl | rfl; exact w6; exact w8
  have h3r : hR h3 = hR hc := by rw [e3]; exact F2.1.r
  have h3l : ln h3 = ln hc := by rw [e3]; exact F2.1.l
  have h3j : hJ h3 = hJ hc := by rw [e3]; exact F2.1.j
  have h3n : hN h3 = hN hc := by rw [e3]; exact F2.1.n
  have h3z : hZ h3 = hZ hc := by rw [e3]; exact F2.1.z
  rw [h3n, h3l, h3r] at pN
  rw [h3z, h3l, h3r] at pZ
  have rowc : hR hc' q 0 = hR hc q 0 ∨ hN hc ≤ hR hc' q 0 := by have := QF.2; rw [h3r, h3n] at this; exact this
  have GQ : GF (fun x => x = q ∨ x = hR hc q 0) h3 hc' := by have := QF.1; rw [h3r] at this; exact this
  -- int slots of h3
  have i3 : ∀ x y, ¬ (x = hR hc p 2 ∧ y = k) → ¬ (x = p ∧ (y = 4 ∨ y = 5 ∨ y = 9)) → ¬ (x = a + 3 ∧ (y = 0 ∨ y = 3)) → hI h3 x y = hI hc x y := fun x y q1 q2 q3 => by
    rw [e3, hI_sI, if_neg (by lia), hI_sI, if_neg (by lia)]; exact F2.2 x y q1 q2
  have p3 : p ≠ a + 3 := by lia
  have n3 : ∀ x, w x ≠ 53 → x ≠ a + 3 := fun x hx z => hx (by rw [z]; exact wa.2.2.2.1)
  have i32 : ∀ x y, x ≠ a + 3 → hI h3 x y = hI h2 x y := fun x y hx => by rw [e3, hI_sI, if_neg (by lia), hI_sI, if_neg (by lia)]
  -- frames up to hc'
  have G1 : GF (fun x => x = hR hc p 2 ∨ x = p ∨ x = a + 3 ∨ x = q ∨ x = hR hc q 0) hc hc' := by
    refine GF.trans' (D := fun x => x = q ∨ x = hR hc q 0) (OnI.gf (h' := h3) (by rw [e3]; exact F2.1.s.s) (fun x y hx => i3 x y (fun z => hx (Or.inl z.1)) (fun z => hx (Or.inr (Or.inl z.1))) (fun z => hx (Or.inr (Or.inr (Or.inl z.1)))))) GQ (fun x _ hx => ?_)
    rcases hx with rfl | rfl
    · exact Or.inr (Or.inr (Or.inr (Or.inl rfl)))
    · exact Or.inr (Or.inr (Or.inr (Or.inr rfl)))
  have G : GF (CFs w a s) hc hc' := G1.mono (fun x hx => by
    rcases hx with rfl | rfl | rfl | rfl | rfl
    · exact Or.inl (by rw [w4]; lia)
    · exact Or.inl (by rw [w1]; lia)
    · exact Or.inr rfl
    · exact Or.inl (by rw [wq]; lia)
    · exact Or.inl (by rw [wr]; lia))
  have cI : ∀ x y, x < hN hc → x ≠ q → x ≠ hR hc q 0 → hI hc' x y = hI h3 x y := fun x y h1 h2 h3' => GQ.i (by rw [h3n]; exact h1) (by rintro (z | z); exact h2 z; exact h3' z)
  have cR : ∀ x y, x < hN hc → x ≠ q → x ≠ hR hc q 0 → hR hc' x y = hR hc x y := fun x y h1 h2 h3' => by rw [GQ.r (by rw [h3n]; exact h1) (by rintro (z | z); exact h2 z; exact h3' z), h3r]
  have cL : ∀ x, x < hN hc → x ≠ q → x ≠ hR hc q 0 → ln hc' x = ln hc x := fun x h1 h2 h3' => by rw [GQ.l (by rw [h3n]; exact h1) (by rintro (z | z); exact h2 z; exact h3' z), h3l]
  have cJ : ∀ x y, x < hN hc → x ≠ q → x ≠ hR hc q 0 → hJ hc' x y = hJ hc x y := fun x y h1 h2 h3' => by rw [GQ.j (by rw [h3n]; exact h1) (by rintro (z | z); exact h2 z; exact h3' z), h3j]
  have lt : ∀ x, w x ≠ 0 → x < hN hc := bw
  have nq : ∀ x, w x ≠ 10 * s + 15 + 2 * b → x ≠ q := fun x hx z => hx (by rw [z]; exact wq)
  have nr : ∀ x, w x ≠ 10 * s + 16 + 2 * b → x ≠ hR hc q 0 := fun x hx z => hx (by rw [z]; exact wr)
  have ltq := lt q (by lia)
  have ltr := lt (hR hc q 0) (by lia)
  have qz : hR hc' q 0 ≠ 0 ∧ hR hc' q 0 < hN hc' := ⟨QA.2.2.2.2.1.2.1, QA.2.2.2.2.1.2.2.2.2⟩
  have w'h : ∃ w' : Nat → Nat, (∀ x, w x ≠ 0 → w x ≠ 10 * s + 16 + 2 * b → w' x = w x) ∧ w' (hR hc' q 0) = 10 * s + 16 + 2 * b ∧ w' 0 = 0 ∧ (∀ x, w' x ≠ 0 → x < hN hc') ∧ WE w w' hc s := by
    refine ⟨fun x => if x = hR hc' q 0 then 10 * s + 16 + 2 * b else if x = hR hc q 0 then 0 else w x, fun x h1 h2 => ?_, if_pos rfl, ?_, fun x h1 => ?_, fun x hx => ?_⟩
    · have c1 : x ≠ hR hc' q 0 := fun z => by
        rcases rowc with y | y
        · rw [z, y] at h2; exact h2 wr
        · have := lt x h1; lia
      show (if x = hR hc' q 0 then 10 * s + 16 + 2 * b else if x = hR hc q 0 then 0 else w x) = w x
      rw [if_neg c1, if_neg (nr x h2)]
    · show (if 0 = hR hc' q 0 then 10 * s + 16 + 2 * b else if 0 = hR hc q 0 then 0 else w 0) = 0
      rw [if_neg (Ne.symm qz.1), w0]; split <;> rfl
    · have h1' : (if x = hR hc' q 0 then 10 * s + 16 + 2 * b else if x = hR hc q 0 then 0 else w x) ≠ 0 := h1
      by_cases c1 : x = hR hc' q 0
      · rw [c1]; exact qz.2
      · rw [if_neg c1] at h1'
        by_cases c2 : x = hR hc q 0
        · rw [if_pos c2] at h1'; exact absurd rfl h1'
        · rw [if_neg c2] at h1'
          exact Nat.lt_of_lt_of_le (lt x h1') G.1
    · show (if x = hR hc' q 0 then 10 * s + 16 + 2 * b else if x = hR hc q 0 then 0 else w x) = w x ∨ (w x / 10 = s + 1 ∧ (if x = hR hc' q 0 then 10 * s + 16 + 2 * b else if x = hR hc q 0 then 0 else w x) = 0)
      by_cases c1 : x = hR hc' q 0
      · rw [if_pos c1]
        have : x = hR hc q 0 := by rcases rowc with z | z; rw [c1, z]; lia
        rw [this, wr]; exact Or.inl rfl
      · rw [if_neg c1]
        by_cases c2 : x = hR hc q 0
        · rw [if_pos c2, c2, wr]; exact Or.inr ⟨by lia, rfl⟩
        · rw [if_neg c2]; exact Or.inl rfl
  obtain ⟨w', wk, wrow, w'0, w'b, w'e⟩ := w'h
  -- model
  have mI : ∀ x y, ¬ (x = m + 4 ∧ y = 4096 * s + k) → ¬ (x = m + 8 ∧ y = s) → ¬ (x = m + 12 ∧ y = 4096 * (2 * s + b) + ee) → ¬ (x = m + 13 ∧ y = 2 * s + b) → ¬ (x = m ∧ y = 24) → hI hm' x y = hI hm x y := fun x y q1 q2 q3 q4 q5 => by rw [e5, hI_sI, if_neg q5]; exact FM.2 x y q1 q2 q3 q4
  have e4096 : ee < 4096 := by have := QA.2.2.2.1; lia
  have k4096 : k < 4096 := by have := K1.2.2.1; lia
  have LM' : MBk hm' m := by rw [e5]; exact LM.of FM.1.r FM.1.l
  have MF : ∀ s', s' < 3 → s' ≠ s → MFs hm hm' m s' := fun s' h1 h2 => by
    refine ⟨fun i y hi hy => mI _ _ (by lia) (by lia) (by lia) (by lia) (by lia), fun i y hi1 hi2 hy => mI _ _ (by lia) (by lia) (by lia) (by lia) (by lia), fun i y hi hy => mI _ _ (by lia) (by lia) (by lia) (by lia) (by lia), fun y hy => mI _ _ (by lia) (by lia) (by lia) (by lia) (by lia), fun _ => LM'⟩
  have MFs : MFs hm1 hm' m s := by
    rw [e5]
    exact ⟨fun i y hi hy => by rw [hI_sI, if_neg (by lia)], fun i y hi1 hi2 hy => by rw [hI_sI, if_neg (by lia)], fun i y hi hy => by rw [hI_sI, if_neg (by lia)], fun y hy => by rw [hI_sI, if_neg (by lia)], fun z => z⟩
  have K5 : PkM hm' m s n tm sz (up1 mk k (mk k + st)) fo'' := K4.fr MFs
  have efo : fo' = fo'' := FoP_uniq K3.2.2.2.1 K4.2.2.2.2.1
  subst efo
  have tim : hI hm' m 0 = hI hm m 0 := mI _ _ (by lia) (by lia) (by lia) (by lia) (by lia)
  have st4 : (mk k + st) / 4 = mk k / 4 ∧ (mk k + st) % 4 ≠ 0 := by lia
  have u4 : ∀ i, up1 mk k (mk k + st) i / 4 = mk i / 4 := fun i => by
    unfold up1
    by_cases c : i = k
    · rw [if_pos c, c]; exact st4.1
    · rw [if_neg c]
  have CM : CmF a hc hc' := fun s' hs' => by
    obtain ⟨v1, v2, v3, v4, v5, v6, v7, v8, v9, v10, v11, v0⟩ := B.ws hs'
    have key : ∀ x, w x = 10 * s' + 19 → ∀ y, hI hc' x y = hI hc x y ∧ hJ hc' x y = hJ hc x y := fun x hx y => ⟨by rw [cI x y (lt _ (by lia)) (nq _ (by lia)) (nr _ (by lia))]; exact i3 _ _ (fun z => by have := congrArg w z.1; lia) (fun z => by have := congrArg w z.1; lia) (fun z => n3 x (by lia) z.1), cJ x y (lt _ (by lia)) (nq _ (by lia)) (nr _ (by lia))⟩
    refine ⟨fun y hy => ?_, fun i y h1 h2 => ?_⟩
    · rw [cI _ y (lt _ (by lia)) (nq _ (by lia)) (nr _ (by lia))]; exact i3 _ _ (fun z => by have := congrArg w z.1; lia) (by lia) (fun z => n3 _ (by lia) z.1)
    · rcases (show i = 8 ∨ i = 9 ∨ i = 10 by lia) with rfl | rfl | rfl
      · exact key _ v9 y
      · exact key _ v10 y
      · exact key _ v11 y
  refine ⟨w', ⟨⟨?_, LM'⟩, w'b, ?_, ?_, ?_, ?_⟩, w'e, G, ?_⟩
  · have key : ∀ x, (x = 0 ∨ x = 1 ∨ x = 4 ∨ x = 5 ∨ x = 6 ∨ x = 14 ∨ x = 15 ∨ x = 16 ∨ x = 17 ∨ x = 25 ∨ x = 26 ∨ x = 27 ∨ x = 28 ∨ x = 36 ∨ x = 37 ∨ x = 38) → a + x < hN hc ∧ a + x ≠ q ∧ a + x ≠ hR hc q 0 := fun x hx => by
      have := B.wx hx
      exact ⟨lt _ (by lia), nq _ (by lia), nr _ (by lia)⟩
    exact L.frx (fun x y hx _ => by have := key x (by lia); exact cR _ _ this.1 this.2.1 this.2.2) (fun x hx => by have := key x (by lia); exact cL _ this.1 this.2.1 this.2.2)
  · obtain ⟨v1, v2, v3, v4, v5, v6⟩ := wa
    rw [wk a (by lia) (by lia), wk (a + 1) (by lia) (by lia), wk (a + 2) (by lia) (by lia), wk (a + 3) (by lia) (by lia), wk (a + 4) (by lia) (by lia), wk (a + 5) (by lia) (by lia)]
    exact ⟨v1, v2, v3, v4, v5, v6⟩
  · intro s' hs'
    rw [tim]
    by_cases c : s' = s
    · subst c
      rw [← ep]
      have np0 : hR hc p 0 ≠ q ∧ hR hc p 0 ≠ hR hc q 0 := ⟨nq _ (by lia), nr _ (by lia)⟩
      have np1 : hR hc p 1 ≠ q ∧ hR hc p 1 ≠ hR hc q 0 := ⟨nq _ (by lia), nr _ (by lia)⟩
      have np2 : hR hc p 2 ≠ q ∧ hR hc p 2 ≠ hR hc q 0 := ⟨nq _ (by lia), nr _ (by lia)⟩
      have np : p ≠ q ∧ p ≠ hR hc q 0 := ⟨nq _ (by lia), nr _ (by lia)⟩
      have na0 : hR hc p 0 ≠ a + 3 := n3 _ (by lia)
      have na1 : hR hc p 1 ≠ a + 3 := n3 _ (by lia)
      have na2 : hR hc p 2 ≠ a + 3 := n3 _ (by lia)
      have rp : ∀ y, hR hc' p y = hR hc p y := fun y => cR p y (lt p (by lia)) np.1 np.2
      have ip : ∀ y, hI hc' p y = hI h2 p y := fun y => by rw [cI p y (lt p (by lia)) np.1 np.2, i32 p y p3]
      have rq : hR hc' (p + 4) 0 = (if b = 0 then hR hc' q 0 else hR hc (p + 4) 0) ∧ hR hc' (p + 6) 0 = (if b = 0 then hR hc (p + 6) 0 else hR hc' q 0) := by
        rcases (show b = 0 ∨ b = 1 by lia) with rfl | rfl
        · exact ⟨by rw [if_pos rfl, eq], by rw [if_pos rfl]; exact cR _ _ (lt _ (by lia)) (nq _ (by lia)) (nr _ (by lia))⟩
        · exact ⟨by rw [if_neg (by decide)]; exact cR _ _ (lt _ (by lia)) (nq _ (by lia)) (nr _ (by lia)), by rw [if_neg (by decide), eq]⟩
      refine ⟨n, tm, sz, up1 mk k (mk k + st), fo', ?_, ?_, K5, ?_, ?_, T0⟩
      · unfold SpW
        rw [rp, rp, rp, rq.1, rq.2, wk p (by lia) (by lia), wk (hR hc p 0) (by lia) (by lia), wk (hR hc p 1) (by lia) (by lia), wk (hR hc p 2) (by lia) (by lia), wk (p + 4) (by lia) (by lia), wk (p + 6) (by lia) (by lia), wk (p + 8) (by lia) (by lia), wk (p + 9) (by lia) (by lia), wk (p + 10) (by lia) (by lia)]
        refine ⟨w1, w2, w3, w4, w5, ?_, w7, ?_, w9, w10, w11, w'0⟩
        · rcases (show b = 0 ∨ b = 1 by lia) with rfl | rfl
          · rw [if_pos rfl]; exact wrow
          · rw [if_neg (by decide), wk _ (by lia) (by lia)]; exact w6
        · rcases (show b = 0 ∨ b = 1 by lia) with rfl | rfl
          · rw [if_pos rfl, wk _ (by lia) (by lia)]; exact w8
          · rw [if_neg (by decide)]; exact wrow
      · obtain ⟨k1, k2, k3, k4, k5, k6, k7⟩ := K3
        rw [F2.1.r, F2.1.l] at k5
        rw [F2.1.r] at k6
        refine ⟨by rw [ip]; exact k1, by rw [ip]; exact k2, k3, k4, ?_, fun i hi => ?_, k7⟩
        · rw [rp, rp, rp, cL _ (lt _ (by lia)) np0.1 np0.2, cL _ (lt _ (by lia)) np1.1 np1.2, cL _ (lt _ (by lia)) np2.1 np2.2]; exact k5
        · rw [rp, rp, rp, cI _ _ (lt _ (by lia)) np0.1 np0.2, cI _ _ (lt _ (by lia)) np1.1 np1.2, cI _ _ (lt _ (by lia)) np2.1 np2.2, i32 _ _ na0, i32 _ _ na1, i32 _ _ na2]; exact k6 i hi
      · have d' : hI hm' (m + 9) s' = 0 := by rw [mI _ _ (by lia) (by lia) (by lia) (by lia) (by lia)]; exact d
        have tol : ∀ l, hI hm' (m + 14) l = hI hm (m + 14) l := fun l => mI _ _ (by lia) (by lia) (by lia) (by lia) (by lia)
        have fnd : hI hm' (m + 13) (2 * s' + b) = ((ee + 1 : Nat) : Int) := by rw [e5, hI_sI, if_neg (by lia)]; exact g1
        have ent : hI hm' (m + 12) (4096 * (2 * s' + b) + ee) = (k : Int) := by rw [e5, hI_sI, if_neg (by lia)]; exact g2
        have oth : ∀ x y, x ≠ 4096 * (2 * s' + b) + ee → y ≠ 2 * s' + b → hI hm' (m + 12) x = hI hm (m + 12) x ∧ hI hm' (m + 13) y = hI hm (m + 13) y := fun x y h1 h2 => ⟨mI _ _ (by lia) (by lia) (by lia) (by lia) (by lia), mI _ _ (by lia) (by lia) (by lia) (by lia) (by lia)⟩
        obtain ⟨⟨qa1, qa2, qa3⟩, ⟨qb1, qb2, qb3⟩, qs, qv0, qv1⟩ := QM
        have cu := ctO_up (v := mk k + st) hm0 st4.2 n
        rw [if_pos hk] at cu
        have uv : ∀ (U : Nat → Int) (e : Nat), (∀ j, j < e → 0 ≤ U j ∧ U j < n) → ∀ j, j < e + 1 → 0 ≤ up1 U e (k : Int) j ∧ up1 U e (k : Int) j < n := fun U e hU j hj => by
          unfold up1
          by_cases c : j = e
          · rw [if_pos c]; lia
          · rw [if_neg c]; exact hU j (by lia)
        have g0 := K2.1.2
        rcases (show b = 0 ∨ b = 1 by lia) with hb0 | hb0
        · subst hb0
          obtain ⟨rfl, rfl, rfl⟩ := hee.1 rfl
          have Q1' : QuC hc' (p + 6) f1 e1 V1 := Q1.fr G1 (by
            rintro (z | z | z | z | z)
            · exact absurd z (fun z => by have := congrArg w z; lia)
            · lia
            · lia
            · lia
            · exact absurd z (fun z => by have := congrArg w z; lia)) (by
            rintro (z | z | z | z | z)
            · exact absurd z (fun z => by have := congrArg w z; lia)
            · exact absurd z (fun z => by have := congrArg w z; lia)
            · exact n3 _ (by lia) z
            · exact nq _ (by lia) z
            · exact absurd z (fun z => by have := congrArg w z; lia))
          have QA' : QuC hc' (p + 4) ff (ee + 1) (up1 VV ee (k : Int)) := by rw [show p + 4 = q by lia]; exact QA
          refine ⟨ff, ee + 1, up1 VV ee (k : Int), f1, e1, V1, QA', Q1', fun _ => ⟨⟨?_, ?_, fun j hj => ?_⟩, ⟨?_, ?_, fun j hj => ?_⟩, ?_, uv VV ee qv0, qv1⟩, fun z => absurd d' z⟩
          · rw [tol]; exact qa1
          · exact fnd
          · unfold up1
            by_cases c : j = ee
            · rw [if_pos c, c]; exact ent
            · rw [if_neg c, (oth _ (2 * s' + 1) (by lia) (by lia)).1]; exact qa3 j (by lia)
          · rw [tol]; exact qb1
          · rw [(oth (4096 * (2 * s' + 0) + ee + 1) (2 * s' + 1) (by lia) (by lia)).2]; exact qb2
          · have := Q1.2.2.2.1
            rw [(oth _ (2 * s' + 1) (by lia) (by lia)).1]; exact qb3 j hj
          · rw [cu]; lia
        · subst hb0
          obtain ⟨rfl, rfl, rfl⟩ := hee.2 rfl
          have Q0' : QuC hc' (p + 4) f0 e0 V0 := Q0.fr G1 (by
            rintro (z | z | z | z | z)
            · exact absurd z (fun z => by have := congrArg w z; lia)
            · lia
            · lia
            · lia
            · exact absurd z (fun z => by have := congrArg w z; lia)) (by
            rintro (z | z | z | z | z)
            · exact absurd z (fun z => by have := congrArg w z; lia)
            · exact absurd z (fun z => by have := congrArg w z; lia)
            · exact n3 _ (by lia) z
            · exact nq _ (by lia) z
            · exact absurd z (fun z => by have := congrArg w z; lia))
          have QA' : QuC hc' (p + 6) ff (ee + 1) (up1 VV ee (k : Int)) := by rw [show p + 6 = q by lia]; exact QA
          refine ⟨f0, e0, V0, ff, ee + 1, up1 VV ee (k : Int), Q0', QA', fun _ => ⟨⟨?_, ?_, fun j hj => ?_⟩, ⟨?_, ?_, fun j hj => ?_⟩, ?_, qv0, uv VV ee qv1⟩, fun z => absurd d' z⟩
          · rw [tol]; exact qa1
          · rw [(oth 0 (2 * s') (by lia) (by lia)).2]; exact qa2
          · have := Q0.2.2.2.1
            rw [(oth _ (2 * s') (by lia) (by lia)).1]; exact qa3 j hj
          · rw [tol]; exact qb1
          · exact fnd
          · unfold up1
            by_cases c : j = ee
            · rw [if_pos c, c]; exact ent
            · rw [if_neg c, (oth _ (2 * s') (by lia) (by lia)).1]; exact qb3 j (by lia)
          · rw [cu]; lia
      · obtain ⟨⟨s1, s1'⟩, ⟨s2, s3, s4⟩, s5, s6, s7, s8⟩ := S0
        have e9 : hI hm' (m + 9) s' = hI hm (m + 9) s' := mI _ _ (by lia) (by lia) (by lia) (by lia) (by lia)
        have e10 : hI hm' (m + 10) s' = hI hm (m + 10) s' := mI _ _ (by lia) (by lia) (by lia) (by lia) (by lia)
        have e11 : hI hm' (m + 11) s' = hI hm (m + 11) s' := mI _ _ (by lia) (by lia) (by lia) (by lia) (by lia)
        have i2 : ∀ y, y ≠ 4 → y ≠ 5 → y ≠ 9 → hI h2 p y = hI hc p y := fun y h4 h5 h9 => F2.2 p y (fun z => absurd z.1 (fun z => by have := congrArg w z; lia)) (by lia)
        unfold ScR
        rw [ip, ip, ip, ip, ip, ip, e9, e10, e11, i2 10 (by decide) (by decide) (by decide), i2 6 (by decide) (by decide) (by decide), i2 8 (by decide) (by decide) (by decide), i2 7 (by decide) (by decide) (by decide), c4, c5, if_pos d, if_pos d]
        refine ⟨⟨s1, s1'⟩, ⟨s2, s3, s4⟩, s5, rfl, rfl, fun i hi h1 h2' => s8 i hi (by rw [← u4]; exact h1) (fun j h3' h4' => by rw [← u4]; exact h2' j h3' h4')⟩
    · exact (B.2.2.2.1 s' hs').fr bw G (fun x hx z => by rcases z with z | z; lia; rw [z, wa.2.2.2.1] at hx; lia) (fun x hx => wk x (by lia) (by lia)) w'0 (MF s' hs' c)
  · obtain ⟨⟨b1, b2, b3, b4, b5⟩, ⟨b6, b7, b8, b9, b10⟩, b11, b12, b13, b14⟩ := B.2.2.2.2.1
    have ca : ∀ y, hI hc' a y = hI hc a y := fun y => by rw [cI a y (lt _ (by lia)) (nq _ (by lia)) (nr _ (by lia))]; exact i3 _ _ (fun z => by have := congrArg w z.1; lia) (by lia) (by lia)
    have ca2 : ∀ y, hI hc' (a + 2) y = hI hc (a + 2) y := fun y => by rw [cI _ y (lt _ (by lia)) (nq _ (by lia)) (nr _ (by lia))]; exact i3 _ _ (fun z => by have := congrArg w z.1; lia) (by lia) (by lia)
    have ca3 : ∀ y, hI hc' (a + 3) y = hI h3 (a + 3) y := fun y => cI _ y (lt _ (by lia)) (nq _ (by lia)) (nr _ (by lia))
    have ca3' : ∀ y, y ≠ 0 → y ≠ 3 → hI hc' (a + 3) y = hI hc (a + 3) y := fun y h0 h3' => by rw [ca3]; exact i3 _ _ (fun z => by have := congrArg w z.1; lia) (by lia) (by lia)
    have mm : ∀ y, y ≠ 24 → hI hm' m y = hI hm m y := fun y hy => mI _ _ (by lia) (by lia) (by lia) (by lia) (by lia)
    have m24 : hI hm' m 24 = WW := by rw [e5, hI_sI, if_pos ⟨rfl, rfl⟩]
    have c30 : hI h3 (a + 3) 0 = WW := by rw [e3, hI_sI, if_pos ⟨rfl, rfl⟩]
    have c33 : hI h3 (a + 3) 3 = w32 (hI hc (a + 3) 3 - r) := by
      rw [e3, hI_sI, if_neg (by lia), hI_sI, if_pos ⟨rfl, rfl⟩, F2.2 _ _ (fun z => by have := congrArg w z.1; lia) (by lia)]
    have fo_ : ∀ s', s' < 3 → s' ≠ s → flM hm' m s' = flM hm m s' := fun s' h1 h2 => (flM_fr (B.2.2.2.1 s' h1) (MF s' h1 h2)).1
    have fs : flM hm' m s = flM hm m s - r := by
      rw [K5.fl.1, K2.fl.1]
      have e9 : hI hm' (m + 9) s = hI hm (m + 9) s := mI _ _ (by lia) (by lia) (by lia) (by lia) (by lia)
      unfold flS
      rw [e9, if_pos d, if_pos d, ctF_up hm0 st4.2, er]
      by_cases c : mk k / 8 % 2 = 1
      · rw [if_pos c, if_pos ⟨hk, c⟩]
      · rw [if_neg c, if_neg (fun z => c z.2)]
    have fb : ∀ s', s' < 3 → 0 ≤ flM hm' m s' ∧ flM hm' m s' ≤ 140000000 := fun s' h1 => by
      have key : ∀ {n tm sz mk fo}, PkM hm' m s' n tm sz mk fo → 0 ≤ flM hm' m s' ∧ flM hm' m s' ≤ 140000000 := fun {n tm sz mk fo} K => by
        rw [K.fl.1]
        have := ctF_0 (mk := mk) (sz := sz) (n := n) (fun i hi => (K.2.2.2.2.2.2 i hi).2)
        have := K.2.2.2.1
        unfold flS; split <;> lia
      by_cases c : s' = s
      · rw [c] at key ⊢; exact key K5
      · obtain ⟨n', tm', sz', mk', fo', _, _, K2', _⟩ := B.2.2.2.1 s' h1
        exact key (K2'.fr (MF s' h1 c))
    have sum : w32 (hI hc (a + 3) 3 - r) = flM hm' m 0 + flM hm' m 1 + flM hm' m 2 := by
      have f0 := fb 0 (by decide)
      have f1 := fb 1 (by decide)
      have f2 := fb 2 (by decide)
      rw [b14]
      rcases (show s = 0 ∨ s = 1 ∨ s = 2 by lia) with rfl | rfl | rfl
      · have := fo_ 1 (by decide) (by decide)
        have := fo_ 2 (by decide) (by decide)
        rw [w32_id ⟨by lia, by lia⟩]; lia
      · have := fo_ 0 (by decide) (by decide)
        have := fo_ 2 (by decide) (by decide)
        rw [w32_id ⟨by lia, by lia⟩]; lia
      · have := fo_ 0 (by decide) (by decide)
        have := fo_ 1 (by decide) (by decide)
        rw [w32_id ⟨by lia, by lia⟩]; lia
    unfold BkS
    rw [ca, ca, ca, ca, ca, ca2, ca2, ca2, ca2, ca2, ca3 0, ca3' 1 (by decide) (by decide), ca3' 2 (by decide) (by decide), ca3 3, mm 0 (by decide), mm 23 (by decide), mm 14 (by decide), mm 1 (by decide), mm 2 (by decide), mm 18 (by decide), mm 19 (by decide), mm 20 (by decide), mm 21 (by decide), mm 22 (by decide), mm 25 (by decide), mm 26 (by decide), m24, c30, c33, sum]
    exact ⟨⟨b1, b2, b3, b4, b5⟩, ⟨b6, b7, b8, b9, b10⟩, rfl, b12, b13, rfl⟩
  · obtain ⟨b1, b2, b3, b4, b5, b6, b7, b8, b9, b10⟩ := B.2.2.2.2.2
    have mm : ∀ y, y ≠ 24 → hI hm' m y = hI hm m y := fun y hy => mI _ _ (by lia) (by lia) (by lia) (by lia) (by lia)
    have m24 : hI hm' m 24 = WW := by rw [e5, hI_sI, if_pos ⟨rfl, rfl⟩]
    have fo_ : ∀ s', s' < 3 → s' ≠ s → dnM hm' m s' = dnM hm m s' := fun s' h1 h2 => (flM_fr (B.2.2.2.1 s' h1) (MF s' h1 h2)).2
    have fs : dnM hm' m s = dnM hm m s + if b = 0 then sz k else 0 := by
      rw [K5.fl.2, K2.fl.2, ctD_up hm0]
      by_cases c : b = 0
      · rw [if_pos c, if_pos ⟨hk, by lia⟩]
      · rw [if_neg c, if_neg (by lia)]
    unfold BkB
    rw [mm 0 (by decide), mm 23 (by decide), mm 1 (by decide), mm 2 (by decide), mm 18 (by decide), mm 20 (by decide), mm 21 (by decide), mm 26 (by decide), mm 19 (by decide), m24]
    refine ⟨b1, b2, b3, b4, b5, b6, b7, ⟨hW.1, ?_⟩, b9, b10⟩
    rcases (show s = 0 ∨ s = 1 ∨ s = 2 by lia) with rfl | rfl | rfl
    · have := fo_ 1 (by decide) (by decide)
      have := fo_ 2 (by decide) (by decide)
      lia
    · have := fo_ 0 (by decide) (by decide)
      have := fo_ 2 (by decide) (by decide)
      lia
    · have := fo_ 0 (by decide) (by decide)
      have := fo_ 1 (by decide) (by decide)
      lia
  · have eqb : bps hc' p + (8192 - ln hc (hR hc q 0)) = bps hc p + (8192 - ln hc' (hR hc' q 0)) := by
      unfold bps
      have rp : hR hc' p 0 = hR hc p 0 := cR p 0 (lt p (by lia)) (nq _ (by lia)) (nr _ (by lia))
      rw [rp, cL (hR hc p 0) (lt _ (by lia)) (nq _ (by lia)) (nr _ (by lia))]
      rcases (show b = 0 ∨ b = 1 by lia) with rfl | rfl
      · have e4 : p + 4 = q := by lia
        rw [e4, cR (p + 6) 0 (lt _ (by lia)) (nq _ (by lia)) (nr _ (by lia)), cL (hR hc (p + 6) 0) (lt _ (by lia)) (nq _ (by lia)) (nr _ (by lia))]
        lia
      · have e4 : p + 6 = q := by lia
        rw [e4, cR (p + 4) 0 (lt _ (by lia)) (nq _ (by lia)) (nr _ (by lia)), cL (hR hc (p + 4) 0) (lt _ (by lia)) (nq _ (by lia)) (nr _ (by lia))]
        lia
    have eqo : ∀ s', s' < 3 → s' ≠ s → bps hc' (a + 6 + 11 * s') = bps hc (a + 6 + 11 * s') := fun s' h1 h2 => by
      obtain ⟨v1, v2, v3, v4, v5, v6, v7, v8, _⟩ := B.ws h1
      unfold bps
      rw [cR (a + 6 + 11 * s') 0 (lt _ (by lia)) (nq _ (by lia)) (nr _ (by lia)), cR (a + 6 + 11 * s' + 4) 0 (lt _ (by lia)) (nq _ (by lia)) (nr _ (by lia)), cR (a + 6 + 11 * s' + 6) 0 (lt _ (by lia)) (nq _ (by lia)) (nr _ (by lia)), cL (hR hc (a + 6 + 11 * s') 0) (lt _ (by lia)) (nq _ (by lia)) (nr _ (by lia)), cL (hR hc (a + 6 + 11 * s' + 4) 0) (lt _ (by lia)) (nq _ (by lia)) (nr _ (by lia)), cL (hR hc (a + 6 + 11 * s' + 6) 0) (lt _ (by lia)) (nq _ (by lia)) (nr _ (by lia))]
    unfold bpot at *
    rw [ep] at eqb
    rcases (show s = 0 ∨ s = 1 ∨ s = 2 by lia) with rfl | rfl | rfl
    · rw [eqo 1 (by decide) (by decide), eqo 2 (by decide) (by decide)]
      exact ⟨by lia, by lia, CM⟩
    · rw [eqo 0 (by decide) (by decide), eqo 2 (by decide) (by decide)]
      exact ⟨by lia, by lia, CM⟩
    · rw [eqo 0 (by decide) (by decide), eqo 1 (by decide) (by decide)]
      exact ⟨by lia, by lia, CM⟩
end
