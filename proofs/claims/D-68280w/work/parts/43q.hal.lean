/-! streams, class: the blocks of a stream -/
section
variable {h h' : Hp} {n i j k l x y a s m N : Nat} {v c fr : Int} {z z' : HSt} {w w' : Nat → Nat} {f g : Nat → Int} {D M I X : Nat → Int} {L : Nat → List Nat}
theorem sm_sh : sm f (n + 1) = f 0 + sm (fun i => f (1 + i)) n := by
  induction n with
  | zero => show (0 : Int) + f 0 = f 0 + 0; omega
  | succ n ih =>
    show sm f (n + 1) + f (n + 1) = f 0 + (sm (fun i => f (1 + i)) n + f (1 + n))
    rw [ih, Nat.add_comm 1 n]; omega
/-- the blocks of all other streams -/
theorem hb_oth (V : HV s z) (hi : i < 256) (c : (m : Int) = sm (fun n => ((L n).length : Int)) 257) (inl : ∀ j, j < 256 → InL I (-1) (L (1 + j))) (hb : ∀ j, j < 256 → ∀ k, k ∈ L (1 + j) → 64 * I k < zP z 13 j) : ∃ oth : Nat, m = oth + (L (1 + i)).length + (L 0).length ∧ 64 * (oth : Int) ≤ zQ z 4 - zP z 13 i + 16065 := by
  have e4 := V.2.1.1.2.2.2.1.1
  rw [sm_sh] at c
  have up := sm_up (n := 256) (k := i) (f := fun j => if j = i then 0 else ((L (1 + j)).length : Int)) (g := fun j => ((L (1 + j)).length : Int)) hi (fun j _ hj => by show _ = if j = i then 0 else _; rw [if_neg hj])
  simp only [if_true] at up
  have le : sm (fun j => 64 * (if j = i then 0 else ((L (1 + j)).length : Int))) 256 ≤ sm (fun j => if j = i then 0 else zP z 13 j + 63) 256 := sm_le (fun j hj => by
    show 64 * (if j = i then 0 else ((L (1 + j)).length : Int)) ≤ if j = i then 0 else zP z 13 j + 63
    by_cases q : j = i
    · rw [if_pos q, if_pos q]; omega
    · rw [if_neg q, if_neg q]
      have r := V.rr hj
      have R := inl j hj
      have B := hb j hj
      have := R.len (hi := (zP z 13 j + 63) / 64 - 1) (fun k hk => by have := B k hk; omega) (by omega)
      omega)
  have up2 := sm_up (n := 256) (k := i) (f := fun j => if j = i then 0 else zP z 13 j + 63) (g := fun j => zP z 13 j + 63) hi (fun j _ hj => by show _ = if j = i then 0 else _; rw [if_neg hj])
  simp only [if_true] at up2
  have ad : sm (fun j => zP z 13 j + 63) 256 = sm (zP z 13) 256 + 16128 := by rw [sm_add (f := zP z 13) (g := fun _ => 63), sm_c]; rfl
  have nn := sm_0 (f := fun j => if j = i then 0 else ((L (1 + j)).length : Int)) (n := 256) (fun j _ => by show 0 ≤ if j = i then 0 else ((L (1 + j)).length : Int); split <;> omega)
  rw [sm_mul] at le
  refine ⟨(sm (fun j => if j = i then 0 else ((L (1 + j)).length : Int)) 256).toNat, by omega, by omega⟩
/-- a stream's blocks, as the pool's steps want them -/
theorem hb_open (C : HC h a w s z) (V : HV s z) (hi : i < 256) (y0 : hR h (a + 2) i ≠ 0) : ∃ (t : BSt) (oth : Nat) (L : Nat → List Nat), BI h (a + 17) oth (hR h (a + 2) i) t ∧ t.l = L (1 + i) ∧ t.lf = L 0 ∧ BlP h (a + 17) t.m t.fr t.D t.M t.I t.X ∧ ChX t.X t.fr (L 0) ∧ PoL L t.m 257 ∧ (∀ j, j < 256 → HCd h a z t.D t.M t.I t.X L j) ∧ 64 * (oth : Int) ≤ zQ z 4 - zP z 13 i + 16065 := by
  obtain ⟨m, fr, D, M, I, X, L, c1, c2, ⟨p1, p2, p3, p4⟩, c4⟩ := C.2.2.2.2.2
  obtain ⟨oth, o1, o2⟩ := hb_oth V hi p4 (fun j hj => (c4 j hj).2.2.1) (fun j hj k hk => ((c4 j hj).2.2.2.1 k hk).2.1)
  obtain ⟨d1, d2, d3, d4, d5, d6⟩ := c4 i hi
  refine ⟨((m, fr), D, M, I, X, L (1 + i), L 0), oth, L, ⟨⟨c1, c2, List.nodup_append.2 ⟨p1 _, p1 _, fun q hq r hr e => p2 (1 + i) 0 q (by omega) hq (by rw [e]; exact hr)⟩, fun k hk => ?_, d3, fun k hk => (d4 k hk).1, o1⟩, d1 y0⟩, rfl, rfl, c1, c2, ⟨p1, p2, p3, p4⟩, c4, o2⟩
  rcases List.mem_append.1 hk with q | q
  · exact p3 _ k q
  · exact p3 _ k q
/-- the hall behind a step on a stream's blocks -/
theorem HC.bz {t t' : BSt} {oth : Nat} {T : Nat → Prop} (hT : ∀ x, T x → w x = 0) (C : HC h a w s z) (hi : i < 256) (y0 : hR h (a + 2) i ≠ 0) (ey : y = hR h (a + 2) i) (hl : t.l = L (1 + i)) (hf : t.lf = L 0) (et : t.m = oth + t.l.length + t.lf.length) (PL0 : PoL L t.m 257) (hd : ∀ j, j < 256 → HCd h a z t.D t.M t.I t.X L j)
    (F : GF (fun x => BlD h (a + 17) x ∨ x = y ∨ x = a ∨ T x) h h') (Dd : ∀ x, BlD h' (a + 17) x → BlD h (a + 17) x ∨ hN h ≤ x) (ha : ∀ q, hR h' a q = hR h a q) (B : BI h' (a + 17) oth y t')
    (K : ∀ k, k ∉ t.l → k ∉ t.lf → k < t.m → t'.M k = t.M k ∧ t'.I k = t.I k ∧ t'.X k = t.X k ∧ ∀ b, b < 64 → t'.D (64 * k + b) = t.D (64 * k + b)) (Km : t.m ≤ t'.m) (Ks : ∀ k, k ∈ t'.l ++ t'.lf → k ∈ t.l ++ t.lf ∨ t.m ≤ k) (rm : hN h' + blN h' (a + 17) ≤ hN h + blN h (a + 17) ∧ hZ h' + blZ h' (a + 17) ≤ hZ h + blZ h (a + 17))
    (hq : HCq h' a s z') (hy : HCr h' y s i z')
    (own : (∀ k, k ∈ t'.l → c64 (t'.M k) ∧ 64 * t'.I k < zP z' 13 i ∧ (((zP z' 11 i).toNat / 64 : Nat) : Int) ≤ t'.I k) ∧ (zP z' 10 i = 4 → t'.l = []) ∧ (zP z' 10 i ≠ 4 → ∃ S, BlS t'.D t'.M t'.I t'.l S (zW z' i) ∧ (∀ q : Nat, S q → zH z' i q ∧ (zP z' 11 i).toNat / 64 ≤ q / 64) ∧ ∀ q : Nat, zP z' 11 i ≤ q → zH z' i q → S q))
    (zq : ∀ k, 9 ≤ k → zQ z' k = zQ z k) (zj : ∀ f j, j ≠ i → zP z' f j = zP z f j) (zf : ∀ f, f < 10 → zP z' f i = zP z f i) (zm : zM z' = zM z) (ze : zE z' = zE z) (zb : zB z' = zB z) (zh : ∀ j, j ≠ i → zH z' j = zH z j ∧ zW z' j = zW z j) : ∃ w', HC h' a w' s z' ∧ (hrN h' a z' ≤ hrN h a z ∧ hrZ h' a z' ≤ hrZ h a z) ∧ (∀ x, x < hN h → w' x = w x) ∧ GF (fun x => w x ≠ 0 ∨ T x) h h' := by
  have W := C.W
  have yw : w y = 2000 + i := by rw [ey]; exact C.yw hi y0
  have w0 : w a = 1 := W.own 0
  have ne : ∀ x, w x ≠ 0 → w x ≠ 11 → w x ≠ 2000 + i → w x ≠ 1 → Sx h h' x := fun x h1 h2 h3 h4 => F.s (W.2.2.2.2.2.2 x h1).2 (fun q => by
    rcases q with q | q | q | q
    · exact h2 (W.2.2.2.1 x q)
    · exact h3 (by rw [q]; exact yw)
    · exact h4 (by rw [q]; exact w0)
    · exact h1 (hT x q))
  have o : ∀ k, 0 < k → k < 8 → Sx h h' (a + k) := fun k h0 hk => ne _ (by rw [W.own k hk]; omega) (by rw [W.own k hk]; omega) (by rw [W.own k hk]; omega) (by rw [W.own k hk]; omega)
  have s8 : Sx h h' (a + 8) := ne _ (by rw [W.sp.1]; decide) (by rw [W.sp.1]; decide) (by rw [W.sp.1]; omega) (by rw [W.sp.1]; decide)
  have s12 : Sx h h' (a + 12) := ne _ (by rw [(W.so C.L).1]; decide) (by rw [(W.so C.L).1]; decide) (by rw [(W.so C.L).1]; omega) (by rw [(W.so C.L).1]; decide)
  have s13 : Sx h h' (a + 13) := ne _ (by rw [(W.so C.L).2]; decide) (by rw [(W.so C.L).2]; decide) (by rw [(W.so C.L).2]; omega) (by rw [(W.so C.L).2]; decide)
  have s22 : Sx h h' (a + 22) := ne _ (by rw [W.2.2.2.2.1]; decide) (by rw [W.2.2.2.2.1]; decide) (by rw [W.2.2.2.2.1]; omega) (by rw [W.2.2.2.2.1]; decide)
  have N64 : 64 ≤ hN h := by have := (W.2.2.2.2.2.2 a (by rw [w0]; decide)); omega
  obtain ⟨w', ew⟩ : ∃ w' : Nat → Nat, w' = @fun y => if hN h ≤ y then @ite _ (BlD h' (a + 17) y) (Classical.propDecidable _) 11 0 else w y := ⟨_, rfl⟩
  have wo : ∀ y, y < hN h → w' y = w y := fun y hy => by rw [ew]; exact if_neg (by omega)
  have wold : ∀ y, w y ≠ 0 → w' y = w y := fun y hy => wo y (W.2.2.2.2.2.2 y hy).2
  have Bn : ∀ x, BlD h' (a + 17) x → x < hN h' := fun x hx => by
    obtain ⟨⟨_, p1⟩, _, ⟨⟨_, _, p2, _⟩, ⟨_, _, p3⟩, ⟨_, _, p4, _⟩, ⟨_, _, p5, _⟩⟩, _⟩ := B.1.1
    rcases hx with e | e | e | e | e
    · rw [e]; exact p1
    · rw [e]; exact p2
    · rw [e]; exact p3
    · rw [e]; exact p4
    · rw [e]; exact p5
  have L' : LHl h' a := by
    obtain ⟨l1, l2, l3⟩ := C.L
    have c1 : ∀ q ∈ LHlR, q.1 = 0 ∨ q.1 = 3 ∨ q.1 = 12 := by decide
    have c2 : ∀ q ∈ LHlU, q.1 = 1 ∨ q.1 = 2 ∨ q.1 = 3 ∨ q.1 = 6 ∨ q.1 = 7 ∨ q.1 = 13 ∨ q.1 = 22 := by decide
    refine ⟨l1, fun q hq => ?_, fun q hq => ?_⟩
    · rcases c1 q hq with e | e | e
      · rw [← l2 q hq, e]; exact ha _
      · rw [← l2 q hq, e]; exact (o 3 (by decide) (by decide)).r
      · rw [← l2 q hq, e]; exact s12.r
    · rcases c2 q hq with e | e | e | e | e | e | e
      · rw [← l3 q hq, e]; exact (o 1 (by decide) (by decide)).l
      · rw [← l3 q hq, e]; exact (o 2 (by decide) (by decide)).l
      · rw [← l3 q hq, e]; exact (o 3 (by decide) (by decide)).l
      · rw [← l3 q hq, e]; exact (o 6 (by decide) (by decide)).l
      · rw [← l3 q hq, e]; exact (o 7 (by decide) (by decide)).l
      · rw [← l3 q hq, e]; exact s13.l
      · rw [← l3 q hq, e]; exact s22.l
  have W' : HW h' a w' := by
    obtain ⟨w1, w2, w3, w4, w5, w6, w7⟩ := W
    refine ⟨fun k hk => ?_, fun y hy => ?_, fun y hy => ?_, fun y hy => ?_, ?_, ?_, fun y hy => ?_⟩
    · rw [wold _ (by rw [w1 k hk]; omega)]; exact w1 k hk
    · have := w2 y ((SpD.same s8).1 hy); rw [wold _ (by rw [this]; decide)]; exact this
    · have := w3 y ((SoD.same s12).1 hy); rw [wold _ (by rw [this]; decide)]; exact this
    · rcases Dd y hy with q | q
      · have := w4 y q; rw [wold _ (by rw [this]; decide)]; exact this
      · rw [ew]; show (if hN h ≤ y then @ite _ (BlD h' (a + 17) y) (Classical.propDecidable _) 11 0 else w y) = 11
        rw [if_pos q, if_pos hy]
    · rw [wold _ (by rw [w5]; decide)]; exact w5
    · rw [wo _ (by omega)]; exact w6
    · by_cases q : hN h ≤ y
      · rw [ew] at hy
        have hy' : (if hN h ≤ y then @ite _ (BlD h' (a + 17) y) (Classical.propDecidable _) 11 0 else w y) ≠ 0 := hy
        rw [if_pos q] at hy'
        by_cases e : BlD h' (a + 17) y
        · exact ⟨by omega, Bn y e⟩
        · rw [if_neg e] at hy'; exact absurd rfl hy'
      · rw [wo y (by omega)] at hy
        have := w7 y hy; have := F.1; exact ⟨by omega, by omega⟩
  have gr : ∀ j, zGr s z' j = zGr s z j := fun j => by unfold zGr; rw [zq 33 (by decide), zq 31 (by decide), zq 32 (by decide)]
  have all : ∀ f j, f < 10 → zP z' f j = zP z f j := fun f j hf => by
    by_cases c : j = i
    · rw [c]; exact zf f hf
    · exact zj f j c
  have xs : ∀ j, j < 256 → hR h (a + 1) j ≠ 0 → Sx h h' (hR h (a + 1) j) := fun j hj q => ne _ (by rw [C.xw hj q]; omega) (by rw [C.xw hj q]; omega) (by rw [C.xw hj q]; omega) (by rw [C.xw hj q]; omega)
  have ys : ∀ j, j < 256 → j ≠ i → hR h (a + 2) j ≠ 0 → Sx h h' (hR h (a + 2) j) := fun j hj c q => ne _ (by rw [C.yw hj q]; omega) (by rw [C.yw hj q]; omega) (by rw [C.yw hj q]; omega) (by rw [C.yw hj q]; omega)
  refine ⟨w', ⟨⟨L', W'⟩, ⟨hq, C.2.1.2.1.same (o 4 (by decide) (by decide)) (fun k _ => zq _ (by omega)), C.2.1.2.2.1.same (o 5 (by decide) (by decide)) (fun k _ => zq _ (by omega)), ⟨fun k hk => by rw [(o 6 (by decide) (by decide)).i, zq _ (by omega)]; exact C.2.1.2.2.2.1 k hk, fun k hk => by rw [(o 7 (by decide) (by decide)).j, zq _ (by omega)]; exact C.2.1.2.2.2.2 k hk⟩⟩, fun j hj => ?_, ?_, ?_, ?_⟩, ⟨?_, ?_⟩, wo, F.mono (fun x hx => ?_)⟩
  · unfold HCi
    rw [(o 1 (by decide) (by decide)).r, (o 2 (by decide) (by decide)).r, all 0 j (by decide)]
    refine ⟨⟨C.x0 hj, fun q => ⟨by rw [wold _ (by rw [C.xw hj q]; omega)]; exact C.xw hj q, (C.xs hj q).same (xs j hj q) (fun f hf => all f j (by omega))⟩⟩, ⟨C.y0 hj, fun q => ⟨by rw [wold _ (by rw [C.yw hj q]; omega)]; exact C.yw hj q, ?_⟩⟩⟩
    by_cases c : j = i
    · subst c; rw [← ey]; exact hy
    · exact (C.ys hj q).same (ys j hj c q) (fun f _ => zj f j c) (gr j)
  · exact C.2.2.2.1.same F.1 (fun x hx => ne x (by rw [W.2.1 x hx]; decide) (by rw [W.2.1 x hx]; decide) (by rw [W.2.1 x hx]; omega) (by rw [W.2.1 x hx]; decide)) (fun j hj => ⟨(o 1 (by decide) (by decide)).r, fun q => ⟨(xs j hj q).i, (xs j hj q).i⟩⟩) zm
  · exact C.2.2.2.2.1.same (fun x hx => ne x (by rw [W.2.2.1 x hx]; decide) (by rw [W.2.2.1 x hx]; decide) (by rw [W.2.2.1 x hx]; omega) (by rw [W.2.2.1 x hx]; decide)) (fun j hj => ⟨(o 1 (by decide) (by decide)).r, fun q => ⟨(xs j hj q).i, (xs j hj q).i⟩⟩) (zq 9 (by decide)) (zq 50 (by decide)) (fun j => all 2 j (by decide)) ze zb
  · obtain ⟨p1, p2, p3, p4⟩ := PL0
    obtain ⟨b1, b2, b3, b4, b5, b6, b7⟩ := B.1
    obtain ⟨nd1, nd2, nd3⟩ := List.nodup_append.1 b3
    obtain ⟨L2, eL⟩ : ∃ L2 : Nat → List Nat, L2 = fun n => if n = 0 then t'.lf else if n = 1 + i then t'.l else L n := ⟨_, rfl⟩
    have L0 : L2 0 = t'.lf := by rw [eL]; exact if_pos rfl
    have Ln : L2 (1 + i) = t'.l := by rw [eL]; show (if 1 + i = 0 then t'.lf else if 1 + i = 1 + i then t'.l else L (1 + i)) = t'.l; rw [if_neg (by omega), if_pos rfl]
    have Lo : ∀ n, n ≠ 0 → n ≠ 1 + i → L2 n = L n := fun n n1 n2 => by rw [eL]; show (if n = 0 then t'.lf else if n = 1 + i then t'.l else L n) = L n; rw [if_neg n1, if_neg n2]
    have same : ∀ n, n ≠ 0 → n ≠ 1 + i → ∀ k, k ∈ L n → t'.M k = t.M k ∧ t'.I k = t.I k ∧ t'.X k = t.X k ∧ ∀ b, b < 64 → t'.D (64 * k + b) = t.D (64 * k + b) := fun n n1 n2 k hk => K k (by rw [hl]; exact p2 n (1 + i) k n2 hk) (by rw [hf]; exact p2 n 0 k n1 hk) (p3 n k hk)
    have out : ∀ n, n ≠ 0 → n ≠ 1 + i → ∀ k, k ∈ L n → k ∉ t'.l ∧ k ∉ t'.lf := fun n n1 n2 k hk => by
      have key : k ∉ t'.l ++ t'.lf := fun q => by
        rcases Ks k q with q | q
        · rcases List.mem_append.1 q with q | q
          · rw [hl] at q; exact p2 n (1 + i) k n2 hk q
          · rw [hf] at q; exact p2 n 0 k n1 hk q
        · have := p3 n k hk; omega
      exact ⟨fun q => key (List.mem_append.2 (Or.inl q)), fun q => key (List.mem_append.2 (Or.inr q))⟩
    have cs : ∀ n, n = 0 ∨ n = 1 + i ∨ (n ≠ 0 ∧ n ≠ 1 + i) := fun n => by omega
    refine ⟨t'.m, t'.fr, t'.D, t'.M, t'.I, t'.X, L2, b1, by rw [L0]; exact b2, ⟨fun n => ?_, fun n n' k hn hk hk' => ?_, fun n k hk => ?_, ?_⟩, fun j hj => ?_⟩
    · rcases cs n with e | e | e
      · rw [e, L0]; exact nd2
      · rw [e, Ln]; exact nd1
      · rw [Lo n e.1 e.2]; exact p1 n
    · rcases cs n with e | e | e
      · rw [e, L0] at hk
        rcases cs n' with e' | e' | e'
        · omega
        · rw [e', Ln] at hk'; exact nd3 k hk' k hk rfl
        · rw [Lo n' e'.1 e'.2] at hk'; exact (out n' e'.1 e'.2 k hk').2 hk
      · rw [e, Ln] at hk
        rcases cs n' with e' | e' | e'
        · rw [e', L0] at hk'; exact nd3 k hk k hk' rfl
        · omega
        · rw [Lo n' e'.1 e'.2] at hk'; exact (out n' e'.1 e'.2 k hk').1 hk
      · rw [Lo n e.1 e.2] at hk
        have oo := out n e.1 e.2 k hk
        rcases cs n' with e' | e' | e'
        · rw [e', L0] at hk'; exact oo.2 hk'
        · rw [e', Ln] at hk'; exact oo.1 hk'
        · rw [Lo n' e'.1 e'.2] at hk'; exact p2 n n' k hn hk hk'
    · rcases cs n with e | e | e
      · rw [e, L0] at hk; exact b4 k (List.mem_append.2 (Or.inr hk))
      · rw [e, Ln] at hk; exact b4 k (List.mem_append.2 (Or.inl hk))
      · rw [Lo n e.1 e.2] at hk; have := p3 n k hk; omega
    · have s1 := sm_up (n := 257) (k := 0) (f := fun n => ((L n).length : Int)) (g := fun n => ((if n = 0 then t'.lf else L n).length : Int)) (by decide) (fun j _ hj => by show ((if j = 0 then t'.lf else L j).length : Int) = _; rw [if_neg hj])
      have s2 := sm_up (n := 257) (k := 1 + i) (f := fun n => ((if n = 0 then t'.lf else L n).length : Int)) (g := fun n => ((L2 n).length : Int)) (by omega) (fun j _ hj => by
        show ((L2 j).length : Int) = ((if j = 0 then t'.lf else L j).length : Int)
        by_cases e : j = 0
        · rw [e, L0, if_pos rfl]
        · rw [if_neg e, Lo j e hj])
      simp only [if_true] at s1
      have n1i : ¬ (1 + i = 0) := by omega
      simp only [if_neg n1i, Ln] at s2
      rw [s2, s1, ← p4]
      rw [hl, hf] at et
      show (t'.m : Int) = (t.m : Int) + ((t'.lf.length : Int) - ((L 0).length : Int)) + ((t'.l.length : Int) - ((L (1 + i)).length : Int))
      omega
    · unfold HCd
      rw [(o 2 (by decide) (by decide)).r]
      by_cases c : j = i
      · subst c
        rw [Ln, ← ey]
        exact ⟨fun _ => B.2, fun q => absurd (ey.symm.trans q) y0, b5, own.1, own.2.1, own.2.2⟩
      · obtain ⟨d1, d2, d3, d4, d5, d6⟩ := hd j hj
        have sj := same (1 + j) (by omega) (by omega)
        rw [Lo (1 + j) (by omega) (by omega), zj 10 j c, zj 11 j c, zj 13 j c, (zh j c).1, (zh j c).2]
        refine ⟨fun q => by rw [(ys j hj c q).i]; exact (d1 q).cg (fun k hk => (sj k hk).2.2.1), d2, d3.cg (fun k hk => (sj k hk).2.1), fun k hk => by rw [(sj k hk).1, (sj k hk).2.1]; exact d4 k hk, d5, fun q => ?_⟩
        obtain ⟨S, ⟨e1, e2⟩, e3⟩ := d6 q
        refine ⟨S, ⟨fun p => ?_, fun k hk b hb bit => ?_⟩, e3⟩
        · rw [e1 p]
          constructor
          · rintro ⟨k, k1, k2, k3⟩; exact ⟨k, k1, by rw [(sj k k1).2.1]; exact k2, by rw [(sj k k1).1]; exact k3⟩
          · rintro ⟨k, k1, k2, k3⟩; exact ⟨k, k1, by rw [(sj k k1).2.1] at k2; exact k2, by rw [(sj k k1).1] at k3; exact k3⟩
        · rw [(sj k hk).1] at bit
          rw [(sj k hk).2.2.2 b hb, (sj k hk).2.1]
          exact e2 k hk b hb bit
  · have r1 := sp_room s8 (ne _ (by rw [W.2.1 _ (Or.inr (Or.inl rfl))]; decide) (by rw [W.2.1 _ (Or.inr (Or.inl rfl))]; decide) (by rw [W.2.1 _ (Or.inr (Or.inl rfl))]; omega) (by rw [W.2.1 _ (Or.inr (Or.inl rfl))]; decide))
    unfold hrN hCnt
    rw [r1.1, zq 10 (by decide), zq 11 (by decide), zq 20 (by decide), zq 21 (by decide)]
    have := rm.1
    omega
  · have r1 := sp_room s8 (ne _ (by rw [W.2.1 _ (Or.inr (Or.inl rfl))]; decide) (by rw [W.2.1 _ (Or.inr (Or.inl rfl))]; decide) (by rw [W.2.1 _ (Or.inr (Or.inl rfl))]; omega) (by rw [W.2.1 _ (Or.inr (Or.inl rfl))]; decide))
    unfold hrZ hCnt
    rw [r1.2, zq 10 (by decide), zq 11 (by decide), zq 20 (by decide), zq 21 (by decide)]
    have := rm.2
    omega
  · rcases hx with q | q | q | q
    · exact Or.inl (by rw [W.2.2.2.1 x q]; decide)
    · exact Or.inl (by rw [q, yw]; omega)
    · exact Or.inl (by rw [q, w0]; decide)
    · exact Or.inr q
end
