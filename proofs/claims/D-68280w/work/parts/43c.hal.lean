/-! streams, class: small answers -/
theorem lRem_eq {x y : Int} (hx : c64 x) (hy : c64 y) (h0 : 0 ≤ x) (h1 : 0 < y) : lRem x y = x % y := by
  show (Int64.ofInt x - Int64.ofInt x / Int64.ofInt y * Int64.ofInt y).toInt = _
  have hd : Int64.ofInt x / Int64.ofInt y = Int64.ofInt (x / y) := by
    apply Int64.toInt_inj.mp
    have := lDiv_eq hx hy h0 h1
    unfold lDiv at this
    rw [this, of64_toInt, w64_id ⟨by have := Int.ediv_nonneg h0 (Int.le_of_lt h1); omega, by have := Int.ediv_le_self y h0; unfold c64 at hx; omega⟩]
  rw [hd, of64_mul, of64_w, of64_sub, of64_w, of64_toInt]
  have h2 := Int.emod_add_mul_ediv x y
  have h3 : x - x / y * y = x % y := by rw [Int.mul_comm]; omega
  rw [h3, w64_id ⟨by have := Int.emod_nonneg x (Int.ne_of_gt h1); omega, by have := Int.emod_lt_of_pos x h1; unfold c64 at hy; omega⟩]
/-- room of a hall -/
def hCnt (z : HSt) : Nat := (zQ z 10).toNat + (zQ z 11).toNat + (zQ z 20).toNat + (zQ z 21).toNat
def hrN (h : Hp) (a : Nat) (z : HSt) : Nat := hN h + spN h (a + 8) + blN h (a + 17) + 2 * (256 - hCnt z)
def hrZ (h : Hp) (a : Nat) (z : HSt) : Nat := hZ h + spZ h (a + 8) + blZ h (a + 17) + 25 * (256 - hCnt z)
/-- what a step of the hall leaves: room, codes of old cells, all other cells -/
def HO (h : Hp) (a : Nat) (w : Nat → Nat) (z : HSt) (h' : Hp) (w' : Nat → Nat) (z' : HSt) : Prop := (hrN h' a z' ≤ hrN h a z ∧ hrZ h' a z' ≤ hrZ h a z) ∧ (∀ x, x < hN h → w' x = w x) ∧ GF (fun x => w x ≠ 0) h h'
section
variable {h h' h'' : Hp} {a s i j k x y m : Nat} {w w' w'' : Nat → Nat} {z z' z'' : HSt} {v b was : Int}
theorem HO.rf : HO h a w z h w z := ⟨⟨Nat.le_refl _, Nat.le_refl _⟩, fun _ _ => rfl, GF.refl⟩
theorem HO.tr (A : HO h a w z h' w' z') (B : HO h' a w' z' h'' w'' z'') : HO h a w z h'' w'' z'' :=
  ⟨⟨Nat.le_trans B.1.1 A.1.1, Nat.le_trans B.1.2 A.1.2⟩, fun x hx => by rw [B.2.1 x (Nat.lt_of_lt_of_le hx A.2.2.1), A.2.1 x hx], A.2.2.trans' B.2.2 (fun x hx n => by rw [← A.2.1 x hx]; exact n)⟩
/-- only numbers in the hall's cells change -/
theorem HO.fx {D : Nat → Prop} (C : HC h a w s z) (F : FX D h h') (d : ∀ x, D x → w x ≠ 0 ∧ w x ≠ 9 ∧ w x ≠ 11) (c : hCnt z' = hCnt z) : HO h a w z h' w z' := by
  obtain ⟨m, fr, F1, T1, X1, L1, c1, _⟩ := C.2.2.2.1
  obtain ⟨m2, fr2, D2, M2, I2, X2, L2, c2, _⟩ := C.2.2.2.2.2
  have e8 : Sx h h' (a + 8) := F.s (fun q => (d _ q).2.1 C.W.sp.1)
  have e8' : Sx h h' (hR h (a + 8) 0) := F.s (fun q => (d _ q).2.1 (C.W.2.1 _ (Or.inr (Or.inl rfl))))
  have e17 : Sx h h' (a + 17) := F.s (fun q => (d _ q).2.2 C.W.sp.2)
  have e17' : Sx h h' (hR h (a + 17) 1) := F.s (fun q => (d _ q).2.2 (C.W.2.2.2.1 _ (Or.inr (Or.inr (Or.inl rfl)))))
  have r1 := sp_room e8 e8'
  have r2 := bl_room e17 e17'
  refine ⟨⟨?_, ?_⟩, fun _ _ => rfl, ⟨by rw [F.n]; exact Nat.le_refl _, fun x _ nx => F.s (fun q => nx (d x q).1)⟩⟩
  · unfold hrN; rw [F.n, r1.1, r2.1, c]; exact Nat.le_refl _
  · unfold hrZ; rw [F.z, r1.2, r2.2, c]; exact Nat.le_refl _
theorem c_hOne (h0 : 0 ≤ v ∧ v ≤ 4611686018427387903) : f_cHall_isOneWay v h = some (if v / 2 % 2 = 1 then 1 else 0, h) := by
  unfold f_cHall_isOneWay
  rw [lDiv_eq ⟨by omega, by omega⟩ (by decide) h0.1 (by decide), lRem_eq ⟨by omega, by omega⟩ (by decide) (by omega) (by decide)]
  by_cases c : v / 2 % 2 = 1
  · rw [if_neg (fun q => q c), if_pos c]
  · rw [if_pos c, if_neg c]
theorem c_hOwn (hs : hI h a 0 = (s : Int)) (h0 : 0 ≤ v ∧ v ≤ 4611686018427387903) : f_cHall_isOwn a v h = some (if v % 2 = s then 1 else 0, h) := by
  unfold f_cHall_isOwn
  rw [lRem_eq ⟨by omega, by omega⟩ (by decide) h0.1 (by decide), hs]
  by_cases c : v % 2 = s
  · rw [if_neg (fun q => q c), if_pos c]
  · rw [if_pos c, if_neg c]
theorem c_hRule (hs : hI h a 0 = (s : Int)) (h0 : 0 ≤ v ∧ v ≤ 4611686018427387903) : f_cHall_rule a v b h = some (if v / 2 % 2 = 1 then 3 else if (if v % 2 = s then 1 else 0) = b then 2 else 1, h) := by
  unfold f_cHall_rule
  rw [c_hOne h0, b2_some]
  by_cases c : v / 2 % 2 = 1
  · rw [if_pos c, if_neg (by decide), if_pos c]
  · rw [if_neg c, if_pos rfl, if_neg c, c_hOwn hs h0, b2_some]
    by_cases d : (if v % 2 = (s : Int) then (1 : Int) else 0) = b
    · rw [if_neg (fun q => q d), if_pos d]
    · rw [if_pos d, if_neg d]
theorem c_hWay (L : LHl h a) (h0 : 0 ≤ v ∧ v ≤ 4611686018427387903) : f_cHall_way a v h = some (a + 4 + (v / 2 % 2).toNat, h) := by
  obtain ⟨_, _, r3, _, _, _, _, _, _, r30, r31, _⟩ := L.rr
  have l3 := L.ll.2.2.1
  have l0 := L.1
  unfold f_cHall_way f_cHall_way_b16
  rw [c_hOne h0, b2_some, r3]
  by_cases c : v / 2 % 2 = 1
  · rw [if_pos c, if_neg (by decide), if_neg (by omega), l3, if_pos (by decide), c]
    show some (hR h (a + 3) 1, h) = _
    rw [r31]; rfl
  · rw [if_neg c, if_pos rfl, if_neg (by omega), l3, if_pos (by decide), show v / 2 % 2 = 0 by omega]
    show some (hR h (a + 3) 0, h) = _
    rw [r30]; rfl
theorem c_hSnd (L : LHl h a) : f_cHall_sending a v h = some (if 0 ≤ v ∧ v < 256 then hR h (a + 1) v.toNat else 0, h) := by
  obtain ⟨r1, _⟩ := L.rr
  have l1 := L.ll.1
  have l0 := L.1
  unfold f_cHall_sending f_cHall_sending_b11
  by_cases c : v < 0
  · rw [if_pos c, if_neg (by omega)]
  · rw [if_neg c]
    by_cases d : v < 256
    · rw [if_pos d, r1, if_neg (by omega), l1, if_pos ⟨by omega, by omega⟩, if_pos ⟨by omega, d⟩]
    · rw [if_neg d, if_neg (fun q => d q.2)]
theorem c_hRcv (L : LHl h a) : f_cHall_receiving a v h = some (if 0 ≤ v ∧ v < 256 then hR h (a + 2) v.toNat else 0, h) := by
  obtain ⟨_, r1, _⟩ := L.rr
  have l1 := L.ll.2.1
  have l0 := L.1
  unfold f_cHall_receiving f_cHall_receiving_b11
  by_cases c : v < 0
  · rw [if_pos c, if_neg (by omega)]
  · rw [if_neg c]
    by_cases d : v < 256
    · rw [if_pos d, r1, if_neg (by omega), l1, if_pos ⟨by omega, by omega⟩, if_pos ⟨by omega, d⟩]
    · rw [if_neg d, if_neg (fun q => d q.2)]
theorem c_sLive : f_cSending_isLive x h = some (if hI h x 0 = 0 ∨ hI h x 0 = 1 then 1 else 0, h) := by
  unfold f_cSending_isLive f_cSending_isLive_b15
  by_cases c : hI h x 0 = 0
  · rw [if_pos c, if_pos (Or.inl c)]
  · rw [if_neg c]
    by_cases d : hI h x 0 = 1
    · rw [if_neg (fun q => q d), if_pos (Or.inr d)]
    · rw [if_pos d, if_neg (fun q => q.elim c d)]
theorem c_rLive : f_cReceiving_isLive x h = some (if hI h x 1 = 0 ∨ hI h x 1 = 1 then 1 else 0, h) := by
  unfold f_cReceiving_isLive f_cReceiving_isLive_b15
  by_cases c : hI h x 1 = 0
  · rw [if_pos c, if_pos (Or.inl c)]
  · rw [if_neg c]
    by_cases d : hI h x 1 = 1
    · rw [if_neg (fun q => q d), if_pos (Or.inr d)]
    · rw [if_pos d, if_neg (fun q => q.elim c d)]
theorem c_sOver : f_cSending_isOver x h = some (if hI h x 0 = 2 ∨ hI h x 0 = 4 then 1 else 0, h) := by
  unfold f_cSending_isOver f_cSending_isOver_b16
  by_cases c : hI h x 0 = 2
  · rw [if_pos c, if_pos (Or.inl c)]
  · rw [if_neg c]
    by_cases d : hI h x 0 = 4
    · rw [if_neg (fun q => q d), if_pos (Or.inr d)]
    · rw [if_pos d, if_neg (fun q => q.elim c d)]
theorem c_rOver : f_cReceiving_isOver x h = some (if hI h x 1 = 3 ∨ hI h x 1 = 4 then 1 else 0, h) := by
  unfold f_cReceiving_isOver f_cReceiving_isOver_b16
  by_cases c : hI h x 1 = 3
  · rw [if_pos c, if_pos (Or.inl c)]
  · rw [if_neg c]
    by_cases d : hI h x 1 = 4
    · rw [if_neg (fun q => q d), if_pos (Or.inr d)]
    · rw [if_pos d, if_neg (fun q => q.elim c d)]
theorem c_hOver (C : HC h a w s z) (V : HV s z) (hi : i < 256) (th : zP z 0 i = 1) : f_cHall_isOver a (i : Int) h = some (zOI s z i, h) := by
  obtain ⟨r1, r2, _⟩ := C.L.rr
  obtain ⟨l1, l2, _⟩ := C.L.ll
  have l0 := C.L.1
  obtain ⟨⟨c1, c2⟩, ⟨c3, c4⟩⟩ := C.i hi
  have xi : ix (i : Int) 256 := ⟨by omega, by omega⟩
  have v8 := (V.S hi).2.2.2.2.2.2.2.1
  have fin : f_cHall_isOver_b21 a (i : Int) h = some (if zRc s i → 3 ≤ zP z 10 i then 1 else 0, h) := by
    unfold f_cHall_isOver_b21 f_cHall_isOver_b42
    rw [r2, if_neg (by omega), l2, if_pos xi, Int.toNat_natCast]
    by_cases y0 : hR h (a + 2) i = 0
    · rw [if_pos y0, if_pos (fun q => absurd y0 (c3.2 ⟨th, q⟩))]
    · have hy := (c4 y0).2
      have rc := (c3.1 y0).2
      rw [if_neg y0, if_pos xi, if_neg y0, c_rOver, b2_some, hy.2.1]
      have le : zP z 10 i ≤ 4 := by
        by_cases q : zP z 10 i = 4
        · omega
        · rw [(v8.2 q).1]; have := zRs_n (a := zP z 14 i) (b := zP z 11 i) (d := zP z 12 i); omega
      by_cases q : zP z 10 i = 3 ∨ zP z 10 i = 4
      · rw [if_pos q, if_neg (by decide), if_pos (fun _ => by omega)]
      · rw [if_neg q, if_pos rfl, if_neg (fun t => by have := t rc; omega)]
  unfold f_cHall_isOver zOI
  rw [r1, if_neg (by omega), l1, if_pos xi, Int.toNat_natCast]
  by_cases x0 : hR h (a + 1) i = 0
  · rw [if_pos x0, fin]
    have ns : ¬ zSd s i := fun q => (c1.2 ⟨th, q⟩) x0
    by_cases q : zRc s i → 3 ≤ zP z 10 i
    · rw [if_pos q, if_pos ⟨fun t => absurd t ns, q⟩]
    · rw [if_neg q, if_neg (fun t => q t.2)]
  · have hx := (c2 x0).2
    have sd := (c1.1 x0).2
    rw [if_neg x0, if_pos xi, if_neg x0, c_sOver, b2_some, hx.1]
    by_cases p : zP z 1 i = 2 ∨ zP z 1 i = 4
    · rw [if_pos p, if_neg (by decide), fin]
      by_cases q : zRc s i → 3 ≤ zP z 10 i
      · rw [if_pos q, if_pos ⟨fun _ => p, q⟩]
      · rw [if_neg q, if_neg (fun t => q t.2)]
    · rw [if_neg p, if_pos rfl, if_neg (fun t => p (t.1 sd))]
/-- the way's cells -/
theorem HC.wy (C : HC h a w s z) (i : Nat) : HCw h (a + 4 + i / 2 % 2) (i / 2 % 2) z ∧ w (a + 4 + i / 2 % 2) = 5 + i / 2 % 2 := by
  obtain ⟨_, q2, q3, _⟩ := C.2.1
  rcases (show i / 2 % 2 = 0 ∨ i / 2 % 2 = 1 by omega) with e | e
  · rw [e]; exact ⟨q2, C.W.own 4⟩
  · rw [e]; exact ⟨q3, C.W.own 5⟩
theorem HCw.same {b : Nat} {u : Nat} (q : HCw h b u z) (e : Sx h h' b) (zq : ∀ k, k < 7 → zQ z' (10 + k + 10 * u) = zQ z (10 + k + 10 * u)) : HCw h' b u z' := by
  have z0 := zq 0 (by decide)
  have z1 := zq 1 (by decide)
  have z2 := zq 2 (by decide)
  have z3 := zq 3 (by decide)
  have z4 := zq 4 (by decide)
  have z5 := zq 5 (by decide)
  have z6 := zq 6 (by decide)
  unfold HCw at q ⊢
  simp only [Nat.reduceAdd, Nat.add_zero] at z0 z1 z2 z3 z4 z5 z6
  rw [z0, z1, z2, z3, z4, z5, z6, e.i, e.i, e.i, e.i, e.j, e.j, e.j]; exact q
theorem HCq.same (q : HCq h a s z) (e : Sx h h' a) (zq : ∀ k, k < 9 → zQ z' k = zQ z k) : HCq h' a s z' := by
  unfold HCq at q ⊢
  rw [zq 1 (by decide), zq 2 (by decide), zq 3 (by decide), zq 4 (by decide), zq 5 (by decide), zq 6 (by decide), zq 7 (by decide), zq 8 (by decide), e.i, e.i, e.i, e.i, e.i, e.i, e.i, e.j, e.j]; exact q
/-- only a way's cell changes -/
theorem HC.sWy {u : Nat} (C : HC h a w s z) (hu : u < 2) (F : FX (fun x => x = a + 4 + u) h h') (q : HCw h' (a + 4 + u) u z') (zq : ∀ k, (k < 10 + 10 * u ∨ 17 + 10 * u ≤ k) → zQ z' k = zQ z k) (zz : z'.2 = z.2) : HC h' a w s z' := by
  have W := C.W
  have wu : w (a + 4 + u) = 5 + u := by
    rcases (show u = 0 ∨ u = 1 by omega) with e | e
    · rw [e]; exact W.own 4
    · rw [e]; exact W.own 5
  have zp : ∀ f i, zP z' f i = zP z f i := fun f i => by unfold zP; rw [zz]
  have ne : ∀ x, w x ≠ 5 + u → Sx h h' x := fun x hx => F.s (fun t => hx (by rw [t]; exact wu))
  have oq : HCq h' a s z' := C.2.1.1.same (ne _ (by rw [show a = a + 0 from rfl, W.own 0]; omega)) (fun k hk => zq k (by omega))
  have ow : ∀ v, v < 2 → HCw h (a + 4 + v) v z → HCw h' (a + 4 + v) v z' := fun v hv t => by
    by_cases c : v = u
    · rw [c]; exact q
    · exact t.same (ne _ (by
        rcases (show v = 0 ∨ v = 1 by omega) with e | e
        · rw [e, show a + 4 + 0 = a + 4 from rfl, W.own 4]; omega
        · rw [e, show a + 4 + 1 = a + 5 from rfl, W.own 5]; omega)) (fun k hk => zq _ (by omega))
  refine C.st (by rw [F.n]; exact Nat.le_refl _) (fun x _ n => ne x (by omega)) F.r F.l ⟨oq, ow 0 (by decide) C.2.1.2.1, ow 1 (by decide) C.2.1.2.2.1⟩ (fun i hi => ?_) (fun i hi t k _ _ => (ne _ (by rw [((C.i hi).1.2 t).1]; omega)).i) (fun i hi t => (ne _ (by rw [((C.i hi).2.2 t).1]; omega)).i) (fun k hk => zq k (by omega)) (fun i => zp 2 i) (fun i => ⟨zp 11 i, by rw [zp]; exact Int.le_refl _, by rw [zp]⟩) (by rw [zz])
  exact (C.i hi).same (by rw [F.r]) (by rw [F.r]) (fun t => ne _ (by rw [((C.i hi).1.2 t).1]; omega)) (fun t => ne _ (by rw [((C.i hi).2.2 t).1]; omega)) (fun f => zp f i) (by unfold zGr; rw [zq 33 (by omega), zq 31 (by omega), zq 32 (by omega)])
theorem c_hMay (C : HC h a w s z) (V : HV s z) (hi : i < 256) (th : zP z 0 i = 1) : ∃ h', f_cHall_mayBeOver a (i : Int) was h = some h' ∧ HC h' a w s (zMay s was z i) ∧ HO h a w z h' w (zMay s was z i) ∧ FX (fun x => x = a + 4 + i / 2 % 2) h h' := by
  unfold f_cHall_mayBeOver zMay
  by_cases c1 : was ≠ 0
  · rw [if_pos c1, if_pos (Or.inl c1)]
    exact ⟨h, rfl, C, HO.rf, FX.rf⟩
  · have io : ((i : Int) % 2 = (s : Int)) ↔ i % 2 = s := by omega
    rw [if_neg c1, c_hOwn C.2.1.1.1 ⟨by omega, by omega⟩, b2_some]
    by_cases c2 : i % 2 = s
    · rw [if_pos (io.2 c2), if_pos (show (1 : Int) ≠ 0 by decide), if_pos (Or.inr (Or.inl c2))]
      exact ⟨h, rfl, C, HO.rf, FX.rf⟩
    · rw [if_neg (fun t => c2 (io.1 t)), if_neg (by decide), c_hOver C V hi th, b2_some]
      unfold zOI
      by_cases c3 : zOv s z i
      · rw [if_pos c3, if_pos (show (1 : Int) ≠ 0 by decide), if_neg (show ¬ (was ≠ 0 ∨ i % 2 = s ∨ ¬ zOv s z i) from fun t => t.elim c1 (fun t => t.elim c2 (fun t => t c3))), c_hWay C.L ⟨by omega, by omega⟩, b2_some, show ((i : Int) / 2 % 2).toNat = i / 2 % 2 by omega]
        have l0 := C.L.1
        obtain ⟨q, wq⟩ := C.wy i
        obtain ⟨u, eu⟩ : ∃ u, u = i / 2 % 2 := ⟨_, rfl⟩
        have u2 : u < 2 := by omega
        have vw := V.w i
        rw [← eu] at q wq vw ⊢
        have q' := q
        obtain ⟨w0, w1, w2, w3, w4, w5, w6, w7⟩ := q
        obtain ⟨_, vb, _, _, vt⟩ := vw
        rw [if_neg (show ¬ a + 4 + u = 0 by omega), w7, w2]
        have step : zQ z (12 + 10 * u) < 64 → ∃ h', f_cHall_mayBeOver_b51 a (a + 4 + u) (a + 4 + u) 1 h = some h' ∧ HC h' a w s (uQ (uQ z (16 + 10 * u) 1) (12 + 10 * u) (zQ z (12 + 10 * u) + 1)) ∧ HO h a w z h' w (uQ (uQ z (16 + 10 * u) 1) (12 + 10 * u) (zQ z (12 + 10 * u) + 1)) ∧ FX (fun x => x = a + 4 + u) h h' := fun lt => by
          have i2 : hI (sI h (a + 4 + u) 6 1) (a + 4 + u) 2 = zQ z (12 + 10 * u) := by rw [hI_sI, if_neg (by omega)]; exact w2
          have ew : min (w32 (zQ z (12 + 10 * u) + 1)) 64 = zQ z (12 + 10 * u) + 1 := by rw [w32_id ⟨by omega, by omega⟩]; omega
          unfold f_cHall_mayBeOver_b51
          rw [if_neg (by omega), if_neg (by decide), lt1_eq, if_neg (by omega), i2, ew, lt1_eq]
          have FF : FX (fun x => x = a + 4 + u) h (sI (sI h (a + 4 + u) 6 1) (a + 4 + u) 2 (zQ z (12 + 10 * u) + 1)) := FX.tr (FX.sI rfl) (FX.sI rfl)
          refine ⟨_, rfl, C.sWy u2 FF ?_ (fun k hk => by rw [zQ_uQn (by omega), zQ_uQn (by omega)]) rfl, HO.fx C FF (fun x hx => by rw [hx, wq]; omega) ?_, FF⟩
          · unfold HCw
            simp only [zQ_uQ]
            refine ⟨?_, ?_, ?_, ?_, ?_, ?_, ?_, ?_⟩ <;> grind [hI_sI, hJ_sI]
          · unfold hCnt
            have e : ∀ k, k ≠ 12 + 10 * u → k ≠ 16 + 10 * u → zQ (uQ (uQ z (16 + 10 * u) 1) (12 + 10 * u) (zQ z (12 + 10 * u) + 1)) k = zQ z k := fun k k1 k2 => by rw [zQ_uQn k1, zQ_uQn k2]
            rw [e 10 (by omega) (by omega), e 11 (by omega) (by omega), e 20 (by omega) (by omega), e 21 (by omega) (by omega)]
        by_cases lt : zQ z (12 + 10 * u) < 64
        · rw [if_pos lt]
          have := step lt
          by_cases t : zQ z (16 + 10 * u) ≠ 0
          · rw [if_pos t]; exact this
          · rw [if_neg t, if_neg (by omega)]; exact this
        · rw [if_neg lt]
          -- all granted: nothing changes
          have fin : ∀ v : Int, v = zQ z (16 + 10 * u) → ∃ h', f_cHall_mayBeOver_b51 a (a + 4 + u) (a + 4 + u) v h = some h' ∧ HC h' a w s z ∧ HO h a w z h' w z ∧ FX (fun x => x = a + 4 + u) h h' := fun v ev => by
            have i2 : hI (sI h (a + 4 + u) 6 v) (a + 4 + u) 2 = zQ z (12 + 10 * u) := by rw [hI_sI, if_neg (by omega)]; exact w2
            have ew : min (w32 (zQ z (12 + 10 * u) + 1)) 64 = zQ z (12 + 10 * u) := by rw [w32_id ⟨by omega, by omega⟩]; omega
            unfold f_cHall_mayBeOver_b51
            rw [if_neg (by omega), if_neg (by omega), lt1_eq, if_neg (by omega), i2, ew, lt1_eq]
            have FF : FX (fun x => x = a + 4 + u) h (sI (sI h (a + 4 + u) 6 v) (a + 4 + u) 2 (zQ z (12 + 10 * u))) := FX.tr (FX.sI rfl) (FX.sI rfl)
            refine ⟨_, rfl, C.sWy u2 FF ?_ (fun k hk => rfl) rfl, HO.fx C FF (fun x hx => by rw [hx, wq]; omega) rfl, FF⟩
            unfold HCw
            refine ⟨?_, ?_, ?_, ?_, ?_, ?_, ?_, ?_⟩ <;> grind [hI_sI, hJ_sI]
          by_cases t : zQ z (16 + 10 * u) ≠ 0
          · rw [if_pos t]; exact fin 1 (by omega)
          · rw [if_neg t, if_pos (by omega)]; exact fin 0 (by omega)
      · rw [if_neg c3, if_neg (by decide), if_pos (Or.inr (Or.inr c3))]
        exact ⟨h, rfl, C, HO.rf, FX.rf⟩
end
