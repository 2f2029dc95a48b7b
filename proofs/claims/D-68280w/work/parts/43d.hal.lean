/-! streams, class: records of streams change -/
section
variable {h h' h'' : Hp} {a s i j k x y m : Nat} {w w' w'' : Nat → Nat} {z z' z'' : HSt} {v b was c : Int}
theorem HC.xw (C : HC h a w s z) (hi : i < 256) (x0 : hR h (a + 1) i ≠ 0) : w (hR h (a + 1) i) = 1000 + i := ((C.i hi).1.2 x0).1
theorem HC.yw (C : HC h a w s z) (hi : i < 256) (x0 : hR h (a + 2) i ≠ 0) : w (hR h (a + 2) i) = 2000 + i := ((C.i hi).2.2 x0).1
theorem HC.xs (C : HC h a w s z) (hi : i < 256) (x0 : hR h (a + 1) i ≠ 0) : HCs h (hR h (a + 1) i) i z := ((C.i hi).1.2 x0).2
theorem HC.ys (C : HC h a w s z) (hi : i < 256) (x0 : hR h (a + 2) i ≠ 0) : HCr h (hR h (a + 2) i) s i z := ((C.i hi).2.2 x0).2
theorem HC.x0 (C : HC h a w s z) (hi : i < 256) : hR h (a + 1) i ≠ 0 ↔ zP z 0 i = 1 ∧ zSd s i := (C.i hi).1.1
theorem HC.y0 (C : HC h a w s z) (hi : i < 256) : hR h (a + 2) i ≠ 0 ↔ zP z 0 i = 1 ∧ zRc s i := (C.i hi).2.1
theorem HC.sS (C : HC h a w s z) (hi : i < 256) (x0 : hR h (a + 1) i ≠ 0) (F : FX (fun x => x = hR h (a + 1) i) h h') (k47 : ∀ k, 4 ≤ k → k ≤ 7 → hI h' (hR h (a + 1) i) k = hI h (hR h (a + 1) i) k) (n : HCs h' (hR h (a + 1) i) i z') (zq : zQ z' = zQ z) (zj : ∀ f j, j ≠ i → zP z' f j = zP z f j) (zf : ∀ f, (f = 0 ∨ f = 2 ∨ 9 ≤ f) → zP z' f i = zP z f i) (zz : z'.2.2 = z.2.2) : HC h' a w s z' ∧ HO h a w z h' w z' := by
  have xw := C.xw hi x0
  have W := C.W
  have ne : ∀ x, w x ≠ 1000 + i → Sx h h' x := fun x hx => F.s (fun t => hx (by rw [t]; exact xw))
  have all : ∀ f j, (f = 0 ∨ f = 2 ∨ 9 ≤ f) → zP z' f j = zP z f j := fun f j hf => by
    by_cases c : j = i
    · rw [c]; exact zf f hf
    · exact zj f j c
  have gr : ∀ j, zGr s z' j = zGr s z j := fun j => by unfold zGr; rw [zq]
  refine ⟨C.st (by rw [F.n]; exact Nat.le_refl _) (fun x _ n => ne x (by omega)) F.r F.l ⟨C.2.1.1.same (ne _ (by rw [show a = a + 0 from rfl, W.own 0]; omega)) (fun k _ => by rw [zq]), C.2.1.2.1.same (ne _ (by rw [W.own 4]; omega)) (fun k _ => by rw [zq]), C.2.1.2.2.1.same (ne _ (by rw [W.own 5]; omega)) (fun k _ => by rw [zq])⟩ (fun j hj => ?_) (fun j hj t k k1 k2 => ?_) (fun j hj t => (ne _ (by rw [C.yw hj t]; omega)).i) (fun k _ => by rw [zq]) (fun j => all 2 j (by decide)) (fun j => ⟨all 11 j (by decide), by rw [all 13 j (by decide)]; exact Int.le_refl _, by rw [all 10 j (by decide)]⟩) zz, ?_⟩
  · unfold HCi
    rw [F.r, all 0 j (by decide)]
    refine ⟨⟨C.x0 hj, fun t => ⟨C.xw hj t, ?_⟩⟩, ⟨C.y0 hj, fun t => ⟨C.yw hj t, (C.ys hj t).same (ne _ (by rw [C.yw hj t]; omega)) (fun f hf => all f j (by omega)) (gr j)⟩⟩⟩
    by_cases c : j = i
    · subst c; exact n
    · exact (C.xs hj t).same (ne _ (by rw [C.xw hj t]; omega)) (fun f _ => zj f j c)
  · by_cases c : j = i
    · subst c; exact k47 k k1 k2
    · exact (ne _ (by rw [C.xw hj t]; omega)).i
  · exact HO.fx C F (fun x hx => by rw [hx, xw]; omega) (by unfold hCnt; rw [zq])
theorem HC.sR (C : HC h a w s z) (hi : i < 256) (x0 : hR h (a + 2) i ≠ 0) (F : FX (fun x => x = hR h (a + 2) i) h h') (k7 : hI h' (hR h (a + 2) i) 7 = hI h (hR h (a + 2) i) 7) (n : HCr h' (hR h (a + 2) i) s i z') (zq : zQ z' = zQ z) (zj : ∀ f j, j ≠ i → zP z' f j = zP z f j) (zf : ∀ f, (f < 10 ∨ f = 11) → zP z' f i = zP z f i) (z13 : zP z 13 i ≤ zP z' 13 i) (z10 : zP z' 10 i = 4 ↔ zP z 10 i = 4) (zz : z'.2.2 = z.2.2) : HC h' a w s z' ∧ HO h a w z h' w z' := by
  have xw := C.yw hi x0
  have W := C.W
  have ne : ∀ x, w x ≠ 2000 + i → Sx h h' x := fun x hx => F.s (fun t => hx (by rw [t]; exact xw))
  have all : ∀ f j, (f < 10 ∨ f = 11) → zP z' f j = zP z f j := fun f j hf => by
    by_cases c : j = i
    · rw [c]; exact zf f hf
    · exact zj f j c
  have gr : ∀ j, zGr s z' j = zGr s z j := fun j => by unfold zGr; rw [zq]
  refine ⟨C.st (by rw [F.n]; exact Nat.le_refl _) (fun x _ n => ne x (by omega)) F.r F.l ⟨C.2.1.1.same (ne _ (by rw [show a = a + 0 from rfl, W.own 0]; omega)) (fun k _ => by rw [zq]), C.2.1.2.1.same (ne _ (by rw [W.own 4]; omega)) (fun k _ => by rw [zq]), C.2.1.2.2.1.same (ne _ (by rw [W.own 5]; omega)) (fun k _ => by rw [zq])⟩ (fun j hj => ?_) (fun j hj t k k1 k2 => (ne _ (by rw [C.xw hj t]; omega)).i) (fun j hj t => ?_) (fun k _ => by rw [zq]) (fun j => all 2 j (by decide)) (fun j => ⟨all 11 j (by decide), ?_, ?_⟩) zz, ?_⟩
  · unfold HCi
    rw [F.r, all 0 j (by decide)]
    refine ⟨⟨C.x0 hj, fun t => ⟨C.xw hj t, (C.xs hj t).same (ne _ (by rw [C.xw hj t]; omega)) (fun f hf => all f j (by omega))⟩⟩, ⟨C.y0 hj, fun t => ⟨C.yw hj t, ?_⟩⟩⟩
    by_cases c : j = i
    · subst c; exact n
    · exact (C.ys hj t).same (ne _ (by rw [C.yw hj t]; omega)) (fun f _ => zj f j c) (gr j)
  · by_cases c : j = i
    · subst c; exact k7
    · exact (ne _ (by rw [C.yw hj t]; omega)).i
  · by_cases c : j = i
    · rw [c]; exact z13
    · rw [zj 13 j c]; exact Int.le_refl _
  · by_cases c : j = i
    · rw [c]; exact z10
    · rw [zj 10 j c]
  · exact HO.fx C F (fun x hx => by rw [hx, xw]; omega) (by unfold hCnt; rw [zq])
/-- only the hall's own cell changes -/
theorem HC.sQ (C : HC h a w s z) (F : FX (fun x => x = a) h h') (q : HCq h' a s z') (zq : ∀ k, 9 ≤ k → zQ z' k = zQ z k) (zz : z'.2 = z.2) : HC h' a w s z' ∧ HO h a w z h' w z' := by
  have W := C.W
  have wa : w a = 1 := W.own 0
  have ne : ∀ x, w x ≠ 1 → Sx h h' x := fun x hx => F.s (fun t => hx (by rw [t]; exact wa))
  have zp : ∀ f i, zP z' f i = zP z f i := fun f i => by unfold zP; rw [zz]
  refine ⟨C.st (by rw [F.n]; exact Nat.le_refl _) (fun x _ n => ne x (by omega)) F.r F.l ⟨q, C.2.1.2.1.same (ne _ (by rw [W.own 4]; omega)) (fun k _ => zq _ (by omega)), C.2.1.2.2.1.same (ne _ (by rw [W.own 5]; omega)) (fun k _ => zq _ (by omega))⟩ (fun j hj => (C.i hj).same (by rw [F.r]) (by rw [F.r]) (fun t => ne _ (by rw [C.xw hj t]; omega)) (fun t => ne _ (by rw [C.yw hj t]; omega)) (fun f => zp f j) (by unfold zGr; rw [zq 33 (by decide), zq 31 (by decide), zq 32 (by decide)])) (fun j hj t k _ _ => (ne _ (by rw [C.xw hj t]; omega)).i) (fun j hj t => (ne _ (by rw [C.yw hj t]; omega)).i) (fun k hk => zq k (by omega)) (fun i => zp 2 i) (fun i => ⟨zp 11 i, by rw [zp]; exact Int.le_refl _, by rw [zp]⟩) (by rw [zz]), HO.fx C F (fun x hx => by rw [hx, wa]; omega) (by unfold hCnt; rw [zq 10 (by decide), zq 11 (by decide), zq 20 (by decide), zq 21 (by decide)])⟩
/-- finish -/
theorem c_hFin {id : Int} (C : HC h a w s z) (V : HV s z) : (¬ (0 ≤ id ∧ id < 256 ∧ zP z 0 id.toNat = 1 ∧ zSd s id.toNat ∧ zP z 1 id.toNat = 0) → f_cHall_finish a id h = some (0, h)) ∧ ((0 ≤ id ∧ id < 256 ∧ zP z 0 id.toNat = 1 ∧ zSd s id.toNat ∧ zP z 1 id.toNat = 0) → ∃ h', f_cHall_finish a id h = some (1, h') ∧ HC h' a w s (zFin z id.toNat) ∧ HO h a w z h' w (zFin z id.toNat)) := by
  unfold f_cHall_finish
  rw [c_hSnd C.L, b2_some]
  by_cases c : 0 ≤ id ∧ id < 256
  · obtain ⟨i, rfl⟩ : ∃ i : Nat, id = i := ⟨id.toNat, by omega⟩
    have hi : i < 256 := by omega
    rw [if_pos c, Int.toNat_natCast]
    by_cases x0 : hR h (a + 1) i = 0
    · rw [if_pos x0]
      have n0 : ¬ (zP z 0 i = 1 ∧ zSd s i) := fun t => (C.x0 hi).2 t x0
      exact ⟨fun _ => rfl, fun t => absurd ⟨t.2.2.1, t.2.2.2.1⟩ n0⟩
    · have sd := (C.x0 hi).1 x0
      obtain ⟨s0, s1, s2, s3, s8, s9, s10, s11⟩ := C.xs hi x0
      rw [if_neg x0, if_neg x0, s0]
      by_cases d : zP z 1 i = 0
      · rw [if_pos d, lt1_eq, lt1_eq]
        refine ⟨fun t => absurd ⟨c.1, c.2, sd.1, sd.2, d⟩ t, fun _ => ?_⟩
        have := C.sS (z' := zFin z i) (h' := sI (sI h (hR h (a + 1) i) 0 1) (hR h (a + 1) i) 3 1) hi x0 (FX.tr (FX.sI rfl) (FX.sI rfl)) (fun k k1 k2 => by rw [hI_sI, if_neg (by omega), hI_sI, if_neg (by omega)]) ?_ rfl (fun f j hj => by unfold zFin; rw [zP_uPj hj, zP_uPj hj]) (fun f hf => by unfold zFin; rw [zP_uPn (by omega), zP_uPn (by omega)]) rfl
        · exact ⟨_, rfl, this⟩
        · unfold HCs zFin
          simp only [zQ_uP, zQ_uM, zQ_uS, zQ_uC, zP_uQ, zP_uM, zP_uS, zP_uC, zM_uQ, zM_uP, zM_uS, zM_uC, zE_uQ, zE_uP, zE_uM, zE_uC, zH_uQ, zH_uP, zH_uM, zH_uS, zW_uQ, zW_uP, zW_uM, zW_uS, zB_uQ, zB_uP, zB_uM, zB_uS, zB_uC, zQ_uQe, zP_uPe, zM_uMe, zE_uSe, zH_uCe, zW_uCe, zOT_uP, zOT_uM, zQ_uQn, zP_uPn, ne_eq, Nat.reduceEqDiff, not_false_eq_true]
          refine ⟨?_, ?_, ?_, ?_, ?_, ?_, ?_, ?_⟩ <;> grind [hI_sI, hJ_sI, hI_sJ, hJ_sJ]
      · rw [if_neg d]
        exact ⟨fun _ => rfl, fun t => absurd t.2.2.2.2 d⟩
  · rw [if_neg c, if_pos rfl]
    exact ⟨fun _ => rfl, fun t => absurd ⟨t.1, t.2.1⟩ c⟩
/-- a stream's sending is reset -/
theorem c_sReset (C : HC h a w s z) (hi : i < 256) (x0 : hR h (a + 1) i ≠ 0) : ∃ h', f_cSending_reset (hR h (a + 1) i) c h = some h' ∧ HC h' a w s (zRst z i c) ∧ HO h a w z h' w (zRst z i c) ∧ FX (fun x => x = hR h (a + 1) i) h h' := by
  obtain ⟨s0, s1, s2, s3, s8, s9, s10, s11⟩ := C.xs hi x0
  unfold f_cSending_reset
  rw [lt1_eq, lt1_eq, lt1_eq]
  have FF : FX (fun x => x = hR h (a + 1) i) h (sI (sJ (sI h (hR h (a + 1) i) 0 3) (hR h (a + 1) i) 9 c) (hR h (a + 1) i) 11 1) := FX.tr (FX.tr (FX.sI rfl) (FX.sJ rfl)) (FX.sI rfl)
  have := C.sS (z' := zRst z i c) hi x0 FF (fun k k1 k2 => by rw [hI_sI, if_neg (by omega), hI_sJ, hI_sI, if_neg (by omega)]) (by
    unfold HCs zRst
    simp only [zQ_uP, zQ_uM, zQ_uS, zQ_uC, zP_uQ, zP_uM, zP_uS, zP_uC, zM_uQ, zM_uP, zM_uS, zM_uC, zE_uQ, zE_uP, zE_uM, zE_uC, zH_uQ, zH_uP, zH_uM, zH_uS, zW_uQ, zW_uP, zW_uM, zW_uS, zB_uQ, zB_uP, zB_uM, zB_uS, zB_uC, zQ_uQe, zP_uPe, zM_uMe, zE_uSe, zH_uCe, zW_uCe, zOT_uP, zOT_uM, zQ_uQn, zP_uPn, ne_eq, Nat.reduceEqDiff, not_false_eq_true]
    refine ⟨?_, ?_, ?_, ?_, ?_, ?_, ?_, ?_⟩ <;> grind [hI_sI, hJ_sI, hI_sJ, hJ_sJ]) rfl (fun f j hj => by unfold zRst; rw [zP_uPj hj, zP_uPj hj, zP_uPj hj]) (fun f hf => by unfold zRst; rw [zP_uPn (by omega), zP_uPn (by omega), zP_uPn (by omega)]) rfl
  exact ⟨_, rfl, this.1, this.2, FF⟩
theorem c_hRst {id : Int} (C : HC h a w s z) (V : HV s z) : (¬ (0 ≤ id ∧ id < 256 ∧ zP z 0 id.toNat = 1 ∧ zSd s id.toNat ∧ (zP z 1 id.toNat = 0 ∨ zP z 1 id.toNat = 1)) → f_cHall_reset a id c h = some (0, h)) ∧ ((0 ≤ id ∧ id < 256 ∧ zP z 0 id.toNat = 1 ∧ zSd s id.toNat ∧ (zP z 1 id.toNat = 0 ∨ zP z 1 id.toNat = 1)) → ∃ h', f_cHall_reset a id c h = some (1, h') ∧ HC h' a w s (zRst z id.toNat c) ∧ HO h a w z h' w (zRst z id.toNat c)) := by
  unfold f_cHall_reset
  rw [c_hSnd C.L, b2_some]
  by_cases d : 0 ≤ id ∧ id < 256
  · obtain ⟨i, rfl⟩ : ∃ i : Nat, id = i := ⟨id.toNat, by omega⟩
    have hi : i < 256 := by omega
    rw [if_pos d, Int.toNat_natCast]
    by_cases x0 : hR h (a + 1) i = 0
    · rw [if_pos x0]
      have n0 : ¬ (zP z 0 i = 1 ∧ zSd s i) := fun t => (C.x0 hi).2 t x0
      exact ⟨fun _ => rfl, fun t => absurd ⟨t.2.2.1, t.2.2.2.1⟩ n0⟩
    · have sd := (C.x0 hi).1 x0
      rw [if_neg x0, if_neg x0, c_sLive, b2_some, (C.xs hi x0).1]
      by_cases e : zP z 1 i = 0 ∨ zP z 1 i = 1
      · rw [if_pos e, if_pos (show (1 : Int) ≠ 0 by decide)]
        obtain ⟨h', u1, u2, u3, _⟩ := c_sReset (c := c) C hi x0
        rw [u1, b1_some]
        exact ⟨fun t => absurd ⟨d.1, d.2, sd.1, sd.2, e⟩ t, fun _ => ⟨h', rfl, u2, u3⟩⟩
      · rw [if_neg e, if_neg (by decide)]
        exact ⟨fun _ => rfl, fun t => absurd t.2.2.2.2 e⟩
  · rw [if_neg d, if_pos rfl]
    exact ⟨fun _ => rfl, fun t => absurd ⟨t.1, t.2.1⟩ d⟩
/-- stop -/
theorem c_hStp {id : Int} (C : HC h a w s z) (V : HV s z) : (¬ (0 ≤ id ∧ id < 256 ∧ zP z 0 id.toNat = 1 ∧ zRc s id.toNat ∧ (zP z 10 id.toNat = 0 ∨ zP z 10 id.toNat = 1) ∧ zP z 20 id.toNat = 0) → f_cHall_stop a id c h = some (0, h)) ∧ ((0 ≤ id ∧ id < 256 ∧ zP z 0 id.toNat = 1 ∧ zRc s id.toNat ∧ (zP z 10 id.toNat = 0 ∨ zP z 10 id.toNat = 1) ∧ zP z 20 id.toNat = 0) → ∃ h', f_cHall_stop a id c h = some (1, h') ∧ HC h' a w s (zStp z id.toNat c) ∧ HO h a w z h' w (zStp z id.toNat c)) := by
  unfold f_cHall_stop
  rw [c_hRcv C.L, b2_some]
  by_cases d : 0 ≤ id ∧ id < 256
  · obtain ⟨i, rfl⟩ : ∃ i : Nat, id = i := ⟨id.toNat, by omega⟩
    have hi : i < 256 := by omega
    rw [if_pos d, Int.toNat_natCast]
    by_cases x0 : hR h (a + 2) i = 0
    · rw [if_pos x0]
      have n0 : ¬ (zP z 0 i = 1 ∧ zRc s i) := fun t => (C.y0 hi).2 t x0
      exact ⟨fun _ => rfl, fun t => absurd ⟨t.2.2.1, t.2.2.2.1⟩ n0⟩
    · have sd := (C.y0 hi).1 x0
      obtain ⟨r0, r1, r2, r3, r4, r5, r6, r8, r9, r10, r11, r12⟩ := C.ys hi x0
      rw [if_neg x0, if_neg x0, c_rLive, b2_some, r1]
      by_cases e : zP z 10 i = 0 ∨ zP z 10 i = 1
      · rw [if_pos e, if_neg (by decide), r12]
        by_cases g : zP z 20 i = 0
        · rw [if_pos g, lt1_eq, lt1_eq, lt1_eq]
          refine ⟨fun t => absurd ⟨d.1, d.2, sd.1, sd.2, e, g⟩ t, fun _ => ?_⟩
          have := C.sR (z' := zStp z i c) (h' := sJ (sI (sI h (hR h (a + 2) i) 12 1) (hR h (a + 2) i) 11 1) (hR h (a + 2) i) 9 c) hi x0 (FX.tr (FX.tr (FX.sI rfl) (FX.sI rfl)) (FX.sJ rfl)) (by rw [hI_sJ, hI_sI, if_neg (by omega), hI_sI, if_neg (by omega)]) ?_ rfl (fun f j hj => by unfold zStp; rw [zP_uPj hj, zP_uPj hj, zP_uPj hj]) (fun f hf => by unfold zStp; rw [zP_uPn (by omega), zP_uPn (by omega), zP_uPn (by omega)]) (by unfold zStp; simp only [zQ_uP, zQ_uM, zQ_uS, zQ_uC, zP_uQ, zP_uM, zP_uS, zP_uC, zM_uQ, zM_uP, zM_uS, zM_uC, zE_uQ, zE_uP, zE_uM, zE_uC, zH_uQ, zH_uP, zH_uM, zH_uS, zW_uQ, zW_uP, zW_uM, zW_uS, zB_uQ, zB_uP, zB_uM, zB_uS, zB_uC, zQ_uQe, zP_uPe, zM_uMe, zE_uSe, zH_uCe, zW_uCe, zOT_uP, zOT_uM, zQ_uQn, zP_uPn, ne_eq, Nat.reduceEqDiff, not_false_eq_true]; exact Int.le_refl _) (by unfold zStp; simp only [zQ_uP, zQ_uM, zQ_uS, zQ_uC, zP_uQ, zP_uM, zP_uS, zP_uC, zM_uQ, zM_uP, zM_uS, zM_uC, zE_uQ, zE_uP, zE_uM, zE_uC, zH_uQ, zH_uP, zH_uM, zH_uS, zW_uQ, zW_uP, zW_uM, zW_uS, zB_uQ, zB_uP, zB_uM, zB_uS, zB_uC, zQ_uQe, zP_uPe, zM_uMe, zE_uSe, zH_uCe, zW_uCe, zOT_uP, zOT_uM, zQ_uQn, zP_uPn, ne_eq, Nat.reduceEqDiff, not_false_eq_true]) rfl
          · exact ⟨_, rfl, this⟩
          · unfold HCr
            have eg : zGr s (zStp z i c) i = zGr s z i := rfl
            rw [eg]
            unfold zStp
            simp only [zQ_uP, zQ_uM, zQ_uS, zQ_uC, zP_uQ, zP_uM, zP_uS, zP_uC, zM_uQ, zM_uP, zM_uS, zM_uC, zE_uQ, zE_uP, zE_uM, zE_uC, zH_uQ, zH_uP, zH_uM, zH_uS, zW_uQ, zW_uP, zW_uM, zW_uS, zB_uQ, zB_uP, zB_uM, zB_uS, zB_uC, zQ_uQe, zP_uPe, zM_uMe, zE_uSe, zH_uCe, zW_uCe, zOT_uP, zOT_uM, zQ_uQn, zP_uPn, ne_eq, Nat.reduceEqDiff, not_false_eq_true]
            refine ⟨?_, ?_, ?_, ?_, ?_, ?_, ?_, ?_, ?_, ?_, ?_, ?_⟩ <;> grind [hI_sI, hJ_sI, hI_sJ, hJ_sJ]
        · rw [if_neg g]
          exact ⟨fun _ => rfl, fun t => absurd t.2.2.2.2.2 g⟩
      · rw [if_neg e, if_pos rfl]
        exact ⟨fun _ => rfl, fun t => absurd t.2.2.2.2.1 e⟩
  · rw [if_neg d, if_pos rfl]
    exact ⟨fun _ => rfl, fun t => absurd ⟨t.1, t.2.1⟩ d⟩
end
