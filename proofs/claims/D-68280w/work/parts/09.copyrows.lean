/-! ROWS: System.arraycopy of primitive arrays -/
abbrev cpk (sp dp n : Int) (ls ld : Nat) : Prop := 0 ≤ sp ∧ 0 ≤ dp ∧ 0 ≤ n ∧ sp + n ≤ ls ∧ dp + n ≤ ld
theorem cp_out {α : Type} {f : Nat → Nat → α} {src sp dst dp n x y : Nat} (h : x ≠ dst) : cpy f src sp dst dp n x y = f x y := if_neg (fun z => h z.1)
theorem copied_arrV {cs : Cell} {cd : ClassId} {n0 n1 : Nat} {f g : Nat → Value} {sp dp n : Int32} (h4 : sp.toNatClampNeg + n.toNatClampNeg ≤ n0) (hs : ∀ j, j < n0 → cs.slots[j]? = some (f j)) :
    copied cs (arrV cd n1 g) sp dp n = arrV cd n1 (fun k => if dp.toNatClampNeg ≤ k ∧ k < dp.toNatClampNeg + n.toNatClampNeg then f (sp.toNatClampNeg + (k - dp.toNatClampNeg)) else g k) := by
  have e : cs.stretch sp.toNatClampNeg n.toNatClampNeg = (arrV cd n0 f).stretch sp.toNatClampNeg n.toNatClampNeg := by
    unfold Cell.stretch
    apply List.map_congr_left
    intro i hi
    have hi' := List.mem_range.mp hi
    rw [Array.getD_eq_getD_getElem?, Array.getD_eq_getD_getElem?, hs _ (by omega), arrV_read _ _ (by omega)]
  show (arrV cd n1 g).storeRun dp.toNatClampNeg (cs.stretch sp.toNatClampNeg n.toNatClampNeg) = _
  rw [e]
  exact va_copied (fun z => z) cd cd f g h4
section
variable {x : Ctx} {cc : ByteArray} {own : String} {β : Type} {em : β → Xo} {F A B : Option β} {pc fr lo nL : Nat} {ret : Option FieldType} {lv : List (Nat × AV)} {st : List AV} {h : Hp}
theorem sm_chnn {c : Prop} [Decidable c] (ht : c → Sm x em A pc lv st h) : Sm x em (if ¬ c then none else A) pc lv st h := sm_ite (fun _ => sm_none) (fun z => ht (Decidable.not_not.mp z))
theorem fit_c {ti : Nat} (hti : ti < 4) {v : Int} (hv : cA (ti + 101) v) : fits (gTA ti) (.int (Int32.ofInt v)) = true := by
  match ti, hti with
  | 0, _ => rfl
  | 1, _ =>
    obtain ⟨h1, h2, -⟩ := hv
    obtain ⟨h3, h4⟩ := h2 rfl
    show (decide (-128 ≤ Int32.ofInt v) && decide (Int32.ofInt v ≤ 127)) = true
    simp only [Bool.and_eq_true, decide_eq_true_eq]
    exact ⟨(of32_le (x := -128) (by decide) h1).mpr h3, (of32_le (y := 127) h1 (by decide)).mpr h4⟩
  | 2, _ =>
    obtain ⟨h1, -, h2, -⟩ := hv
    rcases h2 rfl with rfl | rfl <;> decide +kernel
  | 3, _ =>
    obtain ⟨h1, -, -, h2⟩ := hv
    obtain ⟨h3, h4⟩ := h2 rfl
    show (decide (-32768 ≤ Int32.ofInt v) && decide (Int32.ofInt v ≤ 32767)) = true
    simp only [Bool.and_eq_true, decide_eq_true_eq]
    exact ⟨(of32_le (x := -32768) (by decide) h1).mpr h3, (of32_le (y := 32767) h1 (by decide)).mpr h4⟩
/-- the copy, out of what its law asks -/
theorem sm_copy (C : Cx x cc own) (D : Cm x fr lo ret nL) {idx ti ts a d : Nat} {sp dp n : Int} {h' : Hp} {f : Hp → Option β} (hl : (Cond.methodLink own idx arraycopyName) ∈ lw_all) (hna : (Cond.native arraycopyName) ∈ lw_all) (hsta : (Cond.static arraycopyName) ∈ lw_all) (hini : (Cond.initialized "java/lang/System") ∈ lw_all)
    (hfr : 1 ≤ fr) (hlo : 8 + (nativeFrameWords "java/lang/System" "arraycopy" 5 + 11) ≤ lo) (hsum : (st.map ac).sum ≤ 8) (hti : ti < 20) (hprim : refKind (gTA ti) = false) (ha : a ≠ 0) (hd0 : d ≠ 0) (hk : cpk sp dp n (ln h a) (ln h d)) (hd : decode cc pc = .ok (.invokestatic idx, 3))
    (hsrc : ∀ (w : Wd) (s : State) (H : Heap), KW w s → Wok w → Rp w h H → okv h (vR ts a) → ∃ (cs : Cell) (ks : Class) (cm : ClassId), H[wM w a]? = some cs ∧ (∀ k, cs.vm ≠ .statics k) ∧ cs.vm ≠ .unknown ∧ s.vm.classes[cs.cls]? = some ks ∧ ks.kind = .array cm (gTA ti) ∧ ln h a ≤ cs.slots.size ∧ ∀ j : Nat, j < ln h a → cs.slots[j]? = some (fv w h a (gTA ti) j))
    (hfit : ∀ (w : Wd) (H : Heap), Rp w h H → okv h (vR ts a) → ∀ j, j < ln h a → fits (gTA ti) (fv w h a (gTA ti) j) = true)
    (s1 : h'.1 = h.1) (s2 : h'.2.1 = h.2.1) (s3 : ∀ x y, x ≠ d → hI h' x y = hI h x y ∧ hJ h' x y = hJ h x y ∧ hR h' x y = hR h x y)
    (htk : ∀ (w : Wd) j, (∃ z, fv w h a (gTA ti) j = .int z) ∨ ∃ z, fv w h a (gTA ti) j = .long z) (s3i : ∀ (w : Wd) y, dp.toNat ≤ y ∧ y < dp.toNat + n.toNat → fv w h' d (gTA ti) y = fv w h a (gTA ti) (sp.toNat + (y - dp.toNat))) (s3o : ∀ (w : Wd) y, ¬ (dp.toNat ≤ y ∧ y < dp.toNat + n.toNat) → fv w h' d (gTA ti) y = fv w h d (gTA ti) y)
    (s4 : ∀ (w : Wd) (H : Heap), Rp w h H → okv h (vR ts a) → kd h d = ti + 101 → ∀ y, cA (ti + 101) (hI h' d y)) (s5 : ∀ (w : Wd) (H : Heap), Rp w h H → ∀ y, c64 (hJ h' d y)) (s6 : ∀ y, hR h' d y = hR h d y)
    (kk : ∀ h1, Sm x em (f h1) (pc + 3) lv st h1) : Sm x em (lt1 h' f) pc lv (vI n :: vI dp :: vR (ti + 101) d :: vI sp :: vR ts a :: st) h := by
  intro o hF
  have kk := kk _ o hF
  obtain ⟨p, l, e, R, s, m, args, below, meth, c, nL', w, h0⟩ := x
  obtain ⟨hx, hb, hml, hown, hts, hK, hW, hlk, hc1, hc2, rp0, hlt⟩ := C
  have D1 : R.frames = fr := D.1
  have D2 : R.locals = lo := D.2.1
  intro H locs ls rp hE hl2 hs hL hv2
  obtain ⟨hp, hlt, hka, -, hA⟩ := ar_at hW rp hd0 (ok_h (ok_t (ok_t hs)))
  obtain ⟨k1, k2, k3, k4, k5⟩ := hk
  have cn : c32 n := ok_h hs
  have cdp : c32 dp := ok_h (ok_t hs)
  have csp : c32 sp := ok_h (ok_t (ok_t (ok_t hs)))
  have hoka : okv h (vR ts a) := ok_h (ok_t (ok_t (ok_t (ok_t hs))))
  obtain ⟨cs, ks, cm, g1, g2, g3, g4, g5, g6, g7⟩ := hsrc w s H hK hW rp hoka
  have hEx : Ext h h' := Ext.of s1 s2
  have hge : wB w ≤ wM w d := by have := hW.1 d hp; omega
  have hn' : hN h' = hN h := by unfold hN; rw [s1]
  have hz' : hZ h' = hZ h := by unfold hZ; rw [s1]
  have hl' : ln h' d = ln h d := by unfold ln; rw [s2]
  have hk' : kd h' d = ti + 101 := by unfold kd; rw [s2]; exact hka
  show W p l e R s m args below meth c H locs _ _ _ (F0 m pc ls (.int (Int32.ofInt n) :: .int (Int32.ofInt dp) :: rv (wM w) (vR (ti + 101) d) :: .int (Int32.ofInt sp) :: rv (wM w) (vR ts a) :: st.map (rv (wM w))))
  rw [rv_nz _ ha, rv_nz _ hd0]
  intro T hT X
  obtain ⟨-, kD, hkD, cmD, hkkD⟩ := (hK.2.1 ti hti).1 (ln h d) (fun k => fv w h d (gTA ti) k)
  have q1 : ¬ Int32.ofInt sp < 0 := fun z => by have := (of32_lt csp (by decide : c32 0)).mp z; omega
  have q2 : ¬ Int32.ofInt dp < 0 := fun z => by have := (of32_lt cdp (by decide : c32 0)).mp z; omega
  have q3 : ¬ Int32.ofInt n < 0 := fun z => by have := (of32_lt cn (by decide : c32 0)).mp z; omega
  have e1 := of32_clamp csp
  have e2 := of32_clamp cdp
  have e3 := of32_clamp cn
  obtain ⟨vm', X', step⟩ := X.arraycopy hx hown (hts _ hl) (hts _ hna) (hts _ hsta) (hts _ hini) (src := wM w a) (dst := wM w d) (cs := cs) (cd := arrV (wA w ti) (ln h d) (fun k => fv w h d (gTA ti) k)) (srcPos := Int32.ofInt sp) (destPos := Int32.ofInt dp) (n := Int32.ofInt n) (by rw [hT]; exact g1) (by rw [hT]; exact hA)
    g2 (fun _ h => by cases h) g3 (fun h => by cases h) g4 hkD g5 hkkD (by simp [hprim]) q1 q2 q3
    (by rw [of32_id csp, of32_id cn]; omega)
    (by rw [of32_id cdp, of32_id cn, arrV_size]; omega)
    (fun vm₁ _ i hi => by
      have hlt2 : sp.toNat + i < ln h a := by rw [e3] at hi; omega
      have ee : cs.slots.getD ((Int32.ofInt sp).toNatClampNeg + i) .null = fv w h a (gTA ti) (sp.toNat + i) := by
        rw [Array.getD_eq_getD_getElem?, e1, g7 _ hlt2]
        rfl
      refine ⟨?_, ?_⟩
      · rw [ee]
        exact hfit w H rp hoka _ hlt2
      · rw [ee]
        rcases htk w (sp.toNat + i) with ⟨z, hz⟩ | ⟨z, hz⟩ <;> rw [hz] <;> exact trivial)
    (g := F0 m pc ls (.int (Int32.ofInt n) :: .int (Int32.ofInt dp) :: .ref (wM w d) :: .int (Int32.ofInt sp) :: .ref (wM w a) :: st.map (rv (wM w)))) rfl (by rw [hml]; exact hv2.1) (rest := st.map (rv (wM w))) rfl (by rw [hb]; exact hd) (by rw [D1]; exact hfr) (by
      have := ac_sum (wM w) st
      show 2 * 0 + ((st.map (rv (wM w))).map fun v => v.category).sum + _ ≤ R.locals
      omega)
  have hcop := copied_arrV (cs := cs) (cd := wA w ti) (n1 := ln h d) (g := fun k => fv w h d (gTA ti) k) (sp := Int32.ofInt sp) (dp := Int32.ofInt dp) (n := Int32.ofInt n) (by rw [e1, e3]; show sp.toNat + n.toNat ≤ ln h a; omega) g7
  have hfun : (fun k => if (Int32.ofInt dp).toNatClampNeg ≤ k ∧ k < (Int32.ofInt dp).toNatClampNeg + (Int32.ofInt n).toNatClampNeg then fv w h a (gTA ti) ((Int32.ofInt sp).toNatClampNeg + (k - (Int32.ofInt dp).toNatClampNeg)) else fv w h d (gTA ti) k) = (fun k => fv w h' d (gTA ti) k) := by
    funext k
    rw [e1, e2, e3]
    by_cases hk9 : dp.toNat ≤ k ∧ k < dp.toNat + n.toNat
    · rw [if_pos hk9, s3i w k hk9]
    · rw [if_neg hk9, s3o w k hk9]
  rw [hfun] at hcop
  rw [hcop] at X' step
  have hll : wM w d < H.size := (Array.getElem?_eq_some_iff.mp hA).1
  have hheap : ((T.setVm vm').setCell (wM w d) (arrV (wA w ti) (ln h d) (fun k => fv w h' d (gTA ti) k))).heap = H.setIfInBounds (wM w d) (arrV (wA w ti) (ln h d) (fun k => fv w h' d (gTA ti) k)) := by rw [← hT]; rfl
  generalize hH' : H.setIfInBounds (wM w d) (arrV (wA w ti) (ln h d) (fun k => fv w h' d (gTA ti) k)) = H' at hheap
  have u1 : H'[wM w d]? = some (arrV (wA w ti) (ln h d) (fun k => fv w h' d (gTA ti) k)) := by rw [← hH']; simp [Array.getElem?_setIfInBounds, hll]
  have u2 : H'.size = H.size := by rw [← hH']; simp
  have u3 : ∀ q : Nat, q ≠ wM w d → H'[q]? = H[q]? := fun q hq => by rw [← hH']; simp [Array.getElem?_setIfInBounds, Ne.symm hq]
  have hw6 := fun y => rp.2.2.2.2.2.2.2.2.2.1 d y hp
  have rp1 : Rp w h' H' := by
    refine rp.up hW hp hlt u2 u3 ⟨_, _, hA, u1, by rw [arrV_size, arrV_size]⟩ (Or.inr ⟨ti, hk', hti, ?_⟩) s1 s2 s3 (fun y => ?_) (s5 w H rp) (fun y => ?_)
    · show H'[wM w d]? = some (arrV _ (ln h' d) _)
      rw [u1, hl']
    · rw [hka]; exact s4 w H rp hoka hka y
    · rw [s6]; exact hw6 y
  rw [← hn', ← hz'] at X'
  obtain ⟨t9, a1, b1⟩ := kk H' _ ls rp1 (hE.tr hEx) (fun q hq => (hl2 q hq).ext hEx) (fun u hu => (ok_t (ok_t (ok_t (ok_t (ok_t hs)))) u hu).ext hEx) (fun q hq => by
    rcases List.mem_append.mp hq with z | z
    · exact hL q z
    · obtain ⟨y, -, hy⟩ := List.mem_map.mp z
      rw [← hy]
      exact hge) hv2 _ hheap X'
  exact ⟨t9, step t9 a1, b1⟩
theorem src_arr {ti a : Nat} (ha : a ≠ 0) (w : Wd) (s : State) (H : Heap) (hK : KW w s) (hW : Wok w) (rp : Rp w h H) (ho : okv h (vR (ti + 101) a)) : ∃ (cs : Cell) (ks : Class) (cm : ClassId), H[wM w a]? = some cs ∧ (∀ k, cs.vm ≠ .statics k) ∧ cs.vm ≠ .unknown ∧ s.vm.classes[cs.cls]? = some ks ∧ ks.kind = .array cm (gTA ti) ∧ ln h a ≤ cs.slots.size ∧ ∀ j : Nat, j < ln h a → cs.slots[j]? = some (fv w h a (gTA ti) j) := by
  obtain ⟨hp, hlt, hka, hti, hA⟩ := ar_at hW rp ha ho
  obtain ⟨-, k0, hk0, cm0, hkk0⟩ := (hK.2.1 ti hti).1 (ln h a) (fun k => fv w h a (gTA ti) k)
  exact ⟨_, k0, cm0, hA, (fun _ z => by cases z), (fun z => by cases z), hk0, hkk0, Nat.le_of_eq (arrV_size _ _ _).symm, fun j hj => arrV_read _ _ hj⟩
theorem cpI_in {src sp dst dp n y : Nat} (hy : dp ≤ y ∧ y < dp + n) : hI (cpI h src sp dst dp n) dst y = hI h src (sp + (y - dp)) := if_pos ⟨rfl, hy⟩
theorem cpI_out {src sp dst dp n y : Nat} (hy : ¬ (dp ≤ y ∧ y < dp + n)) : hI (cpI h src sp dst dp n) dst y = hI h dst y := if_neg (fun z => hy z.2)
theorem cpI_ne {src sp dst dp n : Nat} (x y : Nat) (hx : x ≠ dst) : hI (cpI h src sp dst dp n) x y = hI h x y ∧ hJ (cpI h src sp dst dp n) x y = hJ h x y ∧ hR (cpI h src sp dst dp n) x y = hR h x y := ⟨if_neg (fun z => hx z.1), rfl, rfl⟩
theorem cpJ_in {src sp dst dp n y : Nat} (hy : dp ≤ y ∧ y < dp + n) : hJ (cpJ h src sp dst dp n) dst y = hJ h src (sp + (y - dp)) := if_pos ⟨rfl, hy⟩
theorem cpJ_out {src sp dst dp n y : Nat} (hy : ¬ (dp ≤ y ∧ y < dp + n)) : hJ (cpJ h src sp dst dp n) dst y = hJ h dst y := if_neg (fun z => hy z.2)
theorem cpJ_ne {src sp dst dp n : Nat} (x y : Nat) (hx : x ≠ dst) : hI (cpJ h src sp dst dp n) x y = hI h x y ∧ hJ (cpJ h src sp dst dp n) x y = hJ h x y ∧ hR (cpJ h src sp dst dp n) x y = hR h x y := ⟨rfl, if_neg (fun z => hx z.1), rfl⟩
theorem fk4 {ti : Nat} (hti : ti < 4) : fk (gTA ti) = 0 ∧ refKind (gTA ti) = false := by
  match ti, hti with
  | 0, _ => exact ⟨rfl, rfl⟩
  | 1, _ => exact ⟨rfl, rfl⟩
  | 2, _ => exact ⟨rfl, rfl⟩
  | 3, _ => exact ⟨rfl, rfl⟩
theorem sm_copyI (C : Cx x cc own) (D : Cm x fr lo ret nL) {idx ti a d : Nat} {sp dp n : Int} {f : Hp → Option β} (hl : (Cond.methodLink own idx arraycopyName) ∈ lw_all) (hna : (Cond.native arraycopyName) ∈ lw_all) (hsta : (Cond.static arraycopyName) ∈ lw_all) (hini : (Cond.initialized "java/lang/System") ∈ lw_all)
    (hfr : 1 ≤ fr) (hlo : 8 + (nativeFrameWords "java/lang/System" "arraycopy" 5 + 11) ≤ lo) (hsum : (st.map ac).sum ≤ 8) (hti : ti < 4) (ha : a ≠ 0) (hd0 : d ≠ 0) (hk : cpk sp dp n (ln h a) (ln h d)) (hd : decode cc pc = .ok (.invokestatic idx, 3))
    (kk : ∀ h1, Sm x em (f h1) (pc + 3) lv st h1) : Sm x em (lt1 (cpI h a sp.toNat d dp.toNat n.toNat) f) pc lv (vI n :: vI dp :: vR (ti + 101) d :: vI sp :: vR (ti + 101) a :: st) h :=
  sm_copy C D hl hna hsta hini hfr hlo hsum (by omega) (fk4 hti).2 ha hd0 hk hd (src_arr ha) (fun w H rp ho j hj => by
      have hka : kd h a = ti + 101 := (Or.resolve_left ho ha).1
      have h9 := rp.2.2.2.2.2.2.2.1 a j
      rw [hka] at h9
      rw [fv_I (fk4 hti).1]
      exact fit_c hti h9) rfl rfl cpI_ne (fun w j => Or.inl ⟨_, fv_I (fk4 hti).1 w h a j⟩) (fun w y hy => by rw [fv_I (fk4 hti).1, fv_I (fk4 hti).1, cpI_in hy]) (fun w y hy => by rw [fv_I (fk4 hti).1, fv_I (fk4 hti).1, cpI_out hy])
    (fun w H rp ho hkd y => by
      have hka : kd h a = ti + 101 := (Or.resolve_left ho ha).1
      by_cases hy : dp.toNat ≤ y ∧ y < dp.toNat + n.toNat
      · rw [cpI_in hy, ← hka]; exact rp.2.2.2.2.2.2.2.1 a _
      · rw [cpI_out hy, ← hkd]; exact rp.2.2.2.2.2.2.2.1 d _) (fun w H rp y => rp.2.2.2.2.2.2.2.2.1 d y) (fun y => rfl) kk
theorem sm_copyJ (C : Cx x cc own) (D : Cm x fr lo ret nL) {idx a d : Nat} {sp dp n : Int} {f : Hp → Option β} (hl : (Cond.methodLink own idx arraycopyName) ∈ lw_all) (hna : (Cond.native arraycopyName) ∈ lw_all) (hsta : (Cond.static arraycopyName) ∈ lw_all) (hini : (Cond.initialized "java/lang/System") ∈ lw_all)
    (hfr : 1 ≤ fr) (hlo : 8 + (nativeFrameWords "java/lang/System" "arraycopy" 5 + 11) ≤ lo) (hsum : (st.map ac).sum ≤ 8) (ha : a ≠ 0) (hd0 : d ≠ 0) (hk : cpk sp dp n (ln h a) (ln h d)) (hd : decode cc pc = .ok (.invokestatic idx, 3))
    (kk : ∀ h1, Sm x em (f h1) (pc + 3) lv st h1) : Sm x em (lt1 (cpJ h a sp.toNat d dp.toNat n.toNat) f) pc lv (vI n :: vI dp :: vR 105 d :: vI sp :: vR 105 a :: st) h :=
  sm_copy (ti := 4) (ts := 105) C D hl hna hsta hini hfr hlo hsum (by omega) rfl ha hd0 hk hd (src_arr ha) (fun w H rp ho j hj => by rw [fv_J rfl]; rfl) rfl rfl cpJ_ne (fun w j => Or.inr ⟨_, fv_J rfl w h a j⟩) (fun w y hy => by rw [fv_J rfl, fv_J rfl, cpJ_in hy]) (fun w y hy => by rw [fv_J rfl, fv_J rfl, cpJ_out hy])
    (fun w H rp ho hkd y => by rw [← hkd]; exact rp.2.2.2.2.2.2.2.1 d _) (fun w H rp y => by
      by_cases hy : dp.toNat ≤ y ∧ y < dp.toNat + n.toNat
      · rw [cpJ_in hy]; exact rp.2.2.2.2.2.2.2.2.1 a _
      · rw [cpJ_out hy]; exact rp.2.2.2.2.2.2.2.2.1 d _) (fun y => rfl) kk
/-- Math.min, max, abs -/
theorem sm_math (C : Cx x cc own) (D : Cm x fr lo ret nL) {st' : List AV} (hfr : 1 ≤ fr) (hlo : 24 ≤ lo) (hsum : (st.map ac).sum ≤ 8) (k : Sm x em F (pc + 3) lv (st' ++ st) h) {sta : List AV} (hst' : (∀ v ∈ sta ++ st, okv h v) → ∀ v ∈ st', okv h v)
    (hw : ∀ (p : Program) (l : Launch) (e : Env) (R : Room) (s : State) (m : MethodId) (args : Array Value) (below : List Frame) (meth : Method) (c : Code) (ρ : Nat → Nat) (H : Heap) (locs : List Loc) (ls : Array Slot) (cells slots : Nat) (Q : State → Prop) (rest : List Value), p.tables.exec = Jvm.exec → c.code = cc → c.maxLocals = ls.size → s.vm.findClass own = some m.cls → (∀ y ∈ lw_all, y.before args s = true) → (∀ v ∈ sta ++ st, okv h v) → 1 ≤ R.frames → (rest.map fun v => v.category).sum + 15 ≤ R.locals → cells ≤ R.cells → slots ≤ R.slots →
      W p l e R s m args below meth c H locs cells slots Q (F0 m (pc + 3) ls (st'.map (rv ρ) ++ rest)) → W p l e R s m args below meth c H locs cells slots Q (F0 m pc ls (sta.map (rv ρ) ++ rest))) : Sm x em F pc lv (sta ++ st) h := by
  intro o hF
  have k := k o hF
  obtain ⟨p, l, e, R, s, m, args, below, meth, c, nL', w, h0⟩ := x
  obtain ⟨hx, hb, hml, hown, hts, hK, hW, hlk, hc1, hc2, rp0, hlt⟩ := C
  have D1 : R.frames = fr := D.1
  have D2 : R.locals = lo := D.2.1
  intro H locs ls rp hE hl hs hL hv
  have h1 : hN h ≤ CN := rp.2.2.2.2.2.2.2.2.2.2.1
  have h2 : hZ h ≤ CZ := rp.2.2.2.2.2.2.2.2.2.2.2.1
  have h3 := hE.1
  have h4 := hE.2.1
  have k2 := k H locs ls rp hE hl (fun v hv => by
    rcases List.mem_append.mp hv with z | z
    · exact hst' hs v z
    · exact hs v (List.mem_append_right _ z)) hL hv
  rw [List.map_append] at k2
  rw [List.map_append]
  exact hw p l e R s m args below meth c (wM w) H locs ls _ _ _ _ hx hb (by rw [hml]; exact hv.1.symm) hown hts hs (by omega) (by rw [ac_sum]; omega) (by omega) (by omega) k2
theorem of32_max {a b : Int} (ha : c32 a) (hb : c32 b) : (if Int32.ofInt a < Int32.ofInt b then Int32.ofInt b else Int32.ofInt a) = Int32.ofInt (max a b) := by
  by_cases hab : a < b
  · rw [if_pos ((of32_lt ha hb).mpr hab), show max a b = b from by omega]
  · rw [if_neg (fun z => hab ((of32_lt ha hb).mp z)), show max a b = a from by omega]
theorem sm_mmax (C : Cx x cc own) (D : Cm x fr lo ret nL) {idx : Nat} {a b : Int} (h1 : (Cond.methodLink own idx Lib.Math.max.name) ∈ lw_all) (h2 : (Cond.static Lib.Math.max.name) ∈ lw_all) (h3 : (Cond.initialized "java/lang/Math") ∈ lw_all) (h4 : (Cond.code Lib.Math.max.name Lib.Math.max.code 2 (some .int)) ∈ lw_all) (hfr : 1 ≤ fr) (hlo : 24 ≤ lo) (hsum : (st.map ac).sum ≤ 8) (hd : decode cc pc = .ok (.invokestatic idx, 3)) (k : Sm x em F (pc + 3) lv (vI (max a b) :: st) h) : Sm x em F pc lv (vI b :: vI a :: st) h :=
  sm_math (sta := [vI b, vI a]) (st' := [vI (max a b)]) C D hfr hlo hsum k (fun hs => ok_c (show c32 _ by have h5 : c32 a := ok_h (ok_t hs); have h6 : c32 b := ok_h hs; unfold c32 at *; omega) ok_nil) (fun p l e R s m args below meth c ρ H locs ls cells slots Q rest hx hb hml ho ht hs hf hl hc hz kk => va_mmax (rest := rest) hx hb hml ho (ht _ h1) (ht _ h2) (ht _ h3) (ht _ h4) hf (by omega) hc hz hd (by rw [of32_max (ok_h (ok_t hs)) (ok_h hs)]; exact kk))
theorem sm_mmin (C : Cx x cc own) (D : Cm x fr lo ret nL) {idx : Nat} {a b : Int} (h1 : (Cond.methodLink own idx Lib.Math.min.name) ∈ lw_all) (h2 : (Cond.static Lib.Math.min.name) ∈ lw_all) (h3 : (Cond.initialized "java/lang/Math") ∈ lw_all) (h4 : (Cond.code Lib.Math.min.name Lib.Math.min.code 2 (some .int)) ∈ lw_all) (hfr : 1 ≤ fr) (hlo : 24 ≤ lo) (hsum : (st.map ac).sum ≤ 8) (hd : decode cc pc = .ok (.invokestatic idx, 3)) (k : Sm x em F (pc + 3) lv (vI (min a b) :: st) h) : Sm x em F pc lv (vI b :: vI a :: st) h :=
  sm_math (sta := [vI b, vI a]) (st' := [vI (min a b)]) C D hfr hlo hsum k (fun hs => ok_c (show c32 _ by have h5 : c32 a := ok_h (ok_t hs); have h6 : c32 b := ok_h hs; unfold c32 at *; omega) ok_nil) (fun p l e R s m args below meth c ρ H locs ls cells slots Q rest hx hb hml ho ht hs hf hl hc hz kk => va_mmin (rest := rest) hx hb hml ho (ht _ h1) (ht _ h2) (ht _ h3) (ht _ h4) hf (by omega) hc hz hd (by
    have h5 : c32 a := ok_h (ok_t hs)
    have h6 : c32 b := ok_h hs
    have h7 := of32_lt h5 h6
    have h8 := of32_lt h6 h5
    have kk : W p l e R s m args below meth c H locs cells slots Q (F0 m (pc + 3) ls (.int (Int32.ofInt (min a b)) :: rest)) := kk
    split
    · rename_i hc9
      first | (rw [show min a b = a from by have := h7.mp hc9; omega] at kk; exact kk) | (rw [show min a b = b from by have := h8.mp hc9; omega] at kk; exact kk)
    · rename_i hc9
      first | (rw [show min a b = b from by have : ¬ a < b := fun z => hc9 (h7.mpr z); omega] at kk; exact kk) | (rw [show min a b = a from by have : ¬ b < a := fun z => hc9 (h8.mpr z); omega] at kk; exact kk)))
theorem sm_mabs (C : Cx x cc own) (D : Cm x fr lo ret nL) {idx : Nat} {a : Int} (h1 : (Cond.methodLink own idx Lib.Math.abs.name) ∈ lw_all) (h2 : (Cond.static Lib.Math.abs.name) ∈ lw_all) (h3 : (Cond.initialized "java/lang/Math") ∈ lw_all) (h4 : (Cond.code Lib.Math.abs.name Lib.Math.abs.code 1 (some .int)) ∈ lw_all) (hfr : 1 ≤ fr) (hlo : 24 ≤ lo) (hsum : (st.map ac).sum ≤ 8) (hd : decode cc pc = .ok (.invokestatic idx, 3)) (k : Sm x em F (pc + 3) lv (vI (if 0 ≤ a then a else w32 (-a)) :: st) h) : Sm x em F pc lv (vI a :: st) h :=
  sm_math (sta := [vI a]) (st' := [vI (if 0 ≤ a then a else w32 (-a))]) C D hfr hlo hsum k (fun hs => ok_c (show c32 _ by split; exact ok_h hs; exact c32_w _) ok_nil) (fun p l e R s m args below meth c ρ H locs ls cells slots Q rest hx hb hml ho ht hs hf hl hc hz kk => va_mabs (rest := rest) hx hb hml ho (ht _ h1) (ht _ h2) (ht _ h3) (ht _ h4) hf (by omega) hc hz hd (by
    have h5 : c32 a := ok_h hs
    have h7 : (0 : Int32) ≤ Int32.ofInt a ↔ 0 ≤ a := of32_le (by decide : c32 0) h5
    have e : (if (0 : Int32) ≤ Int32.ofInt a then Int32.ofInt a else 0 - Int32.ofInt a) = Int32.ofInt (if 0 ≤ a then a else w32 (-a)) := by
      by_cases hc9 : 0 ≤ a
      · rw [if_pos hc9]; exact if_pos (h7.mpr hc9)
      · rw [if_neg hc9, if_neg (fun z => hc9 (h7.mp z)), ← of32_neg]; exact Int32.zero_sub _
    rw [e]; exact kk))
theorem sm_mmaxL (C : Cx x cc own) (D : Cm x fr lo ret nL) {idx : Nat} {a b : Int} (h1 : (Cond.methodLink own idx Lib.MathLoose.max_long.x) ∈ lw_all) (h2 : (Cond.static Lib.MathLoose.max_long.x) ∈ lw_all) (h3 : (Cond.initialized "java/lang/Math") ∈ lw_all) (h4 : (Cond.code Lib.MathLoose.max_long.x Lib.MathLoose.max_long.code 4 (some .long)) ∈ lw_all) (hfr : 1 ≤ fr) (hlo : 24 ≤ lo) (hsum : (st.map ac).sum ≤ 8) (hd : decode cc pc = .ok (.invokestatic idx, 3)) (k : Sm x em F (pc + 3) lv (vJ (max a b) :: st) h) : Sm x em F pc lv (vJ b :: vJ a :: st) h :=
  sm_math (sta := [vJ b, vJ a]) (st' := [vJ (max a b)]) C D hfr hlo hsum k (fun hs => ok_c (show c64 _ by have h5 : c64 a := ok_h (ok_t hs); have h6 : c64 b := ok_h hs; unfold c64 at *; omega) ok_nil) (fun p l e R s m args below meth c ρ H locs ls cells slots Q rest hx hb hml ho ht hs hf hl hc hz kk => va_mmax_long (rest := rest) hx hb hml ho (ht _ h1) (ht _ h2) (ht _ h3) (ht _ h4) hf hl hc hz hd (by
    have h5 : c64 a := ok_h (ok_t hs)
    have h6 : c64 b := ok_h hs
    have h8 := of64_lt h6 h5
    have kk : W p l e R s m args below meth c H locs cells slots Q (F0 m (pc + 3) ls (.long (Int64.ofInt (max a b)) :: rest)) := kk
    split
    · rename_i hc9
      rw [show max a b = a from by have := h8.mp hc9; omega] at kk; exact kk
    · rename_i hc9
      rw [show max a b = b from by have : ¬ b < a := fun z => hc9 (h8.mpr z); omega] at kk; exact kk))
theorem sm_mminL (C : Cx x cc own) (D : Cm x fr lo ret nL) {idx : Nat} {a b : Int} (h1 : (Cond.methodLink own idx Lib.MathLoose.min_long.x) ∈ lw_all) (h2 : (Cond.static Lib.MathLoose.min_long.x) ∈ lw_all) (h3 : (Cond.initialized "java/lang/Math") ∈ lw_all) (h4 : (Cond.code Lib.MathLoose.min_long.x Lib.MathLoose.min_long.code 4 (some .long)) ∈ lw_all) (hfr : 1 ≤ fr) (hlo : 24 ≤ lo) (hsum : (st.map ac).sum ≤ 8) (hd : decode cc pc = .ok (.invokestatic idx, 3)) (k : Sm x em F (pc + 3) lv (vJ (min a b) :: st) h) : Sm x em F pc lv (vJ b :: vJ a :: st) h :=
  sm_math (sta := [vJ b, vJ a]) (st' := [vJ (min a b)]) C D hfr hlo hsum k (fun hs => ok_c (show c64 _ by have h5 : c64 a := ok_h (ok_t hs); have h6 : c64 b := ok_h hs; unfold c64 at *; omega) ok_nil) (fun p l e R s m args below meth c ρ H locs ls cells slots Q rest hx hb hml ho ht hs hf hl hc hz kk => va_mmin_long (rest := rest) hx hb hml ho (ht _ h1) (ht _ h2) (ht _ h3) (ht _ h4) hf hl hc hz hd (by
    have h5 : c64 a := ok_h (ok_t hs)
    have h6 : c64 b := ok_h hs
    have h7 := of64_lt h5 h6
    have h8 := of64_lt h6 h5
    have kk : W p l e R s m args below meth c H locs cells slots Q (F0 m (pc + 3) ls (.long (Int64.ofInt (min a b)) :: rest)) := kk
    split
    · rename_i hc9
      first | (rw [show min a b = a from by have := h7.mp hc9; omega] at kk; exact kk) | (rw [show min a b = b from by have := h8.mp hc9; omega] at kk; exact kk)
    · rename_i hc9
      first | (rw [show min a b = b from by have : ¬ a < b := fun z => hc9 (h7.mpr z); omega] at kk; exact kk) | (rw [show min a b = a from by have : ¬ b < a := fun z => hc9 (h8.mpr z); omega] at kk; exact kk)))
end
