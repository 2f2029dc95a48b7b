/-! ROWS: what was there beforehand: statics, labels and their texts, arrays that are only read -/
section
variable {x : Ctx} {cc : ByteArray} {own : String} {β : Type} {em : β → Xo} {F A B : Option β} {pc fr lo nL : Nat} {ret : Option FieldType} {lv : List (Nat × AV)} {st : List AV} {h : Hp}
theorem pre_kd {w : Wd} {H : Heap} (rp : Rp w h H) {a : Nat} (ha : a < PN1) : kd h a = kd (wP w) a ∧ ln h a = ln (wP w) a := by
  have e := (rp.2.2.2.2.2.1 a ha).1
  exact ⟨by unfold kd; rw [e], by unfold ln; rw [e]⟩
/-- a cell of a kind that was there beforehand -/
theorem pre_at {w : Wd} {H : Heap} (hW : Wok w) (rp : Rp w h H) {a k : Nat} (hk : 60 < k ∧ k ≤ 100) (ha : a ≠ 0) (ho : okv h (vR k a)) : a < PN1 ∧ kd (wP w) a = k := by
  have hka : kd h a = k ∧ a < hN h := Or.resolve_left ho ha
  rcases Nat.lt_or_ge a PN1 with q | q
  · exact ⟨q, by rw [← (pre_kd rp q).1]; exact hka.1⟩
  · rcases rp.2.2.2.2.2.2.1 a q hka.2 with ⟨c2, e1, e2, -⟩ | ⟨t, e1, -, -⟩ <;> omega
theorem pre_ok {w : Wd} {H : Heap} (rp : Rp w h H) {a k r : Nat} (h1 : r < PN1) (hr : hR (wP w) r k = 0 ∨ (kd (wP w) (hR (wP w) r k) = a ∧ hR (wP w) r k < PN1)) : okv h (vR a (hR h r k)) := by
  have e := ((rp.2.2.2.2.2.1 r h1).2 k).2
  show hR h r k = 0 ∨ (kd h (hR h r k) = a ∧ hR h r k < hN h)
  rw [e]
  rcases hr with z | ⟨z1, z2⟩
  · exact Or.inl z
  · exact Or.inr ⟨by rw [(pre_kd rp z2).1]; exact z1, Nat.lt_of_lt_of_le z2 rp.1⟩
def SL (own : String) (idx k : Nat) : Prop := (Cond.fieldLink own idx (gST k).1 (gST k).2.1 (gST k).2.2) ∈ lw_all ∨ ∃ host, (Cond.fieldLinkNest own idx (gST k).1 (gST k).2.1 (gST k).2.2 host) ∈ lw_tbl
theorem sm_gets (C : Cx x cc own) {idx k : Nat} {v : AV} (hk : k < 17) (hl : SL own idx k) (hd : decode cc pc = .ok (.getstatic idx, 3)) (kk : Sm x em F (pc + 3) lv (v :: st) h) (hv : ∀ (w : Wd) (H : Heap), Rp w h H → sv w k = rv (wM w) v) (ho : ∀ (w : Wd) (H : Heap), Wok w → Rp w h H → okv h v) : Sm x em F pc lv st h := by
  intro o hF
  have kk := kk o hF
  obtain ⟨p, l, e, R, s, m, args, below, meth, c, nL, w, h0⟩ := x
  obtain ⟨hx, hb, -, hown, hts, hK, hW, -⟩ := C
  intro H locs ls rp hE hl2 hs hL hv2
  have hZ : va_Z (gST k).1 (gST k).2.1 (gST k).2.2 (sv w k) (fun q => wB w ≤ q) s H := (hK.2.2.2.1 k hk).kept (fun a _ hA => rp.2.2.2.1 a (Nat.not_le.mp hA))
  obtain ⟨cf, kf, fi, f, a, cell, h1, h2, h3, h4, h5, h6, h7, h8⟩ := hZ
  have k2 := kk H locs ls rp hE hl2 (ok_c (ho w H hW rp) hs) hL hv2
  rw [List.map_cons, ← hv w H rp] at k2
  rcases hl with hl | ⟨host, hl⟩
  · exact W.gets hx hb hown (hts _ hl) h1 h2 h3 h4 h5 (fun e => by rw [e] at h6; cases h6) h7 rfl hd k2
  · exact va_WgetsN hx hb hown (va_Nw.use rfl (hK.2.2.1 _ hl rfl)) h1 h2 h3 h4 h5 (fun e => by rw [e] at h6; cases h6) h7 rfl hd k2
theorem sm_getsR (C : Cx x cc own) {idx k kn : Nat} (hk : k < 13) (hkn : gSK k = kn) (hl : SL own idx k) (hd : decode cc pc = .ok (.getstatic idx, 3)) (kk : Sm x em F (pc + 3) lv (vR kn (hR h 40 k) :: st) h) : Sm x em F pc lv st h :=
  sm_gets C (by omega) hl hd kk (fun w H rp => by
    unfold sv
    rw [if_pos hk, ← ((rp.2.2.2.2.2.1 40 (by decide)).2 k).2]
    rfl) (fun w H hW rp => by
    have := hW.2.2.2.2.1 k hk
    rw [hkn] at this
    exact pre_ok rp (by decide) this)
theorem sm_getsI (C : Cx x cc own) {idx k : Nat} (hk : 13 ≤ k ∧ k < 17) (hl : SL own idx k) (hd : decode cc pc = .ok (.getstatic idx, 3)) (kk : Sm x em F (pc + 3) lv (vI (hI h 40 k) :: st) h) : Sm x em F pc lv st h :=
  sm_gets C hk.2 hl hd kk (fun w H rp => by
    unfold sv
    rw [if_neg (by omega), ← ((rp.2.2.2.2.2.1 40 (by decide)).2 k).1]
    rfl) (fun w H hW rp => (rp.2.2.2.2.2.2.2.1 40 k).1)
/-- a field of an object that was there beforehand -/
theorem sm_getO (C : Cx x cc own) {idx a kn : Nat} {o n d : String} {v : AV} (hkn : 60 < kn ∧ kn ≤ 100) (ha : a ≠ 0) (hl : (Cond.fieldLink own idx o n d) ∈ lw_all ∨ ∃ host, (Cond.fieldLinkNest own idx o n d host) ∈ lw_tbl) (hd : decode cc pc = .ok (.getfield idx, 3)) (kk : Sm x em F (pc + 3) lv (v :: st) h) (hv : ∀ (w : Wd) (s : State) (H : Heap), KP w s → Rp w h H → a < PN1 → kd (wP w) a = kn → va_OF o n d (rv (wM w) v) (wM w a) (fun q => wB w ≤ q) s (wH w)) (ho : ∀ (w : Wd) (H : Heap), Wok w → Rp w h H → a < PN1 → kd (wP w) a = kn → okv h v) : Sm x em F pc lv (vR kn a :: st) h := by
  intro o' hF
  have kk := kk o' hF
  obtain ⟨p, l, e, R, s, m, args, below, meth, c, nL, w, h0⟩ := x
  obtain ⟨hx, hb, -, hown, hts, hK, hW, -⟩ := C
  intro H locs ls rp hE hl2 hs hL hv2
  obtain ⟨hp, hkw⟩ := pre_at hW rp hkn ha (ok_h hs)
  obtain ⟨cf, k, fi, f, cell, h1, h2, h3, h4, h5, h6⟩ := (hv w s H hK.2.2.2 rp hp hkw).kept (H1 := H) (fun a _ hA => rp.2.2.2.1 a (Nat.not_le.mp hA))
  have k2 := kk H locs ls rp hE hl2 (ok_c (ho w H hW rp hp hkw) (ok_t hs)) hL hv2
  rw [List.map_cons] at k2
  show W p l e R s m args below meth c H locs _ _ _ (F0 m pc ls (rv (wM w) (vR kn a) :: st.map (rv (wM w))))
  rw [rv_nz _ ha]
  rcases hl with hl | ⟨host, hl⟩
  · exact W.getf hx hb hown (hts _ hl) h1 h2 h3 h4 (v := rv (wM w) v) h5 rfl rfl hd k2
  · exact va_Wgetf hx hb hown (va_Nw.use rfl (hK.2.2.1 _ hl rfl)) h1 h2 h3 h4 (v := rv (wM w) v) h5 rfl rfl hd k2
theorem sm_getText (C : Cx x cc own) {idx a : Nat} (ha : a ≠ 0) (hl : (Cond.fieldLink own idx "TransportPair$Label" "text" "Ljava/lang/String;") ∈ lw_all ∨ ∃ host, (Cond.fieldLinkNest own idx "TransportPair$Label" "text" "Ljava/lang/String;" host) ∈ lw_tbl) (hd : decode cc pc = .ok (.getfield idx, 3)) (kk : Sm x em F (pc + 3) lv (vR 64 (hR h a 0) :: st) h) : Sm x em F pc lv (vR 61 a :: st) h :=
  sm_getO C (by decide) ha hl hd kk (fun w s H hK rp hp hk => by
    rw [((rp.2.2.2.2.2.1 a hp).2 0).2]
    exact hK.2.1 a hp hk) (fun w H hW rp hp hk => pre_ok rp hp (hW.2.2.2.2.2.1 a hp hk))
theorem sm_getVal (C : Cx x cc own) {idx a : Nat} (ha : a ≠ 0) (hl : (Cond.fieldLink own idx "java/lang/String" "value" "[B") ∈ lw_all ∨ ∃ host, (Cond.fieldLinkNest own idx "java/lang/String" "value" "[B" host) ∈ lw_tbl) (hd : decode cc pc = .ok (.getfield idx, 3)) (kk : Sm x em F (pc + 3) lv (vR 63 (hR h a 0) :: st) h) : Sm x em F pc lv (vR 64 a :: st) h :=
  sm_getO C (by decide) ha hl hd kk (fun w s H hK rp hp hk => by
    rw [((rp.2.2.2.2.2.1 a hp).2 0).2]
    exact (hK.2.2.1 a hp hk).1) (fun w H hW rp hp hk => pre_ok rp hp (hW.2.2.2.2.2.2.1 a hp hk))
theorem sm_getCod (C : Cx x cc own) {idx a : Nat} (ha : a ≠ 0) (hl : (Cond.fieldLink own idx "java/lang/String" "coder" "B") ∈ lw_all ∨ ∃ host, (Cond.fieldLinkNest own idx "java/lang/String" "coder" "B" host) ∈ lw_tbl) (hd : decode cc pc = .ok (.getfield idx, 3)) (kk : Sm x em F (pc + 3) lv (vI (hI h a 1) :: st) h) : Sm x em F pc lv (vR 64 a :: st) h :=
  sm_getO C (by decide) ha hl hd kk (fun w s H hK rp hp hk => by
    show va_OF _ _ _ (.int (Int32.ofInt (hI h a 1))) _ _ _ _
    rw [((rp.2.2.2.2.2.1 a hp).2 1).1]
    exact (hK.2.2.1 a hp hk).2.1) (fun w H hW rp hp hk => (rp.2.2.2.2.2.2.2.1 a 1).1)
theorem pre_arr {w : Wd} {s : State} {H : Heap} (hK : KP w s) (rp : Rp w h H) {a kn : Nat} {ty : FieldType} (hk : (kn = 62 ∧ ty = .int) ∨ (kn = 63 ∧ ty = .byte)) (hp : a < PN1) (hkw : kd (wP w) a = kn) : ∃ cell : Cell, H[wM w a]? = some cell ∧ s.isArrayOf cell ty ∧ cell.vm ≠ .unknown ∧ ln h a ≤ cell.slots.size ∧ cell.slots.size.toInt32 = Int32.ofNat (ln h a) ∧ ∀ j : Nat, j < ln h a → cell.slots[j]? = some (.int (Int32.ofInt (hI h a j))) := by
  have e2 := (pre_kd rp hp).2
  have hT : va_T ty (wM w a) (ln (wP w) a) (fun j => .int (Int32.ofInt (hI (wP w) a j))) (fun q => wB w ≤ q) s H := by
    rcases hk with ⟨h1, h2⟩ | ⟨h1, h2⟩
    · rw [h2]; exact (hK.2.2.2.1 a hp (by rw [hkw]; exact h1)).kept (fun a _ hA => rp.2.2.2.1 a (Nat.not_le.mp hA))
    · rw [h2]; exact (hK.2.2.2.2.1 a hp (by rw [hkw]; exact h1)).kept (fun a _ hA => rp.2.2.2.1 a (Nat.not_le.mp hA))
  obtain ⟨cell, t1, t2, t3, t4, t5, t6, -⟩ := hT
  refine ⟨cell, t1, t2, t3, by rw [e2]; exact t4, by rw [e2]; exact t5, fun j hj => ?_⟩
  rw [e2] at hj
  rw [((rp.2.2.2.2.2.1 a hp).2 j).1]
  exact t6 j hj
theorem sm_alenP (C : Cx x cc own) {a kn : Nat} (hkn : kn = 62 ∨ kn = 63) (ha : a ≠ 0) (hd : decode cc pc = .ok (.arraylength, 1)) (kk : Sm x em F (pc + 1) lv (vI (ln h a) :: st) h) : Sm x em F pc lv (vR kn a :: st) h := by
  intro o' hF
  have kk := kk o' hF
  obtain ⟨p, l, e, R, s, m, args, below, meth, c, nL, w, h0⟩ := x
  obtain ⟨hx, hb, -, hown, hts, hK, hW, -⟩ := C
  intro H locs ls rp hE hl2 hs hL hv2
  obtain ⟨hp, hkw⟩ := pre_at hW rp (by omega) ha (ok_h hs)
  have hcz := hW.2.2.2.2.2.2.2 a hp
  rw [← (pre_kd rp hp).2] at hcz
  have hc32 : c32 (ln h a) := by unfold CZ at hcz; unfold c32; omega
  show W p l e R s m args below meth c H locs _ _ _ (F0 m pc ls (rv (wM w) (vR kn a) :: st.map (rv (wM w))))
  rw [rv_nz _ ha]
  rcases hkn with rfl | rfl
  · obtain ⟨cell, t1, t2, t3, t4, t5, t6⟩ := pre_arr (ty := .int) hK.2.2.2 rp (Or.inl ⟨rfl, rfl⟩) hp hkw
    exact W.alen hx hb t1 t2 (n := Int32.ofInt (ln h a)) (by rw [t5]; rfl) rfl rfl hd (kk H locs ls rp hE hl2 (ok_c hc32 (ok_t hs)) hL hv2)
  · obtain ⟨cell, t1, t2, t3, t4, t5, t6⟩ := pre_arr (ty := .byte) hK.2.2.2 rp (Or.inr ⟨rfl, rfl⟩) hp hkw
    exact W.alen hx hb t1 t2 (n := Int32.ofInt (ln h a)) (by rw [t5]; rfl) rfl rfl hd (kk H locs ls rp hE hl2 (ok_c hc32 (ok_t hs)) hL hv2)
theorem ix_in2 {i : Int} {n m : Nat} (hc : c32 i) (hi : ix i n) (hm : n ≤ m) : ¬ (Int32.ofInt i < 0 ∨ m ≤ (Int32.ofInt i).toNatClampNeg) := (ix_in (n := m) hc (by unfold ix at hi ⊢; omega)).1
theorem sm_ialdP (C : Cx x cc own) {a : Nat} {i : Int} (ha : a ≠ 0) (hi : ix i (ln h a)) (hd : decode cc pc = .ok (.iaload, 1)) (kk : Sm x em F (pc + 1) lv (vI (hI h a i.toNat) :: st) h) : Sm x em F pc lv (vI i :: vR 62 a :: st) h := by
  intro o' hF
  have kk := kk o' hF
  obtain ⟨p, l, e, R, s, m, args, below, meth, c, nL, w, h0⟩ := x
  obtain ⟨hx, hb, -, hown, hts, hK, hW, -⟩ := C
  intro H locs ls rp hE hl2 hs hL hv2
  obtain ⟨hp, hkw⟩ := pre_at hW rp (by decide) ha (ok_h (ok_t hs))
  obtain ⟨cell, t1, t2, t3, t4, t5, t6⟩ := pre_arr (ty := .int) hK.2.2.2 rp (Or.inl ⟨rfl, rfl⟩) hp hkw
  obtain ⟨j1, j2, j3⟩ := ix_in (ok_h hs) hi
  show W p l e R s m args below meth c H locs _ _ _ (F0 m pc ls (.int (Int32.ofInt i) :: rv (wM w) (vR 62 a) :: st.map (rv (wM w))))
  rw [rv_nz _ ha]
  exact W.iald hx hb t1 t2 t3 (ix_in2 (ok_h hs) hi t4) (v := .int (Int32.ofInt (hI h a i.toNat))) (by rw [j2]; exact t6 _ j3) rfl rfl hd (kk H locs ls rp hE hl2 (ok_c (rp.2.2.2.2.2.2.2.1 a _).1 (ok_t (ok_t hs))) hL hv2)
theorem sm_baldP (C : Cx x cc own) {a : Nat} {i : Int} (ha : a ≠ 0) (hi : ix i (ln h a)) (hd : decode cc pc = .ok (.baload, 1)) (kk : Sm x em F (pc + 1) lv (vI (hI h a i.toNat) :: st) h) : Sm x em F pc lv (vI i :: vR 63 a :: st) h := by
  intro o' hF
  have kk := kk o' hF
  obtain ⟨p, l, e, R, s, m, args, below, meth, c, nL, w, h0⟩ := x
  obtain ⟨hx, hb, -, hown, hts, hK, hW, -⟩ := C
  intro H locs ls rp hE hl2 hs hL hv2
  obtain ⟨hp, hkw⟩ := pre_at hW rp (by decide) ha (ok_h (ok_t hs))
  obtain ⟨cell, t1, t2, t3, t4, t5, t6⟩ := pre_arr (ty := .byte) hK.2.2.2 rp (Or.inr ⟨rfl, rfl⟩) hp hkw
  obtain ⟨j1, j2, j3⟩ := ix_in (ok_h hs) hi
  show W p l e R s m args below meth c H locs _ _ _ (F0 m pc ls (.int (Int32.ofInt i) :: rv (wM w) (vR 63 a) :: st.map (rv (wM w))))
  rw [rv_nz _ ha]
  exact W.bald hx hb t1 t2 t3 (ix_in2 (ok_h hs) hi t4) (v := .int (Int32.ofInt (hI h a i.toNat))) (by rw [j2]; exact t6 _ j3) rfl rfl hd (kk H locs ls rp hE hl2 (ok_c (rp.2.2.2.2.2.2.2.1 a _).1 (ok_t (ok_t hs))) hL hv2)
/-- a copy out of an array that is only read -/
theorem sm_copyRo (C : Cx x cc own) (D : Cm x fr lo ret nL) {idx a d : Nat} {sp dp n : Int} {f : Hp → Option β} (hl : (Cond.methodLink own idx arraycopyName) ∈ lw_all) (hna : (Cond.native arraycopyName) ∈ lw_all) (hsta : (Cond.static arraycopyName) ∈ lw_all) (hini : (Cond.initialized "java/lang/System") ∈ lw_all)
    (hfr : 1 ≤ fr) (hlo : 8 + (nativeFrameWords "java/lang/System" "arraycopy" 5 + 11) ≤ lo) (hsum : (st.map ac).sum ≤ 8) (ha : a ≠ 0) (hd0 : d ≠ 0) (hk : cpk sp dp n (ln h a) (ln h d)) (hd : decode cc pc = .ok (.invokestatic idx, 3))
    (kk : ∀ h1, Sm x em (f h1) (pc + 3) lv st h1) : Sm x em (lt1 (cpI h a sp.toNat d dp.toNat n.toNat) f) pc lv (vI n :: vI dp :: vR 101 d :: vI sp :: vR 62 a :: st) h :=
  sm_copy (ti := 0) (ts := 62) C D hl hna hsta hini hfr hlo hsum (by omega) rfl ha hd0 hk hd (fun w s H hK hW rp ho => by
      obtain ⟨hp, hkw⟩ := pre_at hW rp (by decide) ha ho
      obtain ⟨cell, t1, t2, t3, t4, t5, t6⟩ := pre_arr (ty := .int) hK.2.2.2 rp (Or.inl ⟨rfl, rfl⟩) hp hkw
      obtain ⟨u1, k0, hk0, cm0, hkk0⟩ := t2
      exact ⟨cell, k0, cm0, t1, u1, t3, hk0, hkk0, t4, fun j hj => by rw [fv_I rfl]; exact t6 j hj⟩) (fun w H rp ho j hj => by rw [fv_I rfl]; rfl) rfl rfl cpI_ne (fun w j => Or.inl ⟨_, fv_I rfl w h a j⟩) (fun w y hy => by rw [fv_I rfl, fv_I rfl, cpI_in hy]) (fun w y hy => by rw [fv_I rfl, fv_I rfl, cpI_out hy])
    (fun w H rp ho hkd y => by
      by_cases hy : dp.toNat ≤ y ∧ y < dp.toNat + n.toNat
      · rw [cpI_in hy]; exact cA.o (rp.2.2.2.2.2.2.2.1 a _).1 (by decide) (by decide) (by decide)
      · rw [cpI_out hy, ← hkd]; exact rp.2.2.2.2.2.2.2.1 d _) (fun w H rp y => rp.2.2.2.2.2.2.2.2.1 d y) (fun y => rfl) kk
theorem sm_callVS (C : Cx x cc own) (D : Cm x fr lo ret nL) {y : MethodName} {bytes : ByteArray} {maxL n fr' lo' idx a : Nat} {rt : Option FieldType} {As sta : List AV} {o : Option AV × Hp} (hm : MC y bytes maxL rt n) (hi : Cond.instanceMethod y ∈ lw_all) (hse : Cond.selects y.cls y y ∈ lw_all) (hc : y.cls = "java/lang/String") (hl : ML own idx y) (hM : ∀ (l : Launch) (w : Wd), Wok w → Ct l w y (ws_ y bytes maxL rt) fr' lo' (vR 64 a :: As) h (.inl o))
    (ha : a ≠ 0) (hn : As.length = n) (hfr : fr' + 1 ≤ fr) (hlo : 8 + (maxL + 11) + lo' ≤ lo) (hsta : sta = As.reverse ++ (vR 64 a :: st)) (hsum : (st.map ac).sum ≤ 8) (hd : decode cc pc = .ok (.invokevirtual idx, 3)) (kk : Sm x em F (pc + 3) lv (o.1.toList ++ st) o.2) : Sm x em F pc lv sta h := by
  refine sm_call (As := vR 64 a :: As) C ?_ (fun v hv => by rw [hsta]; exact List.mem_append_right _ (List.mem_cons_of_mem _ hv)) kk
  intro p l e R s m args below meth c nL' w h0 H locs ls cells slots hxe Cx0 rp hok hls hc1 hc2
  subst hxe
  obtain ⟨hx, hb, hml, hown, hts, hK, hW, hlk, hr1, hr2, rp0, hlt⟩ := Cx0
  have D1 : R.frames = fr := D.1
  have D2 : R.locals = lo := D.2.1
  have hstk : (F0 m pc ls (sta.map (rv (wM w)))).stack = (As.map (rv (wM w))).reverse ++ .ref (wM w a) :: st.map (rv (wM w)) := by
    show sta.map (rv (wM w)) = _
    rw [hsta, List.map_append, List.map_reverse, List.map_cons, rv_nz _ ha]
  have hw8 : 2 * (F0 m pc ls (sta.map (rv (wM w)))).monitorRoom + ((st.map (rv (wM w))).map fun v => v.category).sum ≤ 8 := lv_room (by rw [ac_sum]; exact hsum)
  have hoka : okv h (vR 64 a) := hok _ (by rw [hsta]; exact List.mem_append_right _ List.mem_cons_self)
  have hok2 : ∀ b ∈ (vR 64 a :: As), okv h b := ok_c hoka (fun b hb => hok b (by rw [hsta]; exact List.mem_append_left _ (List.mem_reverse.mpr hb)))
  obtain ⟨hp, hkw⟩ := pre_at hW rp (by decide) ha hoka
  obtain ⟨cell, q1, q2, q3, -⟩ := (hK.2.2.2.2.2.1 a hp hkw).2.2.kept (H1 := H) (fun a _ hA => rp.2.2.2.1 a (Nat.not_le.mp hA))
  have hpre : PreV s H y.cls (wM w a) (Pcc w (vR 64 a :: As) h) (As.map (rv (wM w))) := ⟨Pcc.blind _ _ _, ⟨cell, q1, q2, by rw [hc]; exact q3⟩, fun U hU hW2 => by
    have := Pcc.pre rp hK hok2 U hU hW2
    rw [List.map_cons, rv_nz _ ha] at this
    exact this⟩
  have hfin : ∀ r, va_Run p l e R s m args below meth c H locs cells slots (CN - hN h) (CZ - hZ h) (F0 m pc ls (sta.map (rv (wM w)))) (st.map (rv (wM w))) (Qcc w h o r) (fun q => wB w ≤ q) → va_Run p l e R s m args below meth c H locs cells slots (CN - hN h) (CZ - hZ h) (F0 m pc ls (sta.map (rv (wM w)))) (st.map (rv (wM w))) (Qcc w h o ((vR 64 a :: As).map (rv (wM w))).toArray) (fun q => wB w ≤ q) := fun r hh => hh
  rcases hl with hl | ⟨host, hl⟩
  · exact hfin _ (va_runV (n := n) ⟨hx, hb, hml, hown, hts⟩ (hM l w hW hlt) (cwV n hts (lw_V hl hi hse hm.2.1 hm.1) rfl rfl rfl ⟨rfl, hm.2.2⟩ ⟨by rw [D1]; exact hfr, by rw [D2]; exact hlo⟩) hpre rfl (by rw [List.length_map]; exact hn) hls hstk hw8 hd ⟨hc1, hc2⟩)
  · exact hfin _ (va_runVN (n := n) ⟨hx, hb, hml, hown, hts⟩ (hM l w hW hlt) ⟨va_cnB n hts (lw_meth hm.1) rfl rfl rfl (hK.2.2.1 _ hl rfl) (hts _ hm.2.1) hm.2.2 ⟨by rw [D1]; exact hfr, by rw [D2]; exact hlo⟩, hts _ hi, hts _ hse⟩ hpre rfl (by rw [List.length_map]; exact hn) hls hstk hw8 hd ⟨hc1, hc2⟩)
theorem sm_bret (C : Cx x cc own) (D : Cm x fr lo (some .byte) nL) {v : Int} (hv : i8 v = v) (hd : decode cc pc = .ok (.ireturn, 1)) : Sm x xI (some (v, h)) pc lv [vI v] h :=
  sm_ret C rfl rfl (fun p l e R s m args below meth c ρ H locs ls cells slots Qc free hx hb hlk hr hs hq hf => W.zret hx hb (hr.trans D.2.2.1) (by rw [nar_b, hv]) hq hf hd hlk)
theorem of32_ch {v : Int} : (Int32.ofInt v).toUInt32.toUInt16.toUInt32.toInt32 = Int32.ofInt (v % 65536) := by
  refine Int32.toBitVec_inj.mp (BitVec.eq_of_toNat_eq ?_)
  show (((BitVec.ofInt 32 v).setWidth 16).setWidth 32).toNat = (BitVec.ofInt 32 (v % 65536)).toNat
  rw [BitVec.toNat_setWidth, BitVec.toNat_setWidth, BitVec.toNat_ofInt, BitVec.toNat_ofInt]
  simp only [show ((2 ^ 32 : Nat) : Int) = 4294967296 from rfl, show (2 ^ 32 : Nat) = 4294967296 from rfl, show (2 ^ 16 : Nat) = 65536 from rfl]
  omega
theorem nar_c {v : Int} (hv : 0 ≤ v ∧ v < 65536) : narrow .char (.int (Int32.ofInt v)) = .int (Int32.ofInt v) := by
  have e : v % 65536 = v := by omega
  have := of32_ch (v := v)
  rw [e] at this
  exact congrArg Value.int this
theorem sm_cret (C : Cx x cc own) (D : Cm x fr lo (some .char) nL) {v : Int} (hv : 0 ≤ v ∧ v < 65536) (hd : decode cc pc = .ok (.ireturn, 1)) : Sm x xI (some (v, h)) pc lv [vI v] h :=
  sm_ret C rfl rfl (fun p l e R s m args below meth c ρ H locs ls cells slots Qc free hx hb hlk hr hs hq hf => W.zret hx hb (hr.trans D.2.2.1) (nar_c hv) hq hf hd hlk)
theorem sm_i2c (C : Cx x cc own) {a : Int} (hd : decode cc pc = .ok (.i2c, 1)) (k : Sm x em F (pc + 1) lv (vI (a % 65536) :: st) h) : Sm x em F pc lv (vI a :: st) h :=
  sm_s C k (fun hs => ok_c (show c32 _ by unfold c32; omega) (ok_t hs)) (fun p l e R s m args below meth c ρ H locs ls cells slots Q hx hb ho ht hs kk => lv_i2c hx hb hd of32_ch kk)
end
