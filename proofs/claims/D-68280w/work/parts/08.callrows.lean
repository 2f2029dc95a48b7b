/-! ROWS: references in arrays, new cells, returns, contracts and calls -/
def Cm (x : Ctx) (fr lo : Nat) (ret : Option FieldType) (nL : Nat) : Prop := x.2.2.2.1.frames = fr ∧ x.2.2.2.1.locals = lo ∧ x.2.2.2.2.2.2.2.2.1.sig.returnType = ret ∧ x.2.2.2.2.2.2.2.2.2.2.1 = nL
theorem Cm.n {x : Ctx} {fr lo nL : Nat} {ret : Option FieldType} (D : Cm x fr lo ret nL) : x.2.2.2.2.2.2.2.2.2.2.1 = nL := D.2.2.2
def rmC (fr lo : Nat) (h0 : Hp) : Room := { frames := fr, cells := CN - hN h0, slots := CZ - hZ h0, locals := lo }
def Pcc (w : Wd) (As : List AV) (h0 : Hp) : Array Value → State → Prop := fun v U => v = (As.map (rv (wM w))).toArray ∧ Rp w h0 U.heap ∧ KW w U ∧ ∀ a ∈ As, okv h0 a
/-- the contract of a method: called with these arguments at this heap it returns that answer with that heap -/
def Ct (l : Launch) (w : Wd) (y : MethodName) (ws : List Cond) (fr lo : Nat) (As : List AV) (h0 : Hp) (o : Xo) : Prop := l.stackTraces = false → MetFree l y (headSpec ws (rmC fr lo h0)) (Pcc w As h0) (fun _ _ _ _ _ => True) (QX w h0 o)
theorem Pcc.blind (w : Wd) (As : List AV) (h0 : Hp) : FrameBlind (Pcc w As h0) := fun _ U g mk hp => ⟨hp.1, hp.2.1, KW.same (s := U) (U := U.calling g mk _) rfl hp.2.2.1, hp.2.2.2⟩
def lva (As : List AV) (i : Nat) : List (Nat × AV) := match As with
  | [] => []
  | v :: t => (i, v) :: lva t (match isJ v with | true => i + 2 | false => i + 1)
theorem lva_args (ρ : Nat → Nat) : ∀ (As : List AV) (i : Nat), lv_args i (As.map (rv ρ)) = (lva As i).map (fun q => (q.1, rv ρ q.2))
  | [], i => rfl
  | v :: t, i => by
    show (i, rv ρ v) :: lv_args _ (t.map (rv ρ)) = _
    rw [lva_args ρ t]
    show _ = (i, rv ρ v) :: (lva t _).map _
    cases hj : isJ v with
    | true => rw [if_pos (cat_j ρ hj)]
    | false => rw [if_neg (by rw [cat_i ρ hj]; decide)]
theorem lva_ok {h : Hp} : ∀ (As : List AV) (i : Nat), (∀ a ∈ As, okv h a) → ∀ q ∈ lva As i, okv h q.2
  | [], i, _, q, hq => by cases hq
  | v :: t, i, ha, q, hq => by
    rcases List.mem_cons.mp hq with e | e
    · rw [e]; exact ok_h ha
    · exact lva_ok t _ (ok_t ha) q e
def ac (v : AV) : Nat := match isJ v with
  | true => 2
  | false => 1
theorem ac_cat (ρ : Nat → Nat) (v : AV) : (rv ρ v).category = ac v := by
  unfold ac
  cases hj : isJ v with
  | true => exact cat_j ρ hj
  | false => exact cat_i ρ hj
theorem ac_sum (ρ : Nat → Nat) : ∀ st : List AV, ((st.map (rv ρ)).map fun v => v.category).sum = (st.map ac).sum
  | [] => rfl
  | v :: t => by
    show (rv ρ v).category + ((t.map (rv ρ)).map fun v => v.category).sum = ac v + (t.map ac).sum
    rw [ac_sum ρ t, ac_cat]
theorem sl_len (ρ : Nat → Nat) : ∀ st : List AV, (lg_sl (st.map (rv ρ))).length = (st.map ac).sum
  | [] => rfl
  | v :: t => by
    have ih := sl_len ρ t
    show _ = ac v + (t.map ac).sum
    rw [← ih]
    cases hj : isJ v with
    | true =>
      have e : ac v = 2 := by unfold ac; rw [hj]
      rw [e]
      match v, hj with
      | .inr (.inl y), _ => simp [lg_sl, rv, Value.category]; omega
    | false =>
      have e : ac v = 1 := by unfold ac; rw [hj]
      rw [e]
      have hc := cat_i ρ hj
      simp [lg_sl, hc]; omega
/-- the table of handlers -/
def Ce (x : Ctx) (tb : List (Nat × Nat × Nat × Nat)) : Prop := x.2.2.2.2.2.2.2.2.2.1.exceptionTable.toList.map (fun h => (h.startPc, h.endPc, h.handlerPc, h.catchType)) = tb
/-- the body's run from the entry, nothing written yet -/
def S0 (x : Ctx) (o : Xo) (lv : List (Nat × AV)) : Prop := match x with
  | (p, l, e, R, s, m, args, below, meth, c, nL, w, h0) => ∀ ls : Array Slot, lv_has ls nL (lvm w lv) → (∀ q ∈ lv, okv h0 q.2) → W p l e R s m args below meth c s.heap [] 0 0 (FinQ (p, l, e, R, s, m, args, below, meth, c, nL, w, h0) o) (F0 m 0 ls [])
/-- a contract out of the run of the body -/
theorem ct_gen0 {l : Launch} {w : Wd} {y : MethodName} {cc : ByteArray} {maxL fr lo : Nat} {ret : Option FieldType} {As : List AV} {h0 : Hp} {o : Xo} {cw : Cond} {tb : List (Nat × Nat × Nat × Nat)}
    (hcw : ∀ (args : Array Value) (s : State) (m : MethodId), cw.before args s = true → s.methodNamed? y = some m → ∃ meth c, s.vm.method? m = some meth ∧ meth.code = some c ∧ c.code = cc ∧ c.maxLocals = maxL ∧ meth.sig.returnType = ret ∧ meth.locks = false ∧ c.exceptionTable.toList.map (fun h => (h.startPc, h.endPc, h.handlerPc, h.catchType)) = tb)
    (hW : Wok w) (hy : plainName y.cls = true) (hsl : (As.map ac).sum ≤ maxL)
    (body : ∀ x : Ctx, Cx x cc y.cls → Cm x fr lo ret maxL → Ce x tb → x.2.2.2.2.2.2.2.2.1.name = y.name → x.2.1 = l → x.2.2.2.2.2.2.2.2.2.2.2.1 = w → x.2.2.2.2.2.2.2.2.2.2.2.2 = h0 → S0 x o (lva As 0)) : Ct l w y (cw :: lw_all) fr lo As h0 o := by
  intro hlt
  refine MetFree.of_bodyS (code := cc) (maxLocals := maxL) (ret := ret) hy ?_ ?_
  · intro args s m h hn
    obtain ⟨meth, c, h1, h2, h3, h4, h5, h6, -⟩ := hcw args s m (atoms_spec (ws := cw :: lw_all) h _ List.mem_cons_self) hn
    exact ⟨meth, c, h1, h2, h3, h4, h5, h6⟩
  intro p e s m args below meth c s₁ B hml hv _
  have hs1 : s₁.heap = s.heap := by rw [B.state]; rfl
  obtain ⟨rfl, rp, hK, hok⟩ := hv
  have hts := atoms_spec (ws := cw :: lw_all) B.pre
  have htab : c.exceptionTable.toList.map (fun h => (h.startPc, h.endPc, h.handlerPc, h.catchType)) = tb := by
    obtain ⟨meth', c', h1, h2, -, -, -, -, h7⟩ := hcw _ s m (hts _ List.mem_cons_self) B.named
    cases B.method.symm.trans h1
    cases (Stand.of_body B).code.symm.trans h2
    exact h7
  have hts : ∀ w ∈ lw_all, w.before _ s = true := fun w h => hts w (List.mem_cons_of_mem _ h)
  have hown : s.vm.findClass y.cls = some m.cls := findClass_of_methodNamed B.named
  have hn : meth.name = y.name := (name_of_methodNamed B.named B.method).1
  have h1 : hN h0 ≤ CN := rp.2.2.2.2.2.2.2.2.2.2.1
  have h2 : hZ h0 ≤ CZ := rp.2.2.2.2.2.2.2.2.2.2.2.1
  have k := body (p, l, e, rmC fr lo h0, s, m, (As.map (rv (wM w))).toArray, below, meth, c, maxL, w, h0) ⟨B.exec, B.bytes, hml, hown, hts, hK, hW, B.notSynchronized, (by show CN - hN h0 + hN h0 = CN; omega), (by show CZ - hZ h0 + hZ h0 = CZ; omega), rp, hlt⟩ ⟨rfl, rfl, B.returns, rfl⟩ htab hn rfl rfl rfl
  have hl := lv_entry (As.map (rv (wM w))) (n := maxL) (by rw [sl_len]; exact hsl)
  have key : W p l e (rmC fr lo h0) s m (As.map (rv (wM w))).toArray below meth c s.heap [] 0 0 (FinQ (p, l, e, rmC fr lo h0, s, m, (As.map (rv (wM w))).toArray, below, meth, c, maxL, w, h0) o) (entryFrame m (As.map (rv (wM w))).toArray maxL) := by
    rw [lg_entry_eq]
    generalize (lg_sl (As.map (rv (wM w))) ++ List.replicate (maxL - (lg_sl (As.map (rv (wM w)))).length) Slot.unset).toArray = ls at hl ⊢
    rw [lva_args] at hl
    exact k ls hl (lva_ok As 0 hok)
  obtain ⟨t, a1, oc, b1, b2, b3⟩ := key s₁ hs1 (Stand.of_body B)
  exact ⟨t, oc, a1, b1, b2, b3⟩
theorem ct_gen {l : Launch} {w : Wd} {y : MethodName} {cc : ByteArray} {maxL fr lo : Nat} {ret : Option FieldType} {As : List AV} {h0 : Hp} {β : Type} {em : β → Xo} {F : Option β} {o : β} {cw : Cond} {tb : List (Nat × Nat × Nat × Nat)}
    (hcw : ∀ (args : Array Value) (s : State) (m : MethodId), cw.before args s = true → s.methodNamed? y = some m → ∃ meth c, s.vm.method? m = some meth ∧ meth.code = some c ∧ c.code = cc ∧ c.maxLocals = maxL ∧ meth.sig.returnType = ret ∧ meth.locks = false ∧ c.exceptionTable.toList.map (fun h => (h.startPc, h.endPc, h.handlerPc, h.catchType)) = tb)
    (hW : Wok w) (hy : plainName y.cls = true) (hsl : (As.map ac).sum ≤ maxL) (hF : F = some o)
    (body : ∀ x : Ctx, Cx x cc y.cls → Cm x fr lo ret maxL → Ce x tb → x.2.2.2.2.2.2.2.2.1.name = y.name → x.2.1 = l → x.2.2.2.2.2.2.2.2.2.2.2.1 = w → Sm x em F 0 (lva As 0) [] h0) : Ct l w y (cw :: lw_all) fr lo As h0 (em o) := by
  subst hF
  refine ct_gen0 hcw hW hy hsl (fun x C D E hn hl hw hh => ?_)
  have k := body x C D E hn hl hw o rfl
  obtain ⟨p, l, e, R, s, m, args, below, meth, c, nL, w', h0'⟩ := x
  cases hh
  obtain ⟨hx, hb, hml, hown, hts, hK, hW', hlk, hc1, hc2, rp0, hlt⟩ := C
  intro ls hl2 hok
  have k2 := k s.heap [] ls rp0 Ext.rf hok ok_nil (fun q hq => by cases hq) hl2
  rw [Nat.sub_self, Nat.sub_self] at k2
  exact k2
theorem tb_nil {c : Code} (h : c.exceptionTable.isEmpty = true) : c.exceptionTable.toList.map (fun h => (h.startPc, h.endPc, h.handlerPc, h.catchType)) = [] := by
  have h0 : c.exceptionTable.size = 0 := by simpa [Array.isEmpty] using h
  rw [List.eq_nil_of_length_eq_zero (l := c.exceptionTable.toList) (by simpa using h0)]
  rfl
theorem ct_ofT {l : Launch} {w : Wd} {y : MethodName} {cc : ByteArray} {maxL fr lo : Nat} {ret : Option FieldType} {As : List AV} {h0 : Hp} {β : Type} {em : β → Xo} {F : Option β} {o : β} (hW : Wok w) (hy : plainName y.cls = true) (hsl : (As.map ac).sum ≤ maxL) (hF : F = some o)
    (body : ∀ x : Ctx, Cx x cc y.cls → Cm x fr lo ret maxL → Ce x [] → x.2.2.2.2.2.2.2.2.1.name = y.name → x.2.1 = l → x.2.2.2.2.2.2.2.2.2.2.2.1 = w → Sm x em F 0 (lva As 0) [] h0) : Ct l w y (ws_ y cc maxL ret) fr lo As h0 (em o) :=
  ct_gen (fun args s m h hn => by
    obtain ⟨meth, c, h1, h2, h3, h4, h5, h6, h7, -⟩ := Cond.code_spec hn h
    exact ⟨meth, c, h1, h2, h3, h4, h5, h6, tb_nil h7⟩) hW hy hsl hF body
theorem ct_of {l : Launch} {w : Wd} {y : MethodName} {cc : ByteArray} {maxL fr lo : Nat} {ret : Option FieldType} {As : List AV} {h0 : Hp} {β : Type} {em : β → Xo} {F : Option β} {o : β} (hW : Wok w) (hy : plainName y.cls = true) (hsl : (As.map ac).sum ≤ maxL) (hF : F = some o)
    (body : ∀ x : Ctx, Cx x cc y.cls → Cm x fr lo ret maxL → x.2.2.2.2.2.2.2.2.1.name = y.name → x.2.1 = l → x.2.2.2.2.2.2.2.2.2.2.2.1 = w → Sm x em F 0 (lva As 0) [] h0) : Ct l w y (ws_ y cc maxL ret) fr lo As h0 (em o) :=
  ct_ofT hW hy hsl hF (fun x C D _ => body x C D)
theorem ct_ofW {l : Launch} {w : Wd} {y : MethodName} {cc : ByteArray} {maxL fr lo : Nat} {ret : Option FieldType} {As : List AV} {h0 : Hp} {β : Type} {em : β → Xo} {F : Option β} {o : β} {tb : List (Nat × Nat × Nat × Nat)} (hW : Wok w) (hy : plainName y.cls = true) (hsl : (As.map ac).sum ≤ maxL) (hF : F = some o)
    (body : ∀ x : Ctx, Cx x cc y.cls → Cm x fr lo ret maxL → Ce x tb → x.2.2.2.2.2.2.2.2.1.name = y.name → x.2.1 = l → x.2.2.2.2.2.2.2.2.2.2.2.1 = w → Sm x em F 0 (lva As 0) [] h0) : Ct l w y (Cond.codeWith y cc maxL ret tb :: lw_all) fr lo As h0 (em o) :=
  ct_gen (fun args s m h hn => by
    obtain ⟨m9, meth, c, hn9, h1, h2, h3, h4, h7, h5, h6, -⟩ := Cond.codeWith_spec h
    cases hn.symm.trans hn9
    exact ⟨meth, c, h1, h2, h3, h4, h5, h6, h7⟩) hW hy hsl hF body
section
variable {x : Ctx} {cc : ByteArray} {own : String} {β : Type} {em : β → Xo} {F A B : Option β} {pc fr lo nL : Nat} {ret : Option FieldType} {lv : List (Nat × AV)} {st : List AV} {h : Hp}
theorem sm_ret (C : Cx x cc own) {o : β} {st : List AV} {r : Option AV} (he : em o = .inl (r, h)) (hst : r.toList = st)
    (hw : ∀ (p : Program) (l : Launch) (e : Env) (R : Room) (s : State) (m : MethodId) (args : Array Value) (below : List Frame) (meth : Method) (c : Code) (ρ : Nat → Nat) (H : Heap) (locs : List Loc) (ls : Array Slot) (cells slots : Nat) (Qc : Array Value → State → Outcome → State → Prop) (free : Addr → Prop), p.tables.exec = Jvm.exec → c.code = cc → meth.locks = false → meth.sig.returnType = x.2.2.2.2.2.2.2.2.1.sig.returnType → (∀ v ∈ st, okv h v) →
      (∀ t : State, t.heap = H → s.WarmedH t.vm → Qc args s (.returned (r.map (rv ρ))) t) → (∀ q ∈ locs, free q.base) → W p l e R s m args below meth c H locs cells slots (MQ below Qc args s cells slots free) (F0 m pc ls (st.map (rv ρ)))) : Sm x em (some o) pc lv st h := by
  intro o' hF
  cases hF
  obtain ⟨p, l, e, R, s, m, args, below, meth, c, nL, w, h0⟩ := x
  obtain ⟨hx, hb, hml, hown, hts, hK, hW, hlk, hc1, hc2, rp0, hlt⟩ := C
  intro H locs ls rp hE hl hs hL hv2
  have h1 : hN h ≤ CN := rp.2.2.2.2.2.2.2.2.2.2.1
  have h2 : hZ h ≤ CZ := rp.2.2.2.2.2.2.2.2.2.2.2.1
  refine W.widen (k := CN - hN h0) (n := CZ - hZ h0) (by omega) (by omega) ?_
  rw [he]
  exact hw p l e R s m args below meth c (wM w) H locs ls _ _ (Qcc w h0 (r, h)) (fun q => wB w ≤ q) hx hb hlk rfl hs (fun t ht _ => ⟨rfl, by rw [ht]; exact rp, hE, fun v hv => hs v (by rw [← hst]; exact Option.mem_toList.mpr hv)⟩) hL
theorem sm_iret (C : Cx x cc own) (D : Cm x fr lo (some .int) nL) {v : Int} (hd : decode cc pc = .ok (.ireturn, 1)) : Sm x xI (some (v, h)) pc lv [vI v] h :=
  sm_ret C rfl rfl (fun p l e R s m args below meth c ρ H locs ls cells slots Qc free hx hb hlk hr hs hq hf => W.iret hx hb (hr.trans D.2.2.1) hq hf hd hlk)
theorem sm_zret (C : Cx x cc own) (D : Cm x fr lo (some .boolean) nL) {v : Int} (hv : v = 0 ∨ v = 1) (hd : decode cc pc = .ok (.ireturn, 1)) : Sm x xI (some (v, h)) pc lv [vI v] h :=
  sm_ret C rfl rfl (fun p l e R s m args below meth c ρ H locs ls cells slots Qc free hx hb hlk hr hs hq hf => W.zret hx hb (hr.trans D.2.2.1) (b01 hv ρ).1 hq hf hd hlk)
theorem sm_lret (C : Cx x cc own) (D : Cm x fr lo (some .long) nL) {v : Int} (hd : decode cc pc = .ok (.lreturn, 1)) : Sm x xJ (some (v, h)) pc lv [vJ v] h :=
  sm_ret C rfl rfl (fun p l e R s m args below meth c ρ H locs ls cells slots Qc free hx hb hlk hr hs hq hf => W.lret hx hb (hr.trans D.2.2.1) hq hf hd hlk)
theorem sm_vret (C : Cx x cc own) (D : Cm x fr lo none nL) (hd : decode cc pc = .ok (.return_, 1)) : Sm x xV (some h) pc lv [] h :=
  sm_ret C rfl rfl (fun p l e R s m args below meth c ρ H locs ls cells slots Qc free hx hb hlk hr hs hq hf => W.vret hx hb (hr.trans D.2.2.1) hq hf hd hlk)
theorem sm_aret (C : Cx x cc own) {rt : FieldType} (D : Cm x fr lo (some rt) nL) (hrt : (∃ n, rt = .object n) ∨ ∃ t, rt = .array t) {k v : Nat} (hd : decode cc pc = .ok (.areturn, 1)) : Sm x (xR k) (some (v, h)) pc lv [vR k v] h :=
  sm_ret C rfl rfl (fun p l e R s m args below meth c ρ H locs ls cells slots Qc free hx hb hlk hr hs hq hf => W.aret hx hb (hr.trans D.2.2.1) hrt (rv_ref ρ k v) hq hf hd hlk)
theorem sm_b1 {γ : Type} {g : Option γ} {K : γ → Option β} {pc' : Nat} {lv' : List (Nat × AV)} {st' : List AV} {h' : Hp} (k : ∀ a, g = some a → Sm x em (K a) pc' lv' st' h') : Sm x em (b1 g K) pc' lv' st' h' := by
  intro o hF
  cases hg : g with
  | none => rw [hg] at hF; cases hF
  | some a => rw [hg] at hF; exact k a hg o hF
theorem sm_b2 {γ : Type} {g : Option (γ × Hp)} {K : γ → Hp → Option β} {pc' : Nat} {lv' : List (Nat × AV)} {st' : List AV} {h' : Hp} (k : ∀ r h1, g = some (r, h1) → Sm x em (K r h1) pc' lv' st' h') : Sm x em (b2 g K) pc' lv' st' h' := by
  intro o hF
  cases hg : g with
  | none => rw [hg] at hF; cases hF
  | some a => rw [hg] at hF; exact k a.1 a.2 hg o hF
/-- a call that comes back with o -/
theorem sm_call (C : Cx x cc own) {As sta : List AV} {o : Option AV × Hp}
    (hrun : ∀ (p : Program) (l : Launch) (e : Env) (R : Room) (s : State) (m : MethodId) (args : Array Value) (below : List Frame) (meth : Method) (c : Code) (nL : Nat) (w : Wd) (h0 : Hp) (H : Heap) (locs : List Loc) (ls : Array Slot) (cells slots : Nat), x = (p, l, e, R, s, m, args, below, meth, c, nL, w, h0) → Cx (p, l, e, R, s, m, args, below, meth, c, nL, w, h0) cc own → Rp w h H → (∀ v ∈ sta, okv h v) → ls.size = nL → cells + (CN - hN h) ≤ R.cells → slots + (CZ - hZ h) ≤ R.slots →
      va_Run p l e R s m args below meth c H locs cells slots (CN - hN h) (CZ - hZ h) (F0 m pc ls (sta.map (rv (wM w)))) (st.map (rv (wM w))) (Qcc w h o (As.map (rv (wM w))).toArray) (fun q => wB w ≤ q))
    (hst : ∀ v ∈ st, v ∈ sta) (kk : Sm x em F (pc + 3) lv (o.1.toList ++ st) o.2) : Sm x em F pc lv sta h := by
  intro o' hF
  have kk := kk o' hF
  obtain ⟨p, l, e, R, s, m, args, below, meth, c, nL, w, h0⟩ := x
  have C0 := C
  obtain ⟨hx, hb, hml, hown, hts, hK, hW, hlk, hc1, hc2, rp0, hlt⟩ := C
  intro H locs ls rp hE hl hs hL hv2
  have h1 : hN h ≤ CN := rp.2.2.2.2.2.2.2.2.2.2.1
  have h2 : hZ h ≤ CZ := rp.2.2.2.2.2.2.2.2.2.2.2.1
  have h3 := hE.1
  have h4 := hE.2.1
  have hr := hrun p l e R s m args below meth c nL w h0 H locs ls (hN h - hN h0) (hZ h - hZ h0) rfl C0 rp hs hv2.1 (by omega) (by omega)
  intro T hT X
  obtain ⟨v, st₀, t, T', L, g0, X', hLL, e1, e2, ⟨hq1, hq2, hq3, hq4⟩, go⟩ := hr T hT X
  have hvv : v = o.1.map (rv (wM w)) := by cases hq1; rfl
  subst hvv
  have rp1 : Rp w o.2 T'.heap := by rw [e1]; exact hq2
  have k1 := kk T'.heap (locs ++ L) ls rp1 (hE.tr hq3) (fun q hq => (hl q hq).ext hq3) (fun u hu => by
    rcases List.mem_append.mp hu with z | z
    · exact hq4 u (Option.mem_toList.mp z)
    · exact (hs u (hst u z)).ext hq3) (fun q hq => by
    rcases List.mem_append.mp hq with z | z
    · exact hL q z
    · exact hLL q z) hv2
  have k2 : W p l e R s m args below meth c T'.heap (locs ++ L) (hN h - hN h0 + (CN - hN h)) (hZ h - hZ h0 + (CZ - hZ h)) (FinQ (p, l, e, R, s, m, args, below, meth, c, nL, w, h0) (em o')) (F0 m (pc + 3) ls ((o.1.toList ++ st).map (rv (wM w)))) := by
    refine W.tight ?_ ?_ k1
    · have r1 := rp1.2.1
      have r0 := rp0.2.1
      have r2 := hq3.1
      omega
    · have r1 := rp1.2.2.1
      have r0 := rp0.2.2.1
      have r2 := hq3.2.1
      omega
  obtain ⟨t2, a1, b1⟩ := k2 T' rfl X'
  refine ⟨t2, go t2 ?_, b1⟩
  have e5 : (o.1.toList ++ st).map (rv (wM w)) = (o.1.map (rv (wM w))).toList ++ st.map (rv (wM w)) := by
    rw [List.map_append]; cases o.1 <;> rfl
  rw [e5] at a1
  exact a1
theorem kd_nw (h : Hp) (k len z : Nat) : kd (nwC h k len z) (hN h) = k := by
  unfold kd
  rw [show (nwC h k len z).2.1 (hN h) = (k, len) from if_pos rfl]
theorem ln_nw (h : Hp) (k len z : Nat) : ln (nwC h k len z) (hN h) = len := by
  unfold ln
  rw [show (nwC h k len z).2.1 (hN h) = (k, len) from if_pos rfl]
theorem dv_fv {ty : FieldType} (hf : fk ty ≠ 3) (w : Wd) {h : Hp} {a k : Nat} (z1 : hI h a k = 0) (z2 : hJ h a k = 0) (z3 : hR h a k = 0) : defaultValue ty = fv w h a ty k := by
  cases ty <;> simp only [fv, z1, z2, z3] <;> first | rfl | exact absurd rfl hf
theorem gTy_all : (gTyL.all (fun l => l.all (fun ty => fk ty != 3))) = true := by decide +kernel
theorem gTy_nf (c k : Nat) : fk (gTy c k) ≠ 3 := by
  unfold gTy
  rw [List.getD_eq_getElem?_getD, List.getD_eq_getElem?_getD]
  cases h1 : gTyL[c]? with
  | none => simp [fk]
  | some l =>
    have h2 := List.all_eq_true.mp gTy_all l (List.mem_of_getElem? h1)
    simp only [Option.getD_some]
    cases h3 : l[k]? with
    | none => simp [fk]
    | some ty =>
      have h4 := List.all_eq_true.mp h2 ty (List.mem_of_getElem? h3)
      simpa using h4
/-- a link of the class own to the method y -/
def ML (own : String) (idx : Nat) (y : MethodName) : Prop := (Cond.methodLink own idx y) ∈ lw_all ∨ ∃ host, (Cond.methodLinkNest own idx y host) ∈ lw_tbl
def MC (y : MethodName) (bytes : ByteArray) (maxL : Nat) (rt : Option FieldType) (n : Nat) : Prop := Cond.code y bytes maxL rt ∈ lw_all ∧ Cond.initialized y.cls ∈ lw_all ∧ (y.cls ≠ "java/lang/invoke/MethodHandle" ∧ y.cls ≠ "java/lang/invoke/VarHandle" ∧ (parseMethodDescriptor y.desc).map (fun d => d.parameters.length) = some n)
theorem Pcc.pre {w : Wd} {As : List AV} {h : Hp} {H : Heap} {s : State} (rp : Rp w h H) (hK : KW w s) (hok : ∀ a ∈ As, okv h a) (U : State) (hU : U.heap = H) (hW : s.WarmedH U.vm) : Pcc w As h (As.map (rv (wM w))).toArray U := ⟨rfl, by rw [hU]; exact rp, hK.warm hW, hok⟩
theorem sm_callS (C : Cx x cc own) (D : Cm x fr lo ret nL) {y : MethodName} {bytes : ByteArray} {maxL n fr' lo' idx : Nat} {rt : Option FieldType} {As sta : List AV} {o : Option AV × Hp} (hm : MC y bytes maxL rt n) (hs : Cond.static y ∈ lw_all) (hl : ML own idx y) (hM : ∀ (l : Launch) (w : Wd), Wok w → Ct l w y (ws_ y bytes maxL rt) fr' lo' As h (.inl o))
    (hn : As.length = n) (hfr : fr' + 1 ≤ fr) (hlo : 8 + (maxL + 11) + lo' ≤ lo) (hsta : sta = As.reverse ++ st) (hsum : (st.map ac).sum ≤ 8) (hd : decode cc pc = .ok (.invokestatic idx, 3)) (kk : Sm x em F (pc + 3) lv (o.1.toList ++ st) o.2) : Sm x em F pc lv sta h := by
  refine sm_call (As := As) C ?_ (fun v hv => by rw [hsta]; exact List.mem_append_right _ hv) kk
  intro p l e R s m args below meth c nL' w h0 H locs ls cells slots hxe Cx0 rp hok hls hc1 hc2
  subst hxe
  obtain ⟨hx, hb, hml, hown, hts, hK, hW, hlk, hr1, hr2, rp0, hlt⟩ := Cx0
  have D1 : R.frames = fr := D.1
  have D2 : R.locals = lo := D.2.1
  have hstk : (F0 m pc ls (sta.map (rv (wM w)))).stack = (As.map (rv (wM w))).reverse ++ st.map (rv (wM w)) := by
    show sta.map (rv (wM w)) = _
    rw [hsta, List.map_append, List.map_reverse]
  have hw8 : 2 * (F0 m pc ls (sta.map (rv (wM w)))).monitorRoom + ((st.map (rv (wM w))).map fun v => v.category).sum ≤ 8 := lv_room (by rw [ac_sum]; exact hsum)
  have hok2 : ∀ a ∈ As, okv h a := fun a ha => hok a (by rw [hsta]; exact List.mem_append_left _ (List.mem_reverse.mpr ha))
  rcases hl with hl | ⟨host, hl⟩
  · exact va_runS (n := n) ⟨hx, hb, hml, hown, hts⟩ (hM l w hW hlt) (va_cwS n hts (lw_S hl hs hm.2.1 hm.1) rfl rfl rfl hm.2.2 ⟨by rw [D1]; exact hfr, by rw [D2]; exact hlo⟩) ⟨Pcc.blind _ _ _, Pcc.pre rp hK hok2⟩ rfl (by rw [List.length_map]; exact hn) hls hstk hw8 hd ⟨hc1, hc2⟩
  · exact va_runSN (n := n) ⟨hx, hb, hml, hown, hts⟩ (hM l w hW hlt) ⟨va_cnB n hts (lw_meth hm.1) rfl rfl rfl (hK.2.2.1 _ hl rfl) (hts _ hm.2.1) hm.2.2 ⟨by rw [D1]; exact hfr, by rw [D2]; exact hlo⟩, hts _ hs, trivial⟩ ⟨Pcc.blind _ _ _, Pcc.pre rp hK hok2⟩ rfl (by rw [List.length_map]; exact hn) hls hstk hw8 hd ⟨hc1, hc2⟩
theorem sm_callV (C : Cx x cc own) (D : Cm x fr lo ret nL) {y : MethodName} {bytes : ByteArray} {maxL n fr' lo' idx ci a : Nat} {rt : Option FieldType} {As sta : List AV} {o : Option AV × Hp} (hm : MC y bytes maxL rt n) (hi : Cond.instanceMethod y ∈ lw_all) (hse : Cond.selects y.cls y y ∈ lw_all) (hc : ∃ q : vw_C, gCL[ci]? = some q ∧ q.1 = y.cls ∧ ci < 60) (hl : ML own idx y) (hM : ∀ (l : Launch) (w : Wd), Wok w → Ct l w y (ws_ y bytes maxL rt) fr' lo' (vR (ci + 1) a :: As) h (.inl o))
    (ha : a ≠ 0) (hn : As.length = n) (hfr : fr' + 1 ≤ fr) (hlo : 8 + (maxL + 11) + lo' ≤ lo) (hsta : sta = As.reverse ++ (vR (ci + 1) a :: st)) (hsum : (st.map ac).sum ≤ 8) (hd : decode cc pc = .ok (.invokevirtual idx, 3)) (kk : Sm x em F (pc + 3) lv (o.1.toList ++ st) o.2) : Sm x em F pc lv sta h := by
  refine sm_call (As := vR (ci + 1) a :: As) C ?_ (fun v hv => by rw [hsta]; exact List.mem_append_right _ (List.mem_cons_of_mem _ hv)) kk
  intro p l e R s m args below meth c nL' w h0 H locs ls cells slots hxe Cx0 rp hok hls hc1 hc2
  subst hxe
  obtain ⟨hx, hb, hml, hown, hts, hK, hW, hlk, hr1, hr2, rp0, hlt⟩ := Cx0
  have D1 : R.frames = fr := D.1
  have D2 : R.locals = lo := D.2.1
  have hstk : (F0 m pc ls (sta.map (rv (wM w)))).stack = (As.map (rv (wM w))).reverse ++ .ref (wM w a) :: st.map (rv (wM w)) := by
    show sta.map (rv (wM w)) = _
    rw [hsta, List.map_append, List.map_reverse, List.map_cons, rv_nz _ ha]
  have hw8 : 2 * (F0 m pc ls (sta.map (rv (wM w)))).monitorRoom + ((st.map (rv (wM w))).map fun v => v.category).sum ≤ 8 := lv_room (by rw [ac_sum]; exact hsum)
  have hoka : okv h (vR (ci + 1) a) := hok _ (by rw [hsta]; exact List.mem_append_right _ List.mem_cons_self)
  have hok2 : ∀ b ∈ (vR (ci + 1) a :: As), okv h b := ok_c hoka (fun b hb => hok b (by rw [hsta]; exact List.mem_append_left _ (List.mem_reverse.mpr hb)))
  have hka : kd h a = ci + 1 ∧ a < hN h := Or.resolve_left hoka ha
  obtain ⟨q, hq, hqn, hci⟩ := hc
  obtain ⟨hp, q', hq', cell, q1, q2, q3, q4⟩ := rp.obj hW hka.1 hci hka.2
  cases hq.symm.trans hq'
  obtain ⟨hS, hfc, -⟩ := hK.1 ci _ hq
  have hpre : PreV s H y.cls (wM w a) (Pcc w (vR (ci + 1) a :: As) h) (As.map (rv (wM w))) := ⟨Pcc.blind _ _ _, ⟨cell, q1, by rw [q3]; rfl, by rw [q2, ← hqn]; exact hfc⟩, fun U hU hW2 => by
    have := Pcc.pre rp hK hok2 U hU hW2
    rw [List.map_cons, rv_nz _ ha] at this
    exact this⟩
  have hfin : ∀ r, va_Run p l e R s m args below meth c H locs cells slots (CN - hN h) (CZ - hZ h) (F0 m pc ls (sta.map (rv (wM w)))) (st.map (rv (wM w))) (Qcc w h o r) (fun q => wB w ≤ q) → va_Run p l e R s m args below meth c H locs cells slots (CN - hN h) (CZ - hZ h) (F0 m pc ls (sta.map (rv (wM w)))) (st.map (rv (wM w))) (Qcc w h o ((vR (ci + 1) a :: As).map (rv (wM w))).toArray) (fun q => wB w ≤ q) := fun r hh => hh
  rcases hl with hl | ⟨host, hl⟩
  · exact hfin _ (va_runV (n := n) ⟨hx, hb, hml, hown, hts⟩ (hM l w hW hlt) (cwV n hts (lw_V hl hi hse hm.2.1 hm.1) rfl rfl rfl ⟨rfl, hm.2.2⟩ ⟨by rw [D1]; exact hfr, by rw [D2]; exact hlo⟩) hpre rfl (by rw [List.length_map]; exact hn) hls hstk hw8 hd ⟨hc1, hc2⟩)
  · exact hfin _ (va_runVN (n := n) ⟨hx, hb, hml, hown, hts⟩ (hM l w hW hlt) ⟨va_cnB n hts (lw_meth hm.1) rfl rfl rfl (hK.2.2.1 _ hl rfl) (hts _ hm.2.1) hm.2.2 ⟨by rw [D1]; exact hfr, by rw [D2]; exact hlo⟩, hts _ hi, hts _ hse⟩ hpre rfl (by rw [List.length_map]; exact hn) hls hstk hw8 hd ⟨hc1, hc2⟩)
theorem sm_callN (C : Cx x cc own) (D : Cm x fr lo ret nL) {y : MethodName} {bytes : ByteArray} {maxL n fr' lo' idx ci a : Nat} {As sta : List AV} {o : Option AV × Hp} (hm : MC y bytes maxL none n) (hi : Cond.instanceMethod y ∈ lw_all) (hy : y.name = "<init>") (hl : ML own idx y) (hM : ∀ (l : Launch) (w : Wd), Wok w → Ct l w y (ws_ y bytes maxL none) fr' lo' (vR (ci + 1) a :: As) h (.inl o))
    (ha : a ≠ 0) (hn : As.length = n) (hfr : fr' + 1 ≤ fr) (hlo : 8 + (maxL + 11) + lo' ≤ lo) (hsta : sta = As.reverse ++ (vR (ci + 1) a :: st)) (hsum : (st.map ac).sum ≤ 8) (hd : decode cc pc = .ok (.invokespecial idx, 3)) (kk : Sm x em F (pc + 3) lv (o.1.toList ++ st) o.2) : Sm x em F pc lv sta h := by
  refine sm_call (As := vR (ci + 1) a :: As) C ?_ (fun v hv => by rw [hsta]; exact List.mem_append_right _ (List.mem_cons_of_mem _ hv)) kk
  intro p l e R s m args below meth c nL' w h0 H locs ls cells slots hxe Cx0 rp hok hls hc1 hc2
  subst hxe
  obtain ⟨hx, hb, hml, hown, hts, hK, hW, hlk, hr1, hr2, rp0, hlt⟩ := Cx0
  have D1 : R.frames = fr := D.1
  have D2 : R.locals = lo := D.2.1
  have hstk : (F0 m pc ls (sta.map (rv (wM w)))).stack = (As.map (rv (wM w))).reverse ++ .ref (wM w a) :: st.map (rv (wM w)) := by
    show sta.map (rv (wM w)) = _
    rw [hsta, List.map_append, List.map_reverse, List.map_cons, rv_nz _ ha]
  have hw8 : 2 * (F0 m pc ls (sta.map (rv (wM w)))).monitorRoom + ((st.map (rv (wM w))).map fun v => v.category).sum ≤ 8 := lv_room (by rw [ac_sum]; exact hsum)
  have hoka : okv h (vR (ci + 1) a) := hok _ (by rw [hsta]; exact List.mem_append_right _ List.mem_cons_self)
  have hok2 : ∀ b ∈ (vR (ci + 1) a :: As), okv h b := ok_c hoka (fun b hb => hok b (by rw [hsta]; exact List.mem_append_left _ (List.mem_reverse.mpr hb)))
  have hpre : PreS s H (Pcc w (vR (ci + 1) a :: As) h) (.ref (wM w a) :: As.map (rv (wM w))) := ⟨Pcc.blind _ _ _, fun U hU hW2 => by
    have := Pcc.pre rp hK hok2 U hU hW2
    rw [List.map_cons, rv_nz _ ha] at this
    exact this⟩
  have hfin : ∀ r, va_Run p l e R s m args below meth c H locs cells slots (CN - hN h) (CZ - hZ h) (F0 m pc ls (sta.map (rv (wM w)))) (st.map (rv (wM w))) (Qcc w h o r) (fun q => wB w ≤ q) → va_Run p l e R s m args below meth c H locs cells slots (CN - hN h) (CZ - hZ h) (F0 m pc ls (sta.map (rv (wM w)))) (st.map (rv (wM w))) (Qcc w h o ((vR (ci + 1) a :: As).map (rv (wM w))).toArray) (fun q => wB w ≤ q) := fun r hh => hh
  rcases hl with hl | ⟨host, hl⟩
  · exact hfin _ (va_runI (n := n) ⟨hx, hb, hml, hown, hts⟩ (hM l w hW hlt) (cwI n hts (lw_meth hm.1) rfl rfl rfl (hts _ hm.2.1) (hts _ hl) (hts _ hi) hy hm.2.2 ⟨by rw [D1]; exact hfr, by rw [D2]; exact hlo⟩) hpre rfl (by rw [List.length_map]; exact hn) hls hstk hw8 hd ⟨hc1, hc2⟩)
  · exact hfin _ (va_runIN (n := n) ⟨hx, hb, hml, hown, hts⟩ (hM l w hW hlt) ⟨va_cnB n hts (lw_meth hm.1) rfl rfl rfl (hK.2.2.1 _ hl rfl) (hts _ hm.2.1) hm.2.2 ⟨by rw [D1]; exact hfr, by rw [D2]; exact hlo⟩, hy, hts _ hi⟩ hpre rfl (by rw [List.length_map]; exact hn) hls hstk hw8 hd ⟨hc1, hc2⟩)
theorem sm_objInit (C : Cx x cc own) (D : Cm x fr lo ret nL) {idx ci a : Nat} (hl : (Cond.methodLink own idx Lib.objectInit) ∈ lw_all) (h2 : Cond.instanceMethod Lib.objectInit ∈ lw_all) (h3 : Cond.code Lib.objectInit ⟨#[0xb1]⟩ 1 none ∈ lw_all) (ha : a ≠ 0) (hfr : 1 ≤ fr) (hlo : 20 ≤ lo) (hsum : (st.map ac).sum ≤ 8) (hd : decode cc pc = .ok (.invokespecial idx, 3)) (kk : Sm x em F (pc + 3) lv st h) : Sm x em F pc lv (vR ci a :: st) h := by
  intro o hF
  have kk := kk o hF
  obtain ⟨p, l, e, R, s, m, args, below, meth, c, nL', w, h0⟩ := x
  obtain ⟨hx, hb, hml, hown, hts, hK, hW, -⟩ := C
  have D1 : R.frames = fr := D.1
  have D2 : R.locals = lo := D.2.1
  intro H locs ls rp hE hl2 hs hL hv2
  show W p l e R s m args below meth c H locs _ _ _ (F0 m pc ls (rv (wM w) (vR ci a) :: st.map (rv (wM w))))
  rw [rv_nz _ ha]
  refine W.objInit hx hb hown (hts _ hl) (hts _ h2) (hts _ h3) rfl (by rw [hml]; exact hv2.1) rfl hd (by rw [D1]; exact hfr) ?_ (kk H locs ls rp hE hl2 (ok_t hs) hL hv2)
  have := ac_sum (wM w) st
  show 2 * 0 + ((st.map (rv (wM w))).map fun v => v.category).sum + 12 ≤ R.locals
  omega
/-- new of a class -/
theorem sm_new (C : Cx x cc own) {idx ci z : Nat} {q : vw_C} {f : Hp → Option β} (hq : gCL[ci]? = some q) (hci : ci < 60) (hl : (Cond.classLink own idx q.1) ∈ lw_all) (h2 : (Cond.instantiable q.1 z) ∈ lw_all) (h3 : (Cond.initialized q.1) ∈ lw_all) (hn : hN h + 1 ≤ CN ∧ hZ h + z ≤ CZ) (hd : decode cc pc = .ok (.new idx, 3)) (kk : ∀ h1, hN h ≠ 0 → Sm x em (f h1) (pc + 3) lv (vR (ci + 1) (hN h) :: st) h1) : Sm x em (lt1 (nwC h (ci + 1) 0 z) f) pc lv st h := by
  intro o hF
  obtain ⟨p, l, e, R, s, m, args, below, meth, c, nL', w, h0⟩ := x
  obtain ⟨hx, hb, hml, hown, hts, hK, hW, hlk, hc1, hc2, rp0, hlt⟩ := C
  intro H locs ls rp hE hl2 hs hL hv2
  have g1 := hE.1
  have g2 := hE.2.1
  have hp : PN1 ≤ hN h := rp.1
  have hEx : Ext h (nwC h (ci + 1) 0 z) := Ext.nw _ _ _
  obtain ⟨hS, hfc, kC0, hkC0, hkind⟩ := hK.1 ci _ hq
  have hM := hW.1 (hN h) hp
  have hsz := rp.2.1
  have hadr : wM w (hN h) = H.size := by omega
  have hne : hN h ≠ 0 := by unfold PN1 at hp; omega
  have kk := kk _ hne o hF
  have hcz : kC0.instanceTypes.size = z := by
    obtain ⟨c2, k2, r1, r2, r3, -, r4⟩ := Cond.instantiable_spec (hts _ h2)
    cases hfc.symm.trans r1
    cases hkC0.symm.trans r2
    exact r4.2
  refine W.newcK hx hb hown (hts _ hl) (hts _ h2) (hts _ h3) rfl hd (by omega) (by omega) hfc (h := H.size) rfl (fun H' kC hkC e1 e2 e3 => ?_)
  cases hkC0.symm.trans hkC
  have hcell : t_OB H.size ((wD w).1 ci) q.2.2 ((wD w).2 ci) H' (fun k => defaultValue (gTy ci k)) := u_born (gTy ci) hts (gIn hq) (hK.1 ci _ hq) hkC e1 (gTk hq)
  have rp1 : Rp w (nwC h (ci + 1) 0 z) H' := by
    refine rp.nw hW e1 e2 e3 (by simp [blank, hcz]) (Or.inl ⟨ci, kd_nw _ _ _ _, hci, q, hq, ?_⟩) hn.1 hn.2 (Nat.zero_le _)
    rw [hadr]
    refine hcell.to (fun k _ => ?_)
    have z1 : hI (nwC h (ci + 1) 0 z) (hN h) k = 0 := if_pos rfl
    have z2 : hJ (nwC h (ci + 1) 0 z) (hN h) k = 0 := if_pos rfl
    have z3 : hR (nwC h (ci + 1) 0 z) (hN h) k = 0 := if_pos rfl
    exact dv_fv (gTy_nf ci k) w z1 z2 z3
  have k1 := kk H' locs ls rp1 (hE.tr hEx) (fun q hq => (hl2 q hq).ext hEx) (ok_c (Or.inr ⟨kd_nw _ _ _ _, Nat.lt_succ_self _⟩) (fun u hu => (hs u hu).ext hEx)) hL hv2
  have e5 : rv (wM w) (vR (ci + 1) (hN h)) = .ref H.size := by rw [rv_nz _ hne, hadr]
  have e6 : hN (nwC h (ci + 1) 0 z) - hN h0 = hN h - hN h0 + 1 := by show hN h + 1 - hN h0 = _; omega
  have e7 : hZ (nwC h (ci + 1) 0 z) - hZ h0 = hZ h - hZ h0 + z := by show hZ h + z - hZ h0 = _; omega
  rw [e6, e7] at k1
  show W p l e R s m args below meth c H' locs _ _ _ (F0 m (pc + 3) ls (.ref H.size :: st.map (rv (wM w))))
  rw [← e5]
  exact k1
/-- a new array of a primitive type -/
theorem sm_newa (C : Cx x cc own) {ti : Nat} {n : Int} {at' : ArrayType} {f : Hp → Option β} (hti : ti < 20) (hty : newarray.typeOf at' = gTA ti) (hfl : fk (gTA ti) ≠ 3) (hcb : componentBytes (gTA ti) ≤ 8) (hl : (Cond.arrayClass (newarray.typeOf at')) ∈ lw_all) (hn0 : 0 ≤ n) (hn : hN h + 1 ≤ CN ∧ hZ h + n.toNat ≤ CZ) (hd : decode cc pc = .ok (.newarray at', 2)) (kk : ∀ h1, hN h ≠ 0 → Sm x em (f h1) (pc + 2) lv (vR (ti + 101) (hN h) :: st) h1) : Sm x em (lt1 (nwC h (ti + 101) n.toNat n.toNat) f) pc lv (vI n :: st) h := by
  intro o hF
  obtain ⟨p, l, e, R, s, m, args, below, meth, c, nL', w, h0⟩ := x
  obtain ⟨hx, hb, hml, hown, hts, hK, hW, hlk, hc1, hc2, rp0, hlt⟩ := C
  intro H locs ls rp hE hl2 hs hL hv2
  have g1 := hE.1
  have g2 := hE.2.1
  have hp : PN1 ≤ hN h := rp.1
  have hEx : Ext h (nwC h (ti + 101) n.toNat n.toNat) := Ext.nw _ _ _
  have hM := hW.1 (hN h) hp
  have hsz := rp.2.1
  have hadr : wM w (hN h) = H.size := by omega
  have hne : hN h ≠ 0 := by unfold PN1 at hp; omega
  have kk := kk _ hne o hF
  have hcn : c32 n := ok_h hs
  have hcl : (Int32.ofInt n).toNatClampNeg = n.toNat := of32_clamp hcn
  have hb8 : n.toNat * componentBytes (newarray.typeOf at') ≤ 536870912 := by
    rw [hty]
    have h9 := hn.2
    unfold CZ at h9
    calc n.toNat * componentBytes (gTA ti) ≤ 7301098 * 8 := Nat.mul_le_mul (by omega) hcb
      _ ≤ 536870912 := by decide
  refine W.newa hx hb (hts _ hl) rfl hd rfl (fun z => by have := (of32_lt hcn (by decide : c32 0)).mp z; omega) (by rw [hcl]; exact hb8) (by omega) (by rw [hcl]; omega) (fun cA kA comp hf1 hf2 hf3 => ?_)
  rw [hcl, arrV_new]
  have hcA : cA = wA w ti := by
    have h8 := (hK.2.1 ti hti).2.1
    rw [← hty] at h8
    exact Option.some.inj (hf1.symm.trans h8)
  generalize hH' : Array.push H (arrV cA n.toNat fun _ => defaultValue (newarray.typeOf at')) = H'
  have e1 : H'[H.size]? = some (arrV cA n.toNat fun _ => defaultValue (newarray.typeOf at')) := by rw [← hH']; simp
  have e2 : H'.size = H.size + 1 := by rw [← hH']; simp
  have e3 : ∀ q : Nat, q < H.size → H'[q]? = H[q]? := fun q hq => by rw [← hH', Array.getElem?_push, if_neg (Nat.ne_of_lt hq)]
  have rp1 : Rp w (nwC h (ti + 101) n.toNat n.toNat) H' := by
    refine rp.nw hW e1 e2 e3 (by rw [arrV_size]) (Or.inr ⟨ti, kd_nw _ _ _ _, hti, ?_⟩) hn.1 hn.2 (Nat.le_refl _)
    show H'[wM w (hN h)]? = some (arrV _ (ln _ _) _)
    rw [hadr, e1, ln_nw, hcA, hty]
    congr 2
    funext k
    exact dv_fv hfl w (if_pos rfl) (if_pos rfl) (if_pos rfl)
  have k1 := kk H' locs ls rp1 (hE.tr hEx) (fun q hq => (hl2 q hq).ext hEx) (ok_c (Or.inr ⟨kd_nw _ _ _ _, Nat.lt_succ_self _⟩) (fun u hu => (ok_t hs u hu).ext hEx)) hL hv2
  have e5 : rv (wM w) (vR (ti + 101) (hN h)) = .ref H.size := by rw [rv_nz _ hne, hadr]
  have e6 : hN (nwC h (ti + 101) n.toNat n.toNat) - hN h0 = hN h - hN h0 + 1 := by show hN h + 1 - hN h0 = _; omega
  have e7 : hZ (nwC h (ti + 101) n.toNat n.toNat) - hZ h0 = hZ h - hZ h0 + n.toNat := by show hZ h + n.toNat - hZ h0 = _; omega
  rw [e6, e7] at k1
  show W p l e R s m args below meth c H' locs _ _ _ (F0 m (pc + 2) ls (.ref H.size :: st.map (rv (wM w))))
  rw [← e5]
  exact k1
/-- a new array of references to objects -/
theorem sm_anew (C : Cx x cc own) {ti idx : Nat} {n : Int} {Cn : String} {f : Hp → Option β} (hti : ti < 20) (hty : gTA ti = .object Cn) (hl : (Cond.classLink own idx Cn) ∈ lw_all) (ho : (Cond.arrayOver (.object Cn)) ∈ lw_tbl) (hn0 : 0 ≤ n) (hn : hN h + 1 ≤ CN ∧ hZ h + n.toNat ≤ CZ) (hd : decode cc pc = .ok (.anewarray idx, 3)) (kk : ∀ h1, hN h ≠ 0 → Sm x em (f h1) (pc + 3) lv (vR (ti + 101) (hN h) :: st) h1) : Sm x em (lt1 (nwC h (ti + 101) n.toNat n.toNat) f) pc lv (vI n :: st) h := by
  intro o hF
  obtain ⟨p, l, e, R, s, m, args, below, meth, c, nL', w, h0⟩ := x
  obtain ⟨hx, hb, hml, hown, hts, hK, hW, hlk, hc1, hc2, rp0, hlt⟩ := C
  intro H locs ls rp hE hl2 hs hL hv2
  have g1 := hE.1
  have g2 := hE.2.1
  have hp : PN1 ≤ hN h := rp.1
  have hEx : Ext h (nwC h (ti + 101) n.toNat n.toNat) := Ext.nw _ _ _
  have hM := hW.1 (hN h) hp
  have hsz := rp.2.1
  have hadr : wM w (hN h) = H.size := by omega
  have hne : hN h ≠ 0 := by unfold PN1 at hp; omega
  have kk := kk _ hne o hF
  have hcn : c32 n := ok_h hs
  have hcl : (Int32.ofInt n).toNatClampNeg = n.toNat := of32_clamp hcn
  have hb8 : n.toNat * 4 ≤ 536870912 := by
    have h9 := hn.2
    unfold CZ at h9
    omega
  refine W.anew hx hb hown (hts _ hl) (va_AO.use (hK.2.2.1 _ ho rfl)) rfl hd rfl (fun z => by have := (of32_lt hcn (by decide : c32 0)).mp z; omega) (by rw [hcl]; exact hb8) (by omega) (by rw [hcl]; omega) (fun cA kA comp hf1 hf2 hf3 hf4 => ?_)
  rw [hcl, arrV_new]
  have hcA : cA = wA w ti := by
    have h8 := (hK.2.1 ti hti).2.1
    rw [hty] at h8
    exact Option.some.inj (hf1.symm.trans h8)
  generalize hH' : Array.push H (arrV cA n.toNat fun _ => Value.null) = H'
  have e1 : H'[H.size]? = some (arrV cA n.toNat fun _ => Value.null) := by rw [← hH']; simp
  have e2 : H'.size = H.size + 1 := by rw [← hH']; simp
  have e3 : ∀ q : Nat, q < H.size → H'[q]? = H[q]? := fun q hq => by rw [← hH', Array.getElem?_push, if_neg (Nat.ne_of_lt hq)]
  have rp1 : Rp w (nwC h (ti + 101) n.toNat n.toNat) H' := by
    refine rp.nw hW e1 e2 e3 (by rw [arrV_size]) (Or.inr ⟨ti, kd_nw _ _ _ _, hti, ?_⟩) hn.1 hn.2 (Nat.le_refl _)
    show H'[wM w (hN h)]? = some (arrV _ (ln _ _) _)
    rw [hadr, e1, ln_nw, hcA, hty]
    congr 2
    funext k
    exact dv_fv (ty := .object Cn) (by simp [fk]) w (if_pos rfl) (if_pos rfl) (if_pos rfl)
  have k1 := kk H' locs ls rp1 (hE.tr hEx) (fun q hq => (hl2 q hq).ext hEx) (ok_c (Or.inr ⟨kd_nw _ _ _ _, Nat.lt_succ_self _⟩) (fun u hu => (ok_t hs u hu).ext hEx)) hL hv2
  have e5 : rv (wM w) (vR (ti + 101) (hN h)) = .ref H.size := by rw [rv_nz _ hne, hadr]
  have e6 : hN (nwC h (ti + 101) n.toNat n.toNat) - hN h0 = hN h - hN h0 + 1 := by show hN h + 1 - hN h0 = _; omega
  have e7 : hZ (nwC h (ti + 101) n.toNat n.toNat) - hZ h0 = hZ h - hZ h0 + n.toNat := by show hZ h + n.toNat - hZ h0 = _; omega
  rw [e6, e7] at k1
  show W p l e R s m args below meth c H' locs _ _ _ (F0 m (pc + 3) ls (.ref H.size :: st.map (rv (wM w))))
  rw [← e5]
  exact k1
theorem rk_arr {ti kn : Nat} (hkn : gRkA.getD ti 0 = kn) (i : Nat) : rk (ti + 101) i = kn := by
  unfold rk; rw [if_neg (by omega), show ti + 101 - 101 = ti from by omega]; exact hkn
/-- a reference to an object goes into an array -/
theorem sm_aast (C : Cx x cc own) {a ti ci v : Nat} {i : Int} {q : vw_C} {f : Hp → Option β} (hq : gCL[ci]? = some q) (hci : ci < 60) (hti : ti < 20) (hty : gTA ti = .object q.1) (hkn : gRkA.getD ti 0 = ci + 1) (ha : a ≠ 0) (hv0 : v ≠ 0) (hi : ix i (ln h a)) (hd : decode cc pc = .ok (.aastore, 1)) (kk : ∀ h1, Sm x em (f h1) (pc + 1) lv st h1) : Sm x em (lt1 (sR h a i.toNat v) f) pc lv (vR (ci + 1) v :: vI i :: vR (ti + 101) a :: st) h :=
  sm_ast (ti := ti) C ha hi hd kk rfl rfl sR_ne (fun _ h1 => h1) (fun _ h1 => h1) (fun h1 _ => by rw [sR_eq, rk_arr hkn]; exact h1) (fun p l e R s m args below meth c w H locs ls cells slots Q g rest hx hb hK hW rp ho hc harr hin k => by
    have hka : kd h v = ci + 1 ∧ v < hN h := Or.resolve_left ho hv0
    obtain ⟨hp, q', hq', cell, q1, q2, q3, q4⟩ := rp.obj hW hka.1 hci hka.2
    cases hq.symm.trans hq'
    obtain ⟨hS, hcls⟩ := hK.1 ci _ hq
    obtain ⟨kC, hkC, -⟩ := hcls.2
    obtain ⟨kA, comp, k1, k2, k3, kc, k4⟩ := (hK.2.1 ti hti).2.2 (by rw [hty]; rfl)
    rw [hty] at k3
    have hcomp : comp = (wD w).1 ci := Option.some.inj (k3.symm.trans hcls.1)
    subst hcomp
    rw [rv_nz _ hv0]
    refine W.aast hx hb hc (fun z h => by cases h) (fun h => by cases h) k1 k2 (by rw [hty]; rfl) hkC ⟨fun z => hin (Or.inl z), Nat.not_le.mp fun z => hin (Or.inr z)⟩ q1 (fun z h => by rw [q3] at h; cases h) (by rw [q2]; exact hkC) (by rw [q2]; exact va_assign hcls) rfl rfl hd (fun H' e1 e2 e3 => k H' ?_ e2 e3)
    rw [e1, fv_R (by rw [hty]; rfl) w _ a _ 0, sR_eq, rv_nz _ hv0])
theorem asg_refl (vm : Vm) (c : ClassId) : vm.assignable c c = true := by
  show vm.assignableAux 256 c c = true
  unfold Vm.assignableAux
  simp
/-- a reference to an array of bytes goes into an array of such -/
theorem sm_aastB (C : Cx x cc own) {a ti tj v : Nat} {ty : FieldType} {i : Int} {f : Hp → Option β} (hti : ti < 20) (htj : tj < 20) (hty : gTA ti = .array ty) (htyj : gTA tj = ty) (hts : (FieldType.array ty).toString = "[" ++ ty.toString) (hkn : gRkA.getD ti 0 = tj + 101) (ha : a ≠ 0) (hv0 : v ≠ 0) (hi : ix i (ln h a)) (hd : decode cc pc = .ok (.aastore, 1)) (kk : ∀ h1, Sm x em (f h1) (pc + 1) lv st h1) : Sm x em (lt1 (sR h a i.toNat v) f) pc lv (vR (tj + 101) v :: vI i :: vR (ti + 101) a :: st) h :=
  sm_ast (ti := ti) C ha hi hd kk rfl rfl sR_ne (fun _ h1 => h1) (fun _ h1 => h1) (fun h1 _ => by rw [sR_eq, rk_arr hkn]; exact h1) (fun p l e R s m args below meth c w H locs ls cells slots Q g rest hx hb hK hW rp ho hc harr hin k => by
    obtain ⟨hp, hlt, hka, -, hA⟩ := ar_at hW rp hv0 ho
    obtain ⟨kA, comp, k1, k2, k3, kc, k4⟩ := (hK.2.1 ti hti).2.2 (by rw [hty]; rfl)
    rw [hty] at k3
    have h8 := (hK.2.1 tj htj).2.1
    rw [htyj, ← hts] at h8
    have hcomp : comp = wA w tj := Option.some.inj (k3.symm.trans h8)
    subst hcomp
    rw [rv_nz _ hv0]
    refine W.aast hx hb hc (fun z h => by cases h) (fun h => by cases h) k1 k2 (by rw [hty]; rfl) k4 ⟨fun z => hin (Or.inl z), Nat.not_le.mp fun z => hin (Or.inr z)⟩ hA (fun z h => by cases h) k4 (asg_refl _ _) rfl rfl hd (fun H' e1 e2 e3 => k H' ?_ e2 e3)
    rw [e1, fv_R (by rw [hty]; rfl) w _ a _ 0, sR_eq, rv_nz _ hv0])
theorem sm_topI {e : Int} {f : Int → Option β} (k : ∀ y, Sm x em (f y) pc lv (vI y :: st) h) : Sm x em (lt1 e f) pc lv (vI e :: st) h := k e
theorem sm_topJ {e : Int} {f : Int → Option β} (k : ∀ y, Sm x em (f y) pc lv (vJ y :: st) h) : Sm x em (lt1 e f) pc lv (vJ e :: st) h := k e
theorem sm_topR {kn e : Nat} {f : Nat → Option β} (k : ∀ y, Sm x em (f y) pc lv (vR kn y :: st) h) : Sm x em (lt1 e f) pc lv (vR kn e :: st) h := k e
theorem sm_topRz {kn e : Nat} {f : Nat → Option β} (he : e ≠ 0) (k : ∀ y, y ≠ 0 → Sm x em (f y) pc lv (vR kn y :: st) h) : Sm x em (lt1 e f) pc lv (vR kn e :: st) h := k e he
theorem sm_oI {r : Int} {h1 : Hp} (k : Sm x em F pc lv (vI r :: st) h1) : Sm x em F pc lv ((emI (r, h1)).1.toList ++ st) (emI (r, h1)).2 := k
theorem sm_oJ {r : Int} {h1 : Hp} (k : Sm x em F pc lv (vJ r :: st) h1) : Sm x em F pc lv ((emJ (r, h1)).1.toList ++ st) (emJ (r, h1)).2 := k
theorem sm_oR {kn r : Nat} {h1 : Hp} (k : Sm x em F pc lv (vR kn r :: st) h1) : Sm x em F pc lv ((emR kn (r, h1)).1.toList ++ st) (emR kn (r, h1)).2 := k
theorem sm_oV {h1 : Hp} (k : Sm x em F pc lv st h1) : Sm x em F pc lv ((emV h1).1.toList ++ st) (emV h1).2 := k
end
