/-! ROWS: throws: who throws, who lets it pass, who catches it -/
def FindsV (e : Env) (s : State) (f : JFrame) (a : Addr) (h : Handler) (s' : State) : Prop :=
  ∀ (Q : Handler → Pre) (E : CtlPost) (d : Bool) (acts : List Action), wp (findHandler f a) Q E e d acts s ↔ Q h d acts s'
theorem fg_cold {e : Env} {s : State} {f : JFrame} {a : Addr} {x : ExceptionTableEntry} {t : List ExceptionTableEntry} {c : ClassId} {vm' : Vm} (hx : covers x f.pc = true) (h0 : x.catchType ≠ 0)
    (hg : (Jvm.resolveClass f.method.cls x.catchType).Gives e.toSetting s.vm (.ok c) vm') (hr : vm'.classReady f.method.cls x.catchType c) (hsz : vm'.classes.size ≤ s.vm.classes.size)
    {Q : Handler → Pre} {E : CtlPost} {d : Bool} {acts : List Action} : wp (findHandler.go f a (x :: t)) Q E e d acts s ↔ wp (findHandler.go f a (x :: t)) Q E e d acts (s.setVm vm') := by
  obtain ⟨ha, ht⟩ := hg.op (op := VmOp.resolveClass f.method.cls x.catchType) rfl
  obtain ⟨k, hkd, hres⟩ := hr
  simp only [covers] at hx
  simp [findHandler.go, hx, h0, ha, ht, hsz, resolveClass_memo e hkd hres, VmOp.dirties, VmOp.acts, State.setVm_twice]
theorem caughtV {tb : Tables} {e : Env} {s target : State} {g : JFrame} {c : Code} {below : List Frame} {a : Addr} (h : At s g.method c below) {pc : Nat} {vm' : Vm}
    (hfind : FindsV e ((s.setTop g).pushFrame (.throwing a)) g a (.found pc) (((s.setTop g).pushFrame (.throwing a)).setVm vm'))
    (hrest : Steps tb e below ((s.setVm vm').setTop { g with pc := pc, stack := [.ref a] }) target) : Steps tb e below ((s.setTop g).pushFrame (.throwing a)) target := by
  obtain ⟨hgo, hw⟩ := h.throwing a
  refine Steps.head hgo hw ?_
  have hstep : ∀ r, (stepThrowing e ((s.setTop g).pushFrame (.throwing a)) a (.java g :: r)).1 = (((s.setTop g).pushFrame (.throwing a)).setVm vm').setFrames (.java { g with pc := pc, stack := [.ref a] } :: r) := by
    intro r
    simp only [stepThrowing, searchFrame, vmDo]
    generalize hr : Sem.go _ e false [] ((s.setTop g).pushFrame (.throwing a)) = res
    obtain ⟨as, rfl, ha⟩ := Sem.eq_ok_of hr (a := Handler.found pc) (s' := ((s.setTop g).pushFrame (.throwing a)).setVm vm') (acts' := []) (by simp [hfind _ _ _ _])
    rfl
  rw [stepThread_throwing (frames_entered h.top _), hstep]
  obtain ⟨g₀, hg⟩ := Option.isSome_iff_exists.mp h.top
  obtain ⟨r, hr⟩ := State.topJava?_eq_some.mp hg
  have hr' : (s.setVm vm').frames = .java g₀ :: r := hr
  rw [State.setTop_of_frames _ hr'] at hrest
  rw [State.pushFrame, State.setTop_of_frames _ hr]
  have e1 : (((s.setFrames (.java g :: r)).setFrames (.throwing a :: (s.setFrames (.java g :: r)).frames)).setVm vm').setFrames (.java { g with pc := pc, stack := [.ref a] } :: s.frames.tail) = (s.setVm vm').setFrames (.java { g with pc := pc, stack := [.ref a] } :: r) := by
    show ((((s.setVm vm').setFrames (.java g :: r)).setFrames _)).setFrames _ = _
    rw [State.setFrames_setFrames, State.setFrames_setFrames, hr]
    rfl
  rw [e1]
  exact hrest
/-- a throw at pc: the object lies at a -/
def GoT (x : Ctx) (Q : State → Prop) (pc : Nat) (lv : List (Nat × AV)) (a : Nat) (h : Hp) : Prop := match x with
  | (p, l, e, R, s, m, args, below, meth, c, nL, w, h0) => ∀ (H : Heap) (locs : List Loc) (ls : Array Slot) (st : List Value), Rp w h H → Ext h0 h → (∀ q ∈ lv, okv h q.2) → (∀ q ∈ locs, wB w ≤ q.base) → lv_has ls nL (lvm w lv) → PN1 ≤ a → a < hN h →
    ∀ T : State, T.heap = H → Stand p l e R s m args below meth c T locs (hN h - hN h0) (hZ h - hZ h0) → ∃ t, Steps p.tables e below ((T.setTop (F0 m pc ls st)).pushFrame (.throwing (wM w a))) t ∧ Q t
def SmT (x : Ctx) {β : Type} (em : β → Xo) (F : Option β) (pc : Nat) (lv : List (Nat × AV)) (a : Nat) (h : Hp) : Prop := ∀ o, F = some o → GoT x (FinQ x (em o)) pc lv a h
section
variable {x : Ctx} {cc : ByteArray} {own : String} {β : Type} {em : β → Xo} {F A B : Option β} {pc fr lo nL : Nat} {ret : Option FieldType} {lv : List (Nat × AV)} {st : List AV} {h : Hp}
theorem sm_yI {o : Int × Hp} (k : Sm x xI (some o) pc lv st h) : Sm x yI (some (.inl o)) pc lv st h := fun o' hF => by cases hF; exact k o rfl
theorem sm_yJ {o : Int × Hp} (k : Sm x xJ (some o) pc lv st h) : Sm x yJ (some (.inl o)) pc lv st h := fun o' hF => by cases hF; exact k o rfl
theorem sm_yR {kn : Nat} {o : Nat × Hp} (k : Sm x (xR kn) (some o) pc lv st h) : Sm x (yR kn) (some (.inl o)) pc lv st h := fun o' hF => by cases hF; exact k o rfl
theorem sm_yV {o : Hp} (k : Sm x xV (some o) pc lv st h) : Sm x yV (some (.inl o)) pc lv st h := fun o' hF => by cases hF; exact k o rfl
/-- nobody catches it here -/
theorem sm_leave (C : Cx x cc own) (E : Ce x []) {a : Nat} {b : β} (he : em b = .inr (a, h)) : SmT x em (some b) pc lv a h := by
  intro o' hF
  cases hF
  obtain ⟨p, l, e, R, s, m, args, below, meth, c, nL, w, h0⟩ := x
  obtain ⟨hx, hb, hml, hown, hts, hK, hW, hlk, hc1, hc2, rp0, hlt⟩ := C
  intro H locs ls st rp hE hl hL hv2 ha1 ha2 T hT X
  have hnil : c.exceptionTable.toList = [] := List.map_eq_nil_iff.mp E
  obtain ⟨w1, w2, w3, w4, w5⟩ := X.leaveThrown (wM w a) (g := F0 m pc ls st) rfl rfl rfl (fun y hy => by rw [hnil] at hy; cases hy) hlk
  have h1 : hN h ≤ CN := rp.2.2.2.2.2.2.2.2.2.2.1
  have h2 : hZ h ≤ CZ := rp.2.2.2.2.2.2.2.2.2.2.2.1
  refine ⟨_, w1, .threw (wM w a), w2, w3, ?_⟩
  rw [he]
  refine ⟨rfl, w4, ⟨locs, w5.weaken (fun y hy _ => hy) (by omega) (by omega), hL⟩, ?_, hE, ha1, ha2⟩
  show Rp w h T.heap
  rw [hT]; exact rp
/-- the first handler takes it -/
theorem sm_catch1 (C : Cx x cc own) {s0 e0 hp ct i a : Nat} {tb : List (Nat × Nat × Nat × Nat)} {q : vw_C} (E : Ce x ((s0, e0, hp, ct) :: tb)) (hcov : s0 ≤ pc ∧ pc < e0) (hct : ct ≠ 0) (hq : gCL[i]? = some q) (hi : i < 60) (hl : Cond.classLink own ct q.1 ∈ lw_all) (hself : Cond.castable q.1 q.1 ∈ lw_tbl) (hk : kd h a = i + 1)
    (kk : Sm x em F hp lv [vR (i + 1) a] h) : SmT x em F pc lv a h := by
  intro o' hF
  have kk := kk o' hF
  obtain ⟨p, l, e, R, s, m, args, below, meth, c, nL, w, h0⟩ := x
  obtain ⟨hx, hb, hml, hown, hts, hK, hW, hlk, hc1, hc2, rp0, hlt⟩ := C
  intro H locs ls st rp hE hl2 hL hv2 ha1 ha2 T hT X
  obtain ⟨x1, rest, hsplit, e1, e2⟩ : ∃ x1 rest, c.exceptionTable.toList = x1 :: rest ∧ (x1.startPc, x1.endPc, x1.handlerPc, x1.catchType) = (s0, e0, hp, ct) ∧ rest.map (fun h => (h.startPc, h.endPc, h.handlerPc, h.catchType)) = tb := List.map_eq_cons_iff.mp E
  simp only [Prod.mk.injEq] at e1
  obtain ⟨f1, f2, f3, f4⟩ := e1
  have hpl : e.platform.magicAccessors = ({} : Platform).magicAccessors := by rw [X.admits.platform]
  obtain ⟨cT, hcT, hcl⟩ := Cond.classLink_spec hown (hts _ hl) e.platform hpl
  obtain ⟨dk, _, _, kt, hd, _, _, _, _, hkt, _, hopen⟩ := hcl.here
  have hcl₀ := X.warmed.classLinks hcl
  have hW' : s.WarmedH (T.vm.noted m.cls ct (.cls cT)) := X.warmed.noted hd hopen (State.rightAt_cls hcl)
  have X' := X.noted hW'
  obtain ⟨-, q', hq', cell, q1, q2, q3, -⟩ := rp.obj hW hk hi ha2
  cases hq.symm.trans hq'
  obtain ⟨hS, hfc, -⟩ := hK.1 i _ hq
  have hcc : cell.cls = cT := by rw [q2]; exact Option.some.inj (hfc.symm.trans hcT)
  obtain ⟨c3, c4, hc3, hc4, hasg⟩ := Cond.castable_spec (va_Nw.use (A := args) rfl (hK.2.2.1 _ hself rfl))
  cases hc3.symm.trans hcT
  cases hc4.symm.trans hcT
  obtain ⟨kt', hkt', -⟩ := hW'.alike.2.2 _ _ hkt
  have hcov2 : covers x1 pc = true := by simp [covers, f1, f2, hcov.1, hcov.2]
  have hsz : (T.vm.noted m.cls ct (.cls cT)).classes.size ≤ T.vm.classes.size := by rw [Vm.size_noted]; exact Nat.le_refl _
  have hne : a ≠ 0 := by unfold PN1 at ha1; omega
  have hfind : FindsV e ((T.setTop (F0 m pc ls st)).pushFrame (.throwing (wM w a))) (F0 m pc ls st) (wM w a) (.found hp) (((T.setTop (F0 m pc ls st)).pushFrame (.throwing (wM w a))).setVm (T.vm.noted m.cls ct (.cls cT))) := by
    intro Q E1 d acts
    have hvm := Stand.throwing_vm T (F0 m pc ls st) (wM w a)
    have hhp := Stand.throwing_heap T (F0 m pc ls st) (wM w a)
    rw [W.findHandler_eq (meth := meth) (code := c) (by rw [hvm]; exact X.method') X.code, hsplit,
      fg_cold (c := cT) (vm' := T.vm.noted m.cls ct (.cls cT)) hcov2 (by rw [f4]; exact hct) (by rw [hvm, f4]; exact resolveClass_links e.toSetting hcl₀) (by rw [f4]; exact hcl₀.ready) (by rw [hvm]; exact hsz),
      W.findHandler_go_class (c := cT) (cell := cell) hcov2 (by rw [f4]; exact hct) (by rw [f4]; exact hcl₀.ready) (by show ((T.setTop (F0 m pc ls st)).pushFrame (.throwing (wM w a))).heap[wM w a]? = some cell; rw [hhp, hT]; exact q1) (fun k hk2 => by rw [q3] at hk2; cases hk2)
        ⟨kt', by rw [hcc]; exact hkt'⟩ ⟨kt', hkt'⟩, if_pos (by rw [hcc]; show (T.vm.noted m.cls ct (.cls cT)).assignable cT cT = true; rw [hW'.alike.assignable]; exact hasg), f3]
  obtain ⟨t, a1, b1⟩ := kk H locs ls rp hE hl2 (ok_c (Or.inr ⟨hk, ha2⟩) ok_nil) hL hv2 (T.setVm (T.vm.noted m.cls ct (.cls cT))) hT X'
  refine ⟨t, caughtV X.here hfind ?_, b1⟩
  have e5 : ([vR (i + 1) a] : List AV).map (rv (wM w)) = [.ref (wM w a)] := by
    show [rv (wM w) (vR (i + 1) a)] = _
    rw [rv_nz _ hne]
  rw [e5] at a1
  exact a1
/-- the second handler takes it -/
theorem sm_catch2 (C : Cx x cc own) {s0 e0 hp0 ct0 s1 e1 hp ct i j a : Nat} {tb : List (Nat × Nat × Nat × Nat)} {q q0 : vw_C} (E : Ce x ((s0, e0, hp0, ct0) :: (s1, e1, hp, ct) :: tb)) (hcov0 : s0 ≤ pc ∧ pc < e0) (hcov : s1 ≤ pc ∧ pc < e1) (hct0 : ct0 ≠ 0) (hct : ct ≠ 0)
    (hq0 : gCL[j]? = some q0) (hq : gCL[i]? = some q) (hi : i < 60) (hin : i ∈ xCL) (hjn : j ∈ xCL) (hij : i ≠ j) (hl0 : Cond.classLink own ct0 q0.1 ∈ lw_all) (hl : Cond.classLink own ct q.1 ∈ lw_all) (hself : Cond.castable q.1 q.1 ∈ lw_tbl) (hk : kd h a = i + 1)
    (kk : Sm x em F hp lv [vR (i + 1) a] h) : SmT x em F pc lv a h := by
  intro o' hF
  have kk := kk o' hF
  obtain ⟨p, l, e, R, s, m, args, below, meth, c, nL, w, h0⟩ := x
  obtain ⟨hx, hb, hml, hown, hts, hK, hW, hlk, hc1, hc2, rp0, hlt⟩ := C
  intro H locs ls st rp hE hl2 hL hv2 ha1 ha2 T hT X
  obtain ⟨x0, rest0, hsplit0, e10, e20⟩ : ∃ x1 rest, c.exceptionTable.toList = x1 :: rest ∧ (x1.startPc, x1.endPc, x1.handlerPc, x1.catchType) = (s0, e0, hp0, ct0) ∧ rest.map (fun h => (h.startPc, h.endPc, h.handlerPc, h.catchType)) = ((s1, e1, hp, ct) :: tb) := List.map_eq_cons_iff.mp E
  obtain ⟨x1, rest, hsplit, e11, e2⟩ : ∃ x1 rest, rest0 = x1 :: rest ∧ (x1.startPc, x1.endPc, x1.handlerPc, x1.catchType) = (s1, e1, hp, ct) ∧ rest.map (fun h => (h.startPc, h.endPc, h.handlerPc, h.catchType)) = tb := List.map_eq_cons_iff.mp e20
  subst hsplit
  simp only [Prod.mk.injEq] at e10 e11
  obtain ⟨g1, g2, g3, g4⟩ := e10
  obtain ⟨f1, f2, f3, f4⟩ := e11
  have hpl : e.platform.magicAccessors = ({} : Platform).magicAccessors := by rw [X.admits.platform]
  obtain ⟨cT0, hcT0, hcl0⟩ := Cond.classLink_spec hown (hts _ hl0) e.platform hpl
  obtain ⟨dk0, _, _, kt0, hd0, _, _, _, _, hkt0, _, hopen0⟩ := hcl0.here
  have hcl00 := X.warmed.classLinks hcl0
  have hW0 : s.WarmedH (T.vm.noted m.cls ct0 (.cls cT0)) := X.warmed.noted hd0 hopen0 (State.rightAt_cls hcl0)
  obtain ⟨cT, hcT, hcl⟩ := Cond.classLink_spec hown (hts _ hl) e.platform hpl
  obtain ⟨dk, _, _, kt, hd, _, _, _, _, hkt, _, hopen⟩ := hcl.here
  have hcl₀ : (T.vm.noted m.cls ct0 (.cls cT0)).ClassLinks e.platform m.cls ct cT := hW0.classLinks hcl
  have hW' : s.WarmedH ((T.vm.noted m.cls ct0 (.cls cT0)).noted m.cls ct (.cls cT)) := hW0.noted hd hopen (State.rightAt_cls hcl)
  have X' := X.noted hW'
  obtain ⟨-, q', hq', cell, q1, q2, q3, -⟩ := rp.obj hW hk hi ha2
  cases hq.symm.trans hq'
  obtain ⟨hS, hfc, -⟩ := hK.1 i _ hq
  obtain ⟨hS0, hfc0, -⟩ := hK.1 j _ hq0
  have hcc : cell.cls = cT := by rw [q2]; exact Option.some.inj (hfc.symm.trans hcT)
  have hno : s.vm.assignable cell.cls cT0 = false := by
    rw [q2, ← Option.some.inj (hfc0.symm.trans hcT0)]
    exact hK.2.2.2.2.2.2.2.2.2 i j hin hjn hij
  obtain ⟨c3, c4, hc3, hc4, hasg⟩ := Cond.castable_spec (va_Nw.use (A := args) rfl (hK.2.2.1 _ hself rfl))
  cases hc3.symm.trans hcT
  cases hc4.symm.trans hcT
  obtain ⟨kt', hkt', -⟩ := hW'.alike.2.2 _ _ hkt
  obtain ⟨kt1, hkt1, -⟩ := hW0.alike.2.2 _ _ hkt
  obtain ⟨kt2, hkt2, -⟩ := hW0.alike.2.2 _ _ hkt0
  have hcov20 : covers x0 pc = true := by simp [covers, g1, g2, hcov0.1, hcov0.2]
  have hcov2 : covers x1 pc = true := by simp [covers, f1, f2, hcov.1, hcov.2]
  have hsz0 : (T.vm.noted m.cls ct0 (.cls cT0)).classes.size ≤ T.vm.classes.size := by rw [Vm.size_noted]; exact Nat.le_refl _
  have hsz : ((T.vm.noted m.cls ct0 (.cls cT0)).noted m.cls ct (.cls cT)).classes.size ≤ (T.vm.noted m.cls ct0 (.cls cT0)).classes.size := by rw [Vm.size_noted (vm := T.vm.noted m.cls ct0 (.cls cT0))]; exact Nat.le_refl _
  have hne : a ≠ 0 := by unfold PN1 at ha1; omega
  have hfind : FindsV e ((T.setTop (F0 m pc ls st)).pushFrame (.throwing (wM w a))) (F0 m pc ls st) (wM w a) (.found hp) (((T.setTop (F0 m pc ls st)).pushFrame (.throwing (wM w a))).setVm ((T.vm.noted m.cls ct0 (.cls cT0)).noted m.cls ct (.cls cT))) := by
    intro Q E1 d acts
    have hvm := Stand.throwing_vm T (F0 m pc ls st) (wM w a)
    have hhp := Stand.throwing_heap T (F0 m pc ls st) (wM w a)
    rw [W.findHandler_eq (meth := meth) (code := c) (by rw [hvm]; exact X.method') X.code, hsplit0,
      fg_cold (c := cT0) (vm' := T.vm.noted m.cls ct0 (.cls cT0)) hcov20 (by rw [g4]; exact hct0) (by rw [hvm, g4]; exact resolveClass_links e.toSetting hcl00) (by rw [g4]; exact hcl00.ready) (by rw [hvm]; exact hsz0),
      W.findHandler_go_class (c := cT0) (cell := cell) hcov20 (by rw [g4]; exact hct0) (by rw [g4]; exact hcl00.ready) (by show ((T.setTop (F0 m pc ls st)).pushFrame (.throwing (wM w a))).heap[wM w a]? = some cell; rw [hhp, hT]; exact q1) (fun k hk2 => by rw [q3] at hk2; cases hk2)
        ⟨kt1, by rw [hcc]; exact hkt1⟩ ⟨kt2, hkt2⟩, if_neg (by show ¬ (T.vm.noted m.cls ct0 (.cls cT0)).assignable cell.cls cT0 = true; rw [hW0.alike.assignable, hno]; decide),
      fg_cold (c := cT) (vm' := (T.vm.noted m.cls ct0 (.cls cT0)).noted m.cls ct (.cls cT)) hcov2 (by rw [f4]; exact hct) (by rw [f4]; exact resolveClass_links e.toSetting hcl₀) (by rw [f4]; exact hcl₀.ready) (by exact hsz),
      W.findHandler_go_class (c := cT) (cell := cell) hcov2 (by rw [f4]; exact hct) (by rw [f4]; exact hcl₀.ready) (by show ((T.setTop (F0 m pc ls st)).pushFrame (.throwing (wM w a))).heap[wM w a]? = some cell; rw [hhp, hT]; exact q1) (fun k hk2 => by rw [q3] at hk2; cases hk2)
        ⟨kt', by rw [hcc]; exact hkt'⟩ ⟨kt', hkt'⟩, if_pos (by rw [hcc]; show ((T.vm.noted m.cls ct0 (.cls cT0)).noted m.cls ct (.cls cT)).assignable cT cT = true; rw [hW'.alike.assignable]; exact hasg), f3, State.setVm_twice]
  obtain ⟨t, a1, b1⟩ := kk H locs ls rp hE hl2 (ok_c (Or.inr ⟨hk, ha2⟩) ok_nil) hL hv2 (T.setVm ((T.vm.noted m.cls ct0 (.cls cT0)).noted m.cls ct (.cls cT))) hT X'
  refine ⟨t, caughtV X.here hfind ?_, b1⟩
  have e5 : ([vR (i + 1) a] : List AV).map (rv (wM w)) = [.ref (wM w a)] := by
    show [rv (wM w) (vR (i + 1) a)] = _
    rw [rv_nz _ hne]
  rw [e5] at a1
  exact a1
end
