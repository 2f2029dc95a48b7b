/-! ROWS: calls that may throw; calls of methods with handlers -/
/-- the run of a callee, up to its end: an answer (the frame behind the call), or a throw (the note over the frame) -/
theorem callG {p : Program} {l : Launch} {e : Env} {R : Room} {s : State} {m : MethodId} {args : Array Value} {below : List Frame} {meth : Method} {c : Code} {T : State} {locs : List Loc} {cells slots : Nat}
    (X : Stand p l e R s m args below meth c T locs cells slots) {g : JFrame} (hg : g.method = m) (hsize : g.locals.size = c.maxLocals) {ig : Instr} {len : Nat} (hdg : decode c.code g.pc = .ok (ig, len))
    {mk : MethodId} {a : Array Value} {y : MethodName} (hn : T.methodNamed? y = some mk) {methY : Method} {cY : Code} {kY : Class} {maxL fr' lo' : Nat} (hmY : T.vm.method? mk = some methY) (hcY : methY.code = some cY) (hlY : cY.maxLocals = maxL) (hkY : T.vm.classes[mk.cls]? = some kY) (hiY : kY.init = .initialized)
    {w : Wd} {As : List AV} {h : Hp} {ws : List Cond} {o : Xo} (hM : MetFree l y (headSpec ws (rmC fr' lo' h)) (Pcc w As h) (fun _ _ _ _ _ => True) (QX w h o)) (hP : Pcc w As h a T) (hws : ∀ x ∈ ws, x.before a T = true)
    (hfr : fr' + 1 ≤ R.frames) (hlo : 2 * g.monitorRoom + (g.stack.map fun v => v.category).sum + (maxL + 11) + lo' ≤ R.locals) (hc : cells + (CN - hN h) ≤ R.cells) (hs : slots + (CZ - hZ h) ≤ R.slots) :
    ∃ (L : List Loc) (T' : State), Stand p l e R s m args below meth c T' (locs ++ L) (cells + (CN - hN h)) (slots + (CZ - hZ h)) ∧ (∀ q ∈ L, wB w ≤ q.base) ∧ (match o with
      | .inl o => Rp w o.2 T'.heap ∧ Ext h o.2 ∧ (∀ v ∈ o.1, okv o.2 v) ∧ ∀ target, Steps p.tables e below (T'.setTop { g with pc := g.pc + len, stack := (o.1.map (rv (wM w))).toList ++ g.stack }) target → Steps p.tables e below (doInvoke e (T.setTop g) [] mk a).1 target
      | .inr q => Rp w q.2 T'.heap ∧ Ext h q.2 ∧ PN1 ≤ q.1 ∧ q.1 < hN q.2 ∧ ∀ target, Steps p.tables e below ((T'.setTop g).pushFrame (.throwing (wM w q.1))) target → Steps p.tables e below (doInvoke e (T.setTop g) [] mk a).1 target) := by
  have hA : At T g.method c below := by rw [hg]; exact X.here
  have happ : (headSpec ws (rmC fr' lo' h)).appliesLoose y e.platform (T.calling g mk a) = true :=
    Spec.appliesLoose_calling (g := g) hA hdg hn hkY hiY
      (X.room_calling (g := g) (R' := rmC fr' lo' h) hsize hmY hcY hfr (by rw [hlY]; exact hlo) hc hs) (atoms_intro hws)
  obtain ⟨mid, hmid⟩ := hA.above
  have hfrm : (T.setTop g).frames = (.java g :: mid) ++ below := by rw [State.frames_setTop' g hA.top, hmid]; rfl
  obtain ⟨oc, s₂, hsteps, -, hend, hq⟩ := Steps.callFree hM p X.admits X.cas X.clock (acts := []) hfrm happ (Pcc.blind w As h a T g mk hP) trivial
  have hq' : QX w h o a (T.calling g mk a) oc s₂ := hq
  rw [State.frames_setTop' g hA.top] at hend
  obtain ⟨g₀, hg0⟩ := Option.isSome_iff_exists.mp hA.top
  obtain ⟨r, hr⟩ := State.topJava?_eq_some.mp hg0
  have fin : ∀ L, (T.calling g mk a).WarmedH s₂.vm → (T.calling g mk a).sameButNew ({ s₂ with vm := (T.calling g mk a).vm } : State) L (CN - hN h) (CZ - hZ h) →
      s₂ = ({ (T.calling g mk a).setFrames s₂.frames with heap := s₂.heap, slotsUsed := s₂.slotsUsed } : State).setVm s₂.vm ∧ T.WarmedH s₂.vm ∧
      Stand p l e R s m args below meth c (({ T with heap := s₂.heap, slotsUsed := s₂.slotsUsed } : State).setVm s₂.vm) (locs ++ L) (cells + (CN - hN h)) (slots + (CZ - hZ h)) := by
    intro L hW₂ ⟨e2, q2, q3, q4, q5, q6⟩
    have e3 : s₂ = ({ (T.calling g mk a).setFrames s₂.frames with heap := s₂.heap, slotsUsed := s₂.slotsUsed } : State).setVm s₂.vm := by
      have : s₂ = ({ s₂ with vm := (T.calling g mk a).vm } : State).setVm s₂.vm := rfl
      rw [e2] at this
      exact this
    have hW' : T.WarmedH s₂.vm := hW₂
    have hsame : T.sameButNew ({ T with heap := s₂.heap, slotsUsed := s₂.slotsUsed } : State) L (CN - hN h) (CZ - hZ h) := by
      refine ⟨?_, q2, q3, q4, q5, q6⟩
      obtain ⟨t, ht, -⟩ := State.frames_cons hr
      show ({ T with heap := s₂.heap, slotsUsed := s₂.slotsUsed } : State) = { T.setFrames T.frames with heap := s₂.heap, slotsUsed := s₂.slotsUsed }
      rw [State.setFrames_self ht]
    exact ⟨e3, hW', ⟨X.admits, X.cas, X.clock, X.frames, X.room, X.hears, X.method, X.code, (X.here.setHeapUsed s₂.heap s₂.slotsUsed).setVm hW'.alike, X.tail, State.WarmedH.trans X.warmed hW', X.limits, X.bytes, X.same.trans (hsame.setVm s.vm)⟩⟩
  have hr' : (({ T with heap := s₂.heap, slotsUsed := s₂.slotsUsed } : State).setVm s₂.vm).frames = .java g₀ :: r := hr
  match o, hq' with
  | .inl o, hq' =>
    obtain ⟨⟨z1, z2, z3, z4⟩, L, ⟨⟨v, hv⟩, hW₂, hsm⟩, hL⟩ := hq'
    subst hv
    have hvv : v = o.1.map (rv (wM w)) := by cases z1; rfl
    subst hvv
    obtain ⟨e3, hW', X'⟩ := fin L hW₂ hsm
    obtain ⟨c₂, i₂, len₂, hc₂, hd₂, hf₂⟩ := hend
    have hcc : c₂ = c := by
      have h1 : s₂.code? g.method = T.code? g.method := by
        rw [State.code?_eq, State.code?_eq, hW'.alike.method?]
      exact Option.some.inj (hc₂.symm.trans (h1.trans hA.code))
    subst hcc
    have hlen : len₂ = len := by rw [hdg] at hd₂; cases hd₂; rfl
    subst hlen
    refine ⟨L, _, X', hL, z2, z3, z4, fun target ht => hsteps.trans ?_⟩
    have hs₂ : s₂ = (({ T with heap := s₂.heap, slotsUsed := s₂.slotsUsed } : State).setVm s₂.vm).setTop { g with pc := g.pc + len₂, stack := (o.1.map (rv (wM w))).toList ++ g.stack } := by
      refine e3.trans ?_
      rw [hf₂, State.calling_eq hA.top, State.setFrames_setFrames, State.setTop_of_frames _ hr', hr]
      rfl
    rw [hs₂]
    exact ht
  | .inr q, hq' =>
    obtain ⟨z1, hW₂, ⟨L, hsm, hL⟩, z2, z3, z4, z5⟩ := hq'
    subst z1
    obtain ⟨e3, hW', X'⟩ := fin L hW₂ hsm
    have hf₂ : s₂.frames = .throwing (wM w q.1) :: .java g :: T.frames.tail := hend
    refine ⟨L, _, X', hL, z2, z3, z4, z5, fun target ht => hsteps.trans ?_⟩
    have hs₂ : s₂ = ((({ T with heap := s₂.heap, slotsUsed := s₂.slotsUsed } : State).setVm s₂.vm).setTop g).pushFrame (.throwing (wM w q.1)) := by
      refine e3.trans ?_
      rw [hf₂, State.calling_eq hA.top, State.setFrames_setFrames, State.pushFrame, State.frames_setTop _ hr', State.setTop_of_frames _ hr', State.setFrames_setFrames, hr]
      rfl
    rw [hs₂]
    exact ht
theorem Stand_tight {p : Program} {l : Launch} {e : Env} {R : Room} {s : State} {m : MethodId} {args : Array Value} {below : List Frame} {meth : Method} {c : Code} {T : State} {locs : List Loc} {c1 s1 c2 s2 : Nat} (hc : T.heap.size ≤ s.heap.size + c2) (hz : slotSum T.heap ≤ slotSum s.heap + s2)
    (X : Stand p l e R s m args below meth c T locs c1 s1) : Stand p l e R s m args below meth c T locs c2 s2 := by
  have hs0 : s.slotsUsed = slotSum s.heap := by
    have h := X.room
    simp only [State.hasRoom, Bool.and_eq_true] at h
    exact (State.slotsTrue_iff s).mp h.2
  have ht0 : T.slotsUsed = slotSum T.heap := (State.slotsTrue_iff T).mp X.book
  obtain ⟨a1, a2, a3, a4, a5, a6⟩ := X.same
  refine { X with same := ⟨a1, a2, ?_, a4, ?_, a6⟩ }
  · show T.heap.size ≤ _
    exact hc
  · have h4 : T.slotsUsed = s.slotsUsed + _ := a4
    rw [hs0, ht0] at h4
    show (((T.setVm s.vm).heap.toList.drop s.heap.size).map (·.slots.size)).sum ≤ s2
    have h5 : (T.setVm s.vm).heap = T.heap := rfl
    rw [h5]
    rw [h5] at h4
    omega
theorem Rp_tight {w : Wd} {h0 h : Hp} {s T : State} (rp0 : Rp w h0 s.heap) (rp : Rp w h T.heap) (hE : Ext h0 h) : T.heap.size ≤ s.heap.size + (hN h - hN h0) ∧ slotSum T.heap ≤ slotSum s.heap + (hZ h - hZ h0) := by
  have r1 := rp.2.1
  have r0 := rp0.2.1
  have r2 := hE.1
  have r3 := rp.2.2.1
  have r4 := rp0.2.2.1
  have r5 := hE.2.1
  exact ⟨by omega, by omega⟩
section
variable {x : Ctx} {cc : ByteArray} {own : String} {β : Type} {em : β → Xo} {F A B : Option β} {pc fr lo nL : Nat} {ret : Option FieldType} {lv : List (Nat × AV)} {st : List AV} {h : Hp}
/-- what a callee's code word gives: that of a method without handlers, or with -/
def CW (y : MethodName) (maxL : Nat) (rt : Option FieldType) (cw : Cond) : Prop := (∃ bytes, cw = Cond.code y bytes maxL rt) ∨ ∃ bytes tb, cw = Cond.codeWith y bytes maxL rt tb
theorem CW.spec {y : MethodName} {maxL : Nat} {rt : Option FieldType} {cw : Cond} (h : CW y maxL rt cw) {args : Array Value} {s : State} (hb : cw.before args s = true) :
    ∃ mk methY cY, s.methodNamed? y = some mk ∧ s.vm.method? mk = some methY ∧ methY.code = some cY ∧ cY.maxLocals = maxL ∧ parseMethodDescriptor y.desc = some methY.sig := by
  rcases h with ⟨bytes, rfl⟩ | ⟨bytes, tb, rfl⟩
  · obtain ⟨mk, hn⟩ := Cond.code_named hb
    obtain ⟨methM, cM, h1, h2, -, h4, -, -, -, h8⟩ := Cond.code_spec hn hb
    exact ⟨mk, methM, cM, hn, h1, h2, h4, h8⟩
  · obtain ⟨mk, methM, cM, hn, h1, h2, -, h4, -, -, -, h8⟩ := Cond.codeWith_spec hb
    exact ⟨mk, methM, cM, hn, h1, h2, h4, h8⟩
/-- a static call, whatever its end -/
theorem sm_callSG (C : Cx x cc own) (D : Cm x fr lo ret nL) {y : MethodName} {maxL n fr' lo' idx : Nat} {rt : Option FieldType} {cw : Cond} {As sta : List AV} {o : Xo} (hcw : CW y maxL rt cw) (hg : GoodIn lw_all (cw :: lw_all)) (hi : Cond.initialized y.cls ∈ lw_all) (hy : y.cls ≠ "java/lang/invoke/MethodHandle" ∧ y.cls ≠ "java/lang/invoke/VarHandle" ∧ (parseMethodDescriptor y.desc).map (fun d => d.parameters.length) = some n)
    (hs : Cond.static y ∈ lw_all) (hl : Cond.methodLink own idx y ∈ lw_all) (hM : ∀ (l : Launch) (w : Wd), Wok w → Ct l w y (cw :: lw_all) fr' lo' As h o)
    (hn : As.length = n) (hfr : fr' + 1 ≤ fr) (hlo : 8 + (maxL + 11) + lo' ≤ lo) (hsta : sta = As.reverse ++ st) (hsum : (st.map ac).sum ≤ 8) (hd : decode cc pc = .ok (.invokestatic idx, 3))
    (k1 : ∀ o', o = .inl o' → Sm x em F (pc + 3) lv (o'.1.toList ++ st) o'.2) (k2 : ∀ q, o = .inr q → SmT x em F pc lv q.1 q.2) : Sm x em F pc lv sta h := by
  intro o' hF
  obtain ⟨p, l, e, R, s, m, args, below, meth, c, nL', w, h0⟩ := x
  obtain ⟨hx, hb, hml, hown, hts, hK, hW, hlk, hc1, hc2, rp0, hlt⟩ := C
  have D1 : R.frames = fr := D.1
  have D2 : R.locals = lo := D.2.1
  intro H locs ls rp hE hl2 hok hL hv2 T hT X
  have h1 : hN h ≤ CN := rp.2.2.2.2.2.2.2.2.2.2.1
  have h2 : hZ h ≤ CZ := rp.2.2.2.2.2.2.2.2.2.2.2.1
  have h3 := hE.1
  have h4 := hE.2.1
  obtain ⟨mk, methM, cM, hnamed, hmethM, hcM, hlM, hsigM⟩ := hcw.spec (hts _ (hg _ List.mem_cons_self).1)
  have hstatic : methM.isStatic = true := Cond.static_spec hnamed hmethM (hts _ hs)
  obtain ⟨kP, hkP, -⟩ := className_of_methodNamed hnamed
  have hinitP : kP.init = .initialized := Cond.initialized_spec (findClass_of_methodNamed hnamed) hkP (hts _ hi)
  have hstk : (F0 m pc ls (sta.map (rv (wM w)))).stack = (As.map (rv (wM w))).reverse ++ st.map (rv (wM w)) := by
    show sta.map (rv (wM w)) = _
    rw [hsta, List.map_append, List.map_reverse]
  have hw8 : 2 * (F0 m pc ls (st.map (rv (wM w)))).monitorRoom + ((st.map (rv (wM w))).map fun v => v.category).sum ≤ 8 := lv_room (by rw [ac_sum]; exact hsum)
  have hok2 : ∀ a ∈ As, okv h a := fun a ha => hok a (by rw [hsta]; exact List.mem_append_left _ (List.mem_reverse.mpr ha))
  have hokr : ∀ a ∈ st, okv h a := fun a ha => hok a (by rw [hsta]; exact List.mem_append_right _ ha)
  have hln : (As.map (rv (wM w))).length = methM.sig.parameters.length := by
    have h9 := hy.2.2
    rw [hsigM] at h9
    rw [List.length_map, hn]
    exact (Option.some.inj h9).symm
  obtain ⟨vm₁, X₁, hstep₁⟩ := X.invokestatic hx hown (hts _ hl) hnamed hmethM hstatic hkP hinitP ⟨hy.1, hy.2.1⟩ (g := F0 m pc ls (sta.map (rv (wM w)))) rfl (argsL := As.map (rv (wM w))) (rest := st.map (rv (wM w))) hln hstk (by rw [hb]; exact hd)
  obtain ⟨kP₁, hkP₁, heP₁⟩ := X₁.warmed.alike.2.2 _ _ hkP
  obtain ⟨L, T', X', hLL, hres⟩ := callG X₁ (g := F0 m pc ls (st.map (rv (wM w)))) rfl (by rw [hml]; exact hv2.1) (by rw [hb]; exact hd) (X₁.named hnamed) (show (T.setVm vm₁).vm.method? mk = some methM by rw [X₁.warmed.alike.method?]; exact hmethM) hcM hlM hkP₁ (by rw [heP₁]; exact hinitP)
    (hM l w hW hlt) (Pcc.pre rp hK hok2 _ hT X₁.warmed) (fun z hz => pay_in hts hg z hz _ _ X₁.warmed) (by rw [D1]; exact hfr) (by rw [D2]; have h7 := hw8; show 2 * _ + ((st.map (rv (wM w))).map fun v => v.category).sum + (maxL + 11) + lo' ≤ lo; omega) (by omega) (by omega)
  cases o with
  | inl o =>
    obtain ⟨hq2, hq3, hq4, go⟩ := hres
    have kk := k1 o rfl o' hF
    obtain ⟨t1, t2⟩ := Rp_tight rp0 hq2 (hE.tr hq3)
    obtain ⟨t, a1, b1⟩ := kk T'.heap (locs ++ L) ls hq2 (hE.tr hq3) (fun q hq => (hl2 q hq).ext hq3) (fun u hu => by
      rcases List.mem_append.mp hu with z | z
      · exact hq4 u (Option.mem_toList.mp z)
      · exact (hokr u z).ext hq3) (fun q hq => by
      rcases List.mem_append.mp hq with z | z
      · exact hL q z
      · exact hLL q z) hv2 T' rfl (Stand_tight t1 t2 X')
    refine ⟨t, hstep₁ _ fun acts => ?_, b1⟩
    rw [doInvoke_state]
    have e5 : (o.1.toList ++ st).map (rv (wM w)) = (o.1.map (rv (wM w))).toList ++ st.map (rv (wM w)) := by
      rw [List.map_append]; cases o.1 <;> rfl
    rw [e5] at a1
    have := go t a1
    rw [doInvoke_state] at this
    exact this
  | inr q =>
    obtain ⟨hq2, hq3, hq4, hq5, go⟩ := hres
    have kk := k2 q rfl o' hF
    obtain ⟨t1, t2⟩ := Rp_tight rp0 hq2 (hE.tr hq3)
    obtain ⟨t, a1, b1⟩ := kk T'.heap (locs ++ L) ls (st.map (rv (wM w))) hq2 (hE.tr hq3) (fun q hq => (hl2 q hq).ext hq3) (fun q hq => by
      rcases List.mem_append.mp hq with z | z
      · exact hL q z
      · exact hLL q z) hv2 hq4 hq5 T' rfl (Stand_tight t1 t2 X')
    refine ⟨t, hstep₁ _ fun acts => ?_, b1⟩
    rw [doInvoke_state]
    have := go t a1
    rw [doInvoke_state] at this
    exact this
/-- a virtual call, whatever its end -/
theorem sm_callVG (C : Cx x cc own) (D : Cm x fr lo ret nL) {y : MethodName} {maxL n fr' lo' idx ci a : Nat} {rt : Option FieldType} {cw : Cond} {As sta : List AV} {o : Xo} (hcw : CW y maxL rt cw) (hg : GoodIn lw_all (cw :: lw_all)) (hi : Cond.initialized y.cls ∈ lw_all) (hy : y.cls ≠ "java/lang/invoke/MethodHandle" ∧ y.cls ≠ "java/lang/invoke/VarHandle" ∧ (parseMethodDescriptor y.desc).map (fun d => d.parameters.length) = some n)
    (hin : Cond.instanceMethod y ∈ lw_all) (hse : Cond.selects y.cls y y ∈ lw_all) (hc : ∃ q : vw_C, gCL[ci]? = some q ∧ q.1 = y.cls ∧ ci < 60) (ha : a ≠ 0) (hl : Cond.methodLink own idx y ∈ lw_all) (hM : ∀ (l : Launch) (w : Wd), Wok w → Ct l w y (cw :: lw_all) fr' lo' (vR (ci + 1) a :: As) h o)
    (hn : As.length = n) (hfr : fr' + 1 ≤ fr) (hlo : 8 + (maxL + 11) + lo' ≤ lo) (hsta : sta = As.reverse ++ (vR (ci + 1) a :: st)) (hsum : (st.map ac).sum ≤ 8) (hd : decode cc pc = .ok (.invokevirtual idx, 3))
    (k1 : ∀ o', o = .inl o' → Sm x em F (pc + 3) lv (o'.1.toList ++ st) o'.2) (k2 : ∀ q, o = .inr q → SmT x em F pc lv q.1 q.2) : Sm x em F pc lv sta h := by
  intro o' hF
  obtain ⟨p, l, e, R, s, m, args, below, meth, c, nL', w, h0⟩ := x
  obtain ⟨hx, hb, hml, hown, hts, hK, hW, hlk, hc1, hc2, rp0, hlt⟩ := C
  have D1 : R.frames = fr := D.1
  have D2 : R.locals = lo := D.2.1
  intro H locs ls rp hE hl2 hok hL hv2 T hT X
  have h1 : hN h ≤ CN := rp.2.2.2.2.2.2.2.2.2.2.1
  have h2 : hZ h ≤ CZ := rp.2.2.2.2.2.2.2.2.2.2.2.1
  have h3 := hE.1
  have h4 := hE.2.1
  obtain ⟨mk, methM, cM, hnamed, hmethM, hcM, hlM, hsigM⟩ := hcw.spec (hts _ (hg _ List.mem_cons_self).1)
  obtain ⟨mk', methM', hnamed', hmethM', hstM, habM⟩ := Cond.instanceMethod_spec (hts _ hin)
  cases hnamed.symm.trans hnamed'
  cases hmethM.symm.trans hmethM'
  have hoka : okv h (vR (ci + 1) a) := hok _ (by rw [hsta]; exact List.mem_append_right _ List.mem_cons_self)
  have hka : kd h a = ci + 1 ∧ a < hN h := Or.resolve_left hoka ha
  obtain ⟨q, hq, hqn, hci⟩ := hc
  obtain ⟨hp, q', hq', cell, q1, q2, q3, q4⟩ := rp.obj hW hka.1 hci hka.2
  cases hq.symm.trans hq'
  obtain ⟨hS, hfc, -⟩ := hK.1 ci _ hq
  obtain ⟨c2, r2, m2, z1, z2, z3, z4, kP, hkP, hkPi⟩ := Cond.selects_spec (hts _ hse)
  have hcls : s.vm.findClass y.cls = some cell.cls := by rw [q2, ← hqn]; exact hfc
  cases hcls.symm.trans z1
  cases (State.methodFound?_of_named hnamed ⟨hy.1, hy.2.1⟩).symm.trans z2
  cases hnamed.symm.trans z3
  have hselP : selectMethod e.platform s.vm cell.cls mk = .method mk := by rw [Launch.admits_selectMethod X.admits]; exact z4
  have hstk : (F0 m pc ls (sta.map (rv (wM w)))).stack = (As.map (rv (wM w))).reverse ++ .ref (wM w a) :: st.map (rv (wM w)) := by
    show sta.map (rv (wM w)) = _
    rw [hsta, List.map_append, List.map_reverse, List.map_cons, rv_nz _ ha]
  have hw8 : 2 * (F0 m pc ls (st.map (rv (wM w)))).monitorRoom + ((st.map (rv (wM w))).map fun v => v.category).sum ≤ 8 := lv_room (by rw [ac_sum]; exact hsum)
  have hok2 : ∀ b ∈ (vR (ci + 1) a :: As), okv h b := ok_c hoka (fun b hb => hok b (by rw [hsta]; exact List.mem_append_left _ (List.mem_reverse.mpr hb)))
  have hokr : ∀ b ∈ st, okv h b := fun b hb => hok b (by rw [hsta]; exact List.mem_append_right _ (List.mem_cons_of_mem _ hb))
  have hln : (As.map (rv (wM w))).length = methM.sig.parameters.length := by
    have h9 := hy.2.2
    rw [hsigM] at h9
    rw [List.length_map, hn]
    exact (Option.some.inj h9).symm
  have hpre : ∀ U : State, U.heap = H → s.WarmedH U.vm → Pcc w (vR (ci + 1) a :: As) h (Value.ref (wM w a) :: As.map (rv (wM w))).toArray U := fun U hU hW2 => by
    have := Pcc.pre rp hK hok2 U hU hW2
    rw [List.map_cons, rv_nz _ ha] at this
    exact this
  obtain ⟨vm₁, X₁, hstep₁⟩ := X.invokevirtual hx hown (hts _ hl) hnamed hmethM hstM hkP hkPi ⟨hy.1, hy.2.1⟩ (a := wM w a) (cell := cell) (by rw [hT]; exact q1) (fun z h => by rw [q3] at h; cases h) hselP hmethM habM hkP hkPi (g := F0 m pc ls (sta.map (rv (wM w)))) rfl (argsL := As.map (rv (wM w))) (rest := st.map (rv (wM w))) hln hstk (by rw [hb]; exact hd)
  have hinitP : kP.init = .initialized := Cond.initialized_spec (findClass_of_methodNamed hnamed) hkP (hts _ hi)
  obtain ⟨kP₁, hkP₁, heP₁⟩ := X₁.warmed.alike.2.2 _ _ hkP
  obtain ⟨L, T', X', hLL, hres⟩ := callG X₁ (g := F0 m pc ls (st.map (rv (wM w)))) rfl (by rw [hml]; exact hv2.1) (by rw [hb]; exact hd) (X₁.named hnamed) (show (T.setVm vm₁).vm.method? mk = some methM by rw [X₁.warmed.alike.method?]; exact hmethM) hcM hlM hkP₁ (by rw [heP₁]; exact hinitP)
    (hM l w hW hlt) (hpre _ hT X₁.warmed) (fun z hz => pay_in hts hg z hz _ _ X₁.warmed) (by rw [D1]; exact hfr) (by rw [D2]; have h7 := hw8; show 2 * _ + ((st.map (rv (wM w))).map fun v => v.category).sum + (maxL + 11) + lo' ≤ lo; omega) (by omega) (by omega)
  cases o with
  | inl o =>
    obtain ⟨hq2, hq3, hq4, go⟩ := hres
    have kk := k1 o rfl o' hF
    obtain ⟨t1, t2⟩ := Rp_tight rp0 hq2 (hE.tr hq3)
    obtain ⟨t, a1, b1⟩ := kk T'.heap (locs ++ L) ls hq2 (hE.tr hq3) (fun q hq => (hl2 q hq).ext hq3) (fun u hu => by
      rcases List.mem_append.mp hu with z | z
      · exact hq4 u (Option.mem_toList.mp z)
      · exact (hokr u z).ext hq3) (fun q hq => by
      rcases List.mem_append.mp hq with z | z
      · exact hL q z
      · exact hLL q z) hv2 T' rfl (Stand_tight t1 t2 X')
    refine ⟨t, hstep₁ _ fun acts => ?_, b1⟩
    rw [doInvoke_state]
    have e5 : (o.1.toList ++ st).map (rv (wM w)) = (o.1.map (rv (wM w))).toList ++ st.map (rv (wM w)) := by
      rw [List.map_append]; cases o.1 <;> rfl
    rw [e5] at a1
    have := go t a1
    rw [doInvoke_state] at this
    exact this
  | inr q =>
    obtain ⟨hq2, hq3, hq4, hq5, go⟩ := hres
    have kk := k2 q rfl o' hF
    obtain ⟨t1, t2⟩ := Rp_tight rp0 hq2 (hE.tr hq3)
    obtain ⟨t, a1, b1⟩ := kk T'.heap (locs ++ L) ls (st.map (rv (wM w))) hq2 (hE.tr hq3) (fun q hq => (hl2 q hq).ext hq3) (fun q hq => by
      rcases List.mem_append.mp hq with z | z
      · exact hL q z
      · exact hLL q z) hv2 hq4 hq5 T' rfl (Stand_tight t1 t2 X')
    refine ⟨t, hstep₁ _ fun acts => ?_, b1⟩
    rw [doInvoke_state]
    have := go t a1
    rw [doInvoke_state] at this
    exact this
end
