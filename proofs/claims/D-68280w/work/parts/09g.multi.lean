/-! multianewarray of two dimensions -/
section
theorem mna_cold {Q : Unit → Pre} {E : CtlPost} {e : Env} {d : Bool} {acts : List Action} {s : State} {f : JFrame} {index dims c : Nat} {vm' : Vm} (hs : s.topJava?.isSome) (hg : (Jvm.resolveClass f.method.cls index).Gives e.toSetting s.vm (.ok c) vm') (hr : vm'.classReady f.method.cls index c)
    (hsz : vm'.classes.size ≤ s.vm.classes.size) :
    wp (Op.multianewarray.sem index dims) Q E e d acts (s.setTop f) ↔ wp (Op.multianewarray.sem index dims) Q E e d acts ((s.setVm vm').setTop f) := by
  simp only [Op.multianewarray.sem, wp_bind']
  exact W.resolveClassAt_transfer (s := s.setTop f) (State.method?_setTop f hs) hg hr hsz
def mnC (cO : ClassId) (N b : Nat) : Nat → Cell
  | 0 => { cls := cO, slots := Array.replicate N .null, vm := .none }
  | i + 1 => (mnC cO N b i).setSlot i (.ref (b + 1 + i))
def mnD (cI : ClassId) (K : Nat) (ty : FieldType) : Cell := { cls := cI, slots := Array.replicate K (defaultValue ty), vm := .none }
def mnS (T : State) (cO cI : ClassId) (N K : Nat) (ty : FieldType) : Nat → State
  | 0 => T.pushCell (mnC cO N T.heap.size 0)
  | i + 1 => ((mnS T cO cI N K ty i).pushCell (mnD cI K ty)).setCell T.heap.size (mnC cO N T.heap.size (i + 1))
theorem mnC_facts (cO : ClassId) (N b : Nat) : ∀ i, (mnC cO N b i).cls = cO ∧ (mnC cO N b i).vm = .none ∧ (mnC cO N b i).slots.size = N
  | 0 => ⟨rfl, rfl, by simp [mnC]⟩
  | i + 1 => by
    obtain ⟨h1, h2, h3⟩ := mnC_facts cO N b i
    exact ⟨h1, h2, by simp [mnC, Cell.setSlot, h3]⟩
variable {p : Program} {l : Launch} {e : Env} {R : Room} {s : State} {m : MethodId} {args : Array Value} {below : List Frame} {meth : Method} {c : Code} {locs : List Loc} {cells slots : Nat} {H : Heap} {Q : State → Prop}
theorem mnS_stand {T : State} (X : Stand p l e R s m args below meth c T locs cells slots) (cO cI : ClassId) (N K : Nat) (ty : FieldType) : ∀ i,
    Stand p l e R s m args below meth c (mnS T cO cI N K ty i) (locs ++ (List.range i).map (fun j => ⟨T.heap.size, j⟩)) (cells + 1 + i) (slots + N + i * K) ∧ (mnS T cO cI N K ty i).heap.size = T.heap.size + 1 + i ∧ (mnS T cO cI N K ty i).heap[T.heap.size]? = some (mnC cO N T.heap.size i) ∧ (mnS T cO cI N K ty i).vm = T.vm
  | 0 => by
    have h := X.pushed (mnC cO N T.heap.size 0)
    rw [(mnC_facts cO N T.heap.size 0).2.2] at h
    refine ⟨by rw [List.range_zero, List.map_nil, List.append_nil, Nat.add_zero, Nat.zero_mul, Nat.add_zero]; exact h, ?_, ?_, rfl⟩
    · show (T.heap.push _).size = _; simp
    · show (T.heap.push _)[T.heap.size]? = _; simp
  | i + 1 => by
    obtain ⟨h1, h2, h3, h4⟩ := mnS_stand X cO cI N K ty i
    have g1 := h1.pushed (mnD cI K ty)
    have g2 : ((mnS T cO cI N K ty i).pushCell (mnD cI K ty)).heap[T.heap.size]? = some (mnC cO N T.heap.size i) := by
      show ((mnS T cO cI N K ty i).heap.push _)[T.heap.size]? = _
      rw [Array.getElem?_push, if_neg (by omega)]; exact h3
    have g3 := g1.stored g2 i (.ref (T.heap.size + 1 + i))
    refine ⟨?_, ?_, ?_, h4⟩
    · have e1 : slots + N + i * K + (mnD cI K ty).slots.size = slots + N + (i + 1) * K := by simp [mnD, Nat.add_mul]; omega
      rw [e1] at g3
      rw [List.range_succ, List.map_append, ← List.append_assoc]
      exact g3
    · show ((((mnS T cO cI N K ty i).heap.push _).setIfInBounds _ _)).size = _
      simp [h2]; omega
    · show ((((mnS T cO cI N K ty i).heap.push _).setIfInBounds _ _))[T.heap.size]? = _
      rw [Array.getElem?_setIfInBounds_self_of_lt (by simp [h2]; omega)]
theorem W.mna {cc : ByteArray} (hexec : p.tables.exec = Jvm.exec) (hb : c.code = cc) {own Cn : String} {index : Nat} (hown : s.vm.findClass own = some m.cls) (hclink : (Cond.classLink own index Cn).before args s = true)
    {cO cI cP : ClassId} {kO kI : Class} {tyI : FieldType} (hfO : s.vm.findClass Cn = some cO) (hkO : s.vm.classes[cO]? = some kO) (hkindO : kO.kind = .array cI (.array tyI)) (hkI : s.vm.classes[cI]? = some kI) (hkindI : kI.kind = .array cP tyI) (hdf : fits tyI (defaultValue tyI) = true)
    {g : JFrame} (hg : g.method = m) (hdg : decode cc g.pc = .ok (.multianewarray index 2, 4)) {n k : Int32} {N K : Nat} {rest : List Value} (hstack : g.stack = .int k :: .int n :: rest) (hn : ¬ n < 0) (hk : ¬ k < 0) (hN : n.toNatClampNeg = N) (hK : k.toNatClampNeg = K) (hn0 : n ≠ 0)
    (hb1 : N * 4 ≤ 536870912) (hb2 : K * componentBytes tyI ≤ 536870912) (hK8 : K ≤ 536870912) (hcells : cells + 1 + N ≤ R.cells) (hslots : slots + N + N * K ≤ R.slots)
    (I : Nat → Heap → List Loc → Prop) (hI0 : I 0 (H.push (mnC cO N H.size 0)) locs)
    (hIs : ∀ i H' L, i < N → H'.size = H.size + 1 + i → H'[H.size]? = some (mnC cO N H.size i) → I i H' L → I (i + 1) ((H'.push (mnD cI K tyI)).setIfInBounds H.size (mnC cO N H.size (i + 1))) (L ++ [⟨H.size, i⟩]))
    (kk : ∀ H' L, I N H' L → W p l e R s m args below meth c H' L (cells + 1 + N) (slots + N + N * K) Q { g with pc := g.pc + 4, stack := .ref H.size :: rest }) : W p l e R s m args below meth c H locs cells slots Q g := by
  intro T hT X
  subst hT; subst hb; subst hg
  have hpl : e.platform.magicAccessors = ({} : Platform).magicAccessors := by rw [X.admits.platform]
  obtain ⟨cc', hfcc, hcl⟩ := Cond.classLink_spec hown hclink e.platform hpl
  cases hfO.symm.trans hfcc
  obtain ⟨hg₁, hwarm₁, hready₁⟩ := State.classEntry (e := e) X.warmed hcl
  have hnr : (T.vm.noted g.method.cls index (.cls cO)).classes.size ≤ T.vm.classes.size := by no_record
  generalize hvm1 : T.vm.noted g.method.cls index (.cls cO) = vm₁ at hg₁ hwarm₁ hready₁ hnr
  have hal : s.vm.Alike vm₁ := hwarm₁.alike
  obtain ⟨kO₁, hkO₁, heO⟩ := hal.2.2 _ _ hkO
  have hkindO₁ : kO₁.kind = .array cI (.array tyI) := by rw [heO]; exact hkindO
  obtain ⟨kI₁, hkI₁, heI⟩ := hal.2.2 _ _ hkI
  have hkindI₁ : kI₁.kind = .array cP tyI := by rw [heI]; exact hkindI
  have hl1 : ∀ z : Nat, z ≤ 536870912 → ¬ z > e.platform.arrayLengthLimit := fun z hz => by rw [Launch.admits_arrayLengthLimit X.admits]; omega
  have hheap1 : ¬ N * componentBytes (.array tyI) > e.platform.maxHeapBytes := by
    rw [Launch.admits_maxHeapBytes X.admits]; show ¬ N * 4 > 536870912; omega
  have hheap2 : ¬ K * componentBytes tyI > e.platform.maxHeapBytes := by
    rw [Launch.admits_maxHeapBytes X.admits]; omega
  have X₁ := X.noted hwarm₁
  have hstk : g.stack = ([.int n, .int k] : List Value).reverse ++ rest := hstack
  have hsz1 : (T.setVm vm₁).heap.size = T.heap.size := rfl
  have hIall : ∀ i, i ≤ N → I i (mnS (T.setVm vm₁) cO cI N K tyI i).heap (locs ++ (List.range i).map (fun j => ⟨T.heap.size, j⟩)) := by
    intro i
    induction i with
    | zero => intro _; rw [List.range_zero, List.map_nil, List.append_nil]; exact hI0
    | succ i ih =>
      intro hi
      obtain ⟨-, h2, h3, -⟩ := mnS_stand X₁ cO cI N K tyI i
      have := hIs i _ _ (by omega) h2 h3 (ih (by omega))
      rw [List.range_succ, List.map_append, ← List.append_assoc]
      exact this
  obtain ⟨XN, -, -, -⟩ := mnS_stand X₁ cO cI N K tyI N
  obtain ⟨t', a1, b1⟩ := kk _ _ (hIall N (Nat.le_refl _)) _ rfl XN
  refine ⟨t', ?_, b1⟩
  refine Steps.instr (c := c) X.here ?_
  rw [hdg]
  simp only [hexec, exec, wpRun]
  rw [mna_cold X.here.top hg₁ hready₁ hnr]
  have htop : (T.setVm vm₁).topJava?.isSome := X.here.top
  have hkO2 : ((T.setVm vm₁).setTop g).vm.classes[cO]? = some kO₁ := hkO₁
  simp only [Op.multianewarray.sem, wp_bind', W.resolveClassAt_ready (State.method?_setTop g htop) hready₁]
  rw [show (2 : Nat) = ([.int n, .int k] : List Value).length from rfl, Op.popN_top htop hstk]
  simp only [List.mapM_cons, List.mapM_nil, wp_bind', wp_pure', Op.multianewarray.make, W.ite, hn, if_false, W.theClass, State.vm_setTop]
  have hn0' : (n == 0) = false := by simpa using hn0
  have hg1 : ∀ st : State, st.topJava?.isSome → (st.setTop { g with stack := rest }).topJava? = some { g with stack := rest } := fun st h => State.topJava?_setTop' _ h
  refine ⟨kO₁, hkO₁, ?_⟩
  simp only [hkindO₁, hn0', hk, if_false, Bool.false_eq_true, wp_bind', hN, hK]
  obtain ⟨r1, r2⟩ := X₁.roomAbove (a := 1) (b := N) (by omega) (by omega)
  refine W.newArray_of (s := ((T.setVm vm₁).setTop { g with stack := rest })) (k := kO₁) hkO₁ hkindO₁ (hl1 _ (by omega)) hheap1 (by show T.heap.size < _; have h9 : (T.setVm vm₁).heap.size = T.heap.size := rfl; omega) (by show (T.setVm vm₁).slotsUsed + N ≤ _; exact r2) rfl (fun acts' => ?_)
  rw [Std.Legacy.Range.forIn_eq_forIn_range']
  simp only [Std.Legacy.Range.size, Nat.sub_zero, Nat.add_sub_cancel, Nat.div_one]
  rw [wp_bind']
  have hcm : ∀ (st : State) (f : JFrame) (cl : Cell), (st.setTop f).pushCell cl = (st.pushCell cl).setTop f := fun st f cl => rfl
  refine wp_forIn_inv (fun rest' s' => ∃ i, i ≤ N ∧ rest' = List.range' i (N - i) ∧ s' = (mnS (T.setVm vm₁) cO cI N K tyI i).setTop { g with stack := rest }) _ (List.range' 0 N) ⟨0, Nat.zero_le _, rfl, ?_⟩ ?_ ?_
  · rfl
  · intro x rest'' s' d' acts'' Q' hI hk2
    obtain ⟨i, hi, hr, rfl⟩ := hI
    have hiN : i < N := by
      by_cases hz : i < N
      · exact hz
      · rw [show N - i = 0 by omega] at hr; cases hr
    rw [show N - i = (N - (i + 1)) + 1 by omega, List.range'_succ] at hr
    obtain ⟨hx, hr2⟩ := List.cons.inj hr
    subst hx
    obtain ⟨Y1, Y2, Y3, Y4⟩ := mnS_stand X₁ cO cI N K tyI x
    have hkI2 : ((mnS (T.setVm vm₁) cO cI N K tyI x).setTop { g with stack := rest }).vm.classes[cI]? = some kI₁ := by
      show (mnS (T.setVm vm₁) cO cI N K tyI x).vm.classes[cI]? = some kI₁
      rw [Y4]; exact hkI₁
    simp only [wp_bind', W.theClass]
    refine ⟨kI₁, hkI2, ?_⟩
    simp only [hkindI₁]
    have hroom : x * K + K ≤ N * K := by
      have := Nat.mul_le_mul_right K (show x + 1 ≤ N by omega)
      rw [Nat.add_mul, Nat.one_mul] at this; exact this
    obtain ⟨r1, r2⟩ := Y1.roomAbove (a := 1) (b := K) (by omega) (by omega)
    refine W.newArray_of (s := (mnS (T.setVm vm₁) cO cI N K tyI x).setTop { g with stack := rest }) (k := kI₁) hkI2 hkindI₁ (hl1 _ (by omega)) hheap2 (by show (mnS (T.setVm vm₁) cO cI N K tyI x).heap.size < _; omega) r2 hdf (fun acts3 => ?_)
    rw [wp_bind', W.writeLoc]
    have hpz : (mnS (T.setVm vm₁) cO cI N K tyI x).heap.size ≠ T.heap.size := by omega
    refine ⟨mnC cO N T.heap.size x, ?_, (by rw [(mnC_facts cO N T.heap.size x).2.1]; intro hc; cases hc), (by rw [(mnC_facts cO N T.heap.size x).2.2]; exact hiN), ?_, ?_⟩
    · show ((mnS (T.setVm vm₁) cO cI N K tyI x).heap.push _)[T.heap.size]? = _
      rw [Array.getElem?_push, if_neg (fun h => hpz h.symm)]; exact Y3
    · rw [(mnC_facts cO N T.heap.size x).1, (mnC_facts cO N T.heap.size x).2.1]
      have : (((mnS (T.setVm vm₁) cO cI N K tyI x).setTop { g with stack := rest }).pushCell { cls := cI, slots := Array.replicate K (defaultValue tyI) }).vm.classes[cO]? = some kO₁ := by
        show (mnS (T.setVm vm₁) cO cI N K tyI x).vm.classes[cO]? = some kO₁
        rw [Y4]; exact hkO₁
      have hfs : ∀ (st : State) (j : Nat) (a : Addr), st.vm.classes[cO]? = some kO₁ → st.fitsSlot cO .none j (.ref a) = true := by
        intro st j a h
        simp [State.fitsSlot, State.slotType?, h, hkindO₁, fits]
      exact hfs _ _ _ this
    · simp only [wp_pure']
      refine hk2 _ _ _ ⟨x + 1, by omega, hr2, ?_⟩
      show _ = (((mnS (T.setVm vm₁) cO cI N K tyI x).pushCell (mnD cI K tyI)).setCell T.heap.size (mnC cO N T.heap.size (x + 1))).setTop { g with stack := rest }
      show State.setCell _ T.heap.size ((mnC cO N T.heap.size x).setSlot x (.ref (mnS (T.setVm vm₁) cO cI N K tyI x).heap.size)) = _
      rw [Y2]
      rfl
  · intro s' d' acts'' hI
    obtain ⟨i, hi, hr, rfl⟩ := hI
    have hiN : i = N := by
      by_cases hz : i < N
      · rw [show N - i = (N - (i + 1)) + 1 by omega, List.range'_succ] at hr; cases hr
      · omega
    subst hiN
    simp only [wp_pure', wp_bind', W.mark, W.pushRef]
    have htop2 : (mnS (T.setVm vm₁) cO cI i K tyI i).topJava?.isSome := XN.here.top
    refine ⟨_, State.topJava?_setTop' _ htop2, fun acts3 => ?_⟩
    simp [jvm, afterInstr, State.setTop_setTop, State.topJava?_setTop' _ htop2]
    rw [State.modifyTopJava_setTop]
    exact a1
end
/-- the heap with i rows of a new array of arrays -/
def nwM (h : Hp) (kO kI N K : Nat) : Nat → Hp
  | 0 => nwC h kO N N
  | i + 1 => sR (nwC (nwM h kO kI N K i) kI K K) (hN h) i (hN h + 1 + i)
theorem nwM_facts (h : Hp) (kO kI N K : Nat) : ∀ i, hN (nwM h kO kI N K i) = hN h + 1 + i ∧ hZ (nwM h kO kI N K i) = hZ h + N + i * K ∧ kd (nwM h kO kI N K i) (hN h) = kO ∧ ln (nwM h kO kI N K i) (hN h) = N
  | 0 => ⟨rfl, by rw [Nat.zero_mul]; rfl, kd_nw _ _ _ _, ln_nw _ _ _ _⟩
  | i + 1 => by
    obtain ⟨h1, h2, h3, h4⟩ := nwM_facts h kO kI N K i
    refine ⟨?_, ?_, ?_, ?_⟩
    · show hN (nwM h kO kI N K i) + 1 = _; omega
    · show hZ (nwM h kO kI N K i) + K = _; rw [h2, Nat.add_mul]; omega
    · show ((nwC (nwM h kO kI N K i) kI K K).2.1 (hN h)).1 = _
      rw [show (nwC (nwM h kO kI N K i) kI K K).2.1 (hN h) = (nwM h kO kI N K i).2.1 (hN h) from if_neg (by omega)]; exact h3
    · show ((nwC (nwM h kO kI N K i) kI K K).2.1 (hN h)).2 = _
      rw [show (nwC (nwM h kO kI N K i) kI K K).2.1 (hN h) = (nwM h kO kI N K i).2.1 (hN h) from if_neg (by omega)]; exact h4
theorem Ext.nwM (h : Hp) (kO kI N K : Nat) : ∀ i, Ext h (nwM h kO kI N K i)
  | 0 => Ext.nw _ _ _
  | i + 1 => ((Ext.nwM h kO kI N K i).tr (Ext.nw kI K K)).tr (Ext.of rfl rfl)
section
variable {x : Ctx} {cc : ByteArray} {own : String} {β : Type} {em : β → Xo} {F A B : Option β} {pc fr lo nL : Nat} {ret : Option FieldType} {lv : List (Nat × AV)} {st : List AV} {h : Hp}
theorem sm_mna (C : Cx x cc own) {ti tj idx N K : Nat} {n k : Int} {ty : FieldType} {Cn : String} {f : Hp → Option β} (hti : ti < 20) (htj : tj < 20) (hty : gTA ti = .array ty) (htyj : gTA tj = ty) (hts1 : (FieldType.array ty).toString = "[" ++ ty.toString) (hCn : Cn = "[" ++ (FieldType.array ty).toString) (hkn : gRkA.getD ti 0 = tj + 101) (hfl : fk ty ≠ 3) (hdf : fits ty (defaultValue ty) = true) (hcb : componentBytes ty ≤ 8) (hl : (Cond.classLink own idx Cn) ∈ lw_all) (hnN : n = (N : Int)) (hkK : k = (K : Int)) (hN1 : 0 < N) (hN2 : N ≤ 4096) (hK2 : K ≤ 4096) (hn : hN h + 1 + N ≤ CN ∧ hZ h + N + N * K ≤ CZ) (hd : decode cc pc = .ok (.multianewarray idx 2, 4)) (kk : ∀ h1, hN h ≠ 0 → Sm x em (f h1) (pc + 4) lv (vR (ti + 101) (hN h) :: st) h1) : Sm x em (lt1 (nwM h (ti + 101) (tj + 101) N K N) f) pc lv (vI k :: vI n :: st) h := by
  intro o hF
  obtain ⟨p, l, e, R, s, m, args, below, meth, c, nL', w, h0⟩ := x
  obtain ⟨hx, hb, hml, hown, hts, hK, hW, hlk, hc1, hc2, rp0, hlt⟩ := C
  intro H locs ls rp hE hl2 hs hL hv2
  have g1 := hE.1
  have g2 := hE.2.1
  have hp : PN1 ≤ hN h := rp.1
  have hM := hW.1 (hN h) hp
  have hsz := rp.2.1
  have hadr : wM w (hN h) = H.size := by omega
  have hne : hN h ≠ 0 := by unfold PN1 at hp; omega
  have kk := kk _ hne o hF
  obtain ⟨kA, comp, k1, k2, k3, kc, k4⟩ := (hK.2.1 ti hti).2.2 (by rw [hty]; rfl)
  have hfO := (hK.2.1 ti hti).2.1
  rw [hty] at k2 k3 hfO
  have h8 := (hK.2.1 tj htj).2.1
  rw [htyj, ← hts1] at h8
  have hcomp : comp = wA w tj := Option.some.inj (k3.symm.trans h8)
  subst hcomp
  have hkI := (hK.2.1 tj htj).1 0 (fun _ => .null)
  rw [htyj] at hkI
  obtain ⟨-, kI, hkI1, cP, hkI2⟩ := hkI
  subst hnN; subst hkK
  have c1 : c32 (N : Int) := ⟨by omega, by omega⟩
  have c2 : c32 (K : Int) := ⟨by omega, by omega⟩
  have cl1 : (Int32.ofInt (N : Int)).toNatClampNeg = N := by rw [of32_clamp c1]; rfl
  have cl2 : (Int32.ofInt (K : Int)).toNatClampNeg = K := by rw [of32_clamp c2]; rfl
  have hadr2 : ∀ i, wM w (hN h + 1 + i) = H.size + 1 + i := fun i => by
    have := hW.1 (hN h + 1 + i) (by omega)
    omega
  have hbK : K * componentBytes ty ≤ 536870912 := by
    calc K * componentBytes ty ≤ 4096 * 8 := Nat.mul_le_mul hK2 hcb
      _ ≤ 536870912 := by decide
  refine W.mna (I := fun i H' L => Rp w (nwM h (ti + 101) (tj + 101) N K i) H' ∧ ∀ q ∈ L, wB w ≤ q.base) hx hb hown (hts _ hl) (by rw [hCn]; exact hfO) k1 k2 hkI1 hkI2 hdf rfl hd rfl
    (fun z => by have := (of32_lt c1 (by decide : c32 0)).mp z; omega) (fun z => by have := (of32_lt c2 (by decide : c32 0)).mp z; omega) cl1 cl2 (fun z => by have := (of32_eq c1 (by decide : c32 0)).mp z; omega) (by omega) hbK (by omega) (by omega) (by omega) ⟨?_, hL⟩ ?_ ?_
  · have e0 : mnC (wA w ti) N H.size 0 = arrV (wA w ti) N (fun _ => .null) := arrV_new _ _ _
    rw [e0]
    generalize hH' : Array.push H (arrV (wA w ti) N fun _ => Value.null) = H'
    have e1 : H'[H.size]? = some (arrV (wA w ti) N fun _ => Value.null) := by rw [← hH']; simp
    have e2 : H'.size = H.size + 1 := by rw [← hH']; simp
    have e3 : ∀ q : Nat, q < H.size → H'[q]? = H[q]? := fun q hq => by rw [← hH', Array.getElem?_push, if_neg (Nat.ne_of_lt hq)]
    refine rp.nw hW e1 e2 e3 (by rw [arrV_size]) (Or.inr ⟨ti, kd_nw _ _ _ _, hti, ?_⟩) (by omega) (by omega) (Nat.le_refl _)
    show H'[wM w (hN h)]? = some (arrV _ (ln _ _) _)
    rw [hadr, e1, ln_nw, hty]
    congr 2
    funext k
    exact dv_fv (ty := .array ty) (by simp [fk]) w (if_pos rfl) (if_pos rfl) (if_pos rfl)
  · intro i H1 L hi hs1 hcell hI
    obtain ⟨rp1, hL1⟩ := hI
    obtain ⟨f1, f2, f3, f4⟩ := nwM_facts h (ti + 101) (tj + 101) N K i
    have hroom : i * K + K ≤ N * K := by
      have := Nat.mul_le_mul_right K (show i + 1 ≤ N by omega)
      rw [Nat.add_mul, Nat.one_mul] at this; exact this
    refine ⟨?_, fun q hq => ?_⟩
    · -- the row
      have e0 : mnD (wA w tj) K ty = arrV (wA w tj) K (fun _ => defaultValue ty) := arrV_new _ _ _
      generalize hH2 : Array.push H1 (mnD (wA w tj) K ty) = H2
      have e1 : H2[H1.size]? = some (arrV (wA w tj) K (fun _ => defaultValue ty)) := by rw [← hH2, e0]; simp
      have e2 : H2.size = H1.size + 1 := by rw [← hH2]; simp
      have e3 : ∀ q : Nat, q < H1.size → H2[q]? = H1[q]? := fun q hq => by rw [← hH2, Array.getElem?_push, if_neg (Nat.ne_of_lt hq)]
      have rp2 : Rp w (nwC (nwM h (ti + 101) (tj + 101) N K i) (tj + 101) K K) H2 := by
        refine rp1.nw hW e1 e2 e3 (by rw [arrV_size]) (Or.inr ⟨tj, kd_nw _ _ _ _, htj, ?_⟩) (by omega) (by omega) (Nat.le_refl _)
        show H2[wM w (hN _)]? = some (arrV _ (ln _ _) _)
        rw [ln_nw, f1, hadr2, htyj]
        rw [hs1] at e1
        rw [e1]
        congr 2
        funext k
        exact dv_fv hfl w (if_pos f1.symm) (if_pos f1.symm) (if_pos f1.symm)
      generalize hh2 : nwC (nwM h (ti + 101) (tj + 101) N K i) (tj + 101) K K = h2 at rp2
      have n2 : hN h2 = hN h + 1 + i + 1 := by rw [← hh2]; show hN (nwM h (ti + 101) (tj + 101) N K i) + 1 = _; omega
      have m2 : h2.2.1 (hN h) = (nwM h (ti + 101) (tj + 101) N K i).2.1 (hN h) := by rw [← hh2]; exact if_neg (by omega)
      have kd2 : kd h2 (hN h) = ti + 101 := by unfold kd; rw [m2]; exact f3
      have ln2 : ln h2 (hN h) = N := by unfold ln; rw [m2]; exact f4
      obtain ⟨hpa, -, oa⟩ := rp2.arr hW kd2 (by omega)
      have oa' : H2[H.size]? = some (arrV (wA w ti) N (fun k => fv w h2 (hN h) (.array ty) k)) := by
        have := oa
        unfold oA at this
        rw [hadr, ln2, hty] at this
        exact this
      have hmc : mnC (wA w ti) N H.size i = arrV (wA w ti) N (fun k => fv w h2 (hN h) (.array ty) k) := by
        have h9 := e3 H.size (by omega)
        rw [hcell, oa'] at h9
        exact (Option.some.inj h9).symm
      have hmc2 : mnC (wA w ti) N H.size (i + 1) = arrV (wA w ti) N (updV (fun k => fv w h2 (hN h) (.array ty) k) i (.ref (H.size + 1 + i))) := by
        show (mnC (wA w ti) N H.size i).setSlot i _ = _
        rw [hmc, arrV_store]
      show Rp w (sR (nwC (nwM h (ti + 101) (tj + 101) N K i) (tj + 101) K K) (hN h) i (hN h + 1 + i)) _
      rw [hh2, hmc2]
      have hlt2 : H.size < H2.size := by omega
      have q1 : (H2.setIfInBounds H.size (arrV (wA w ti) N (updV (fun k => fv w h2 (hN h) (.array ty) k) i (.ref (H.size + 1 + i)))))[wM w (hN h)]? = some (arrV (wA w ti) N (updV (fun k => fv w h2 (hN h) (.array ty) k) i (.ref (H.size + 1 + i)))) := by
        rw [hadr, Array.getElem?_setIfInBounds_self_of_lt hlt2]
      refine rp2.up (a := hN h) hW hp (by omega) (by simp) (fun q hq => by rw [Array.getElem?_setIfInBounds_ne (by omega)]) ⟨_, _, by rw [hadr]; exact oa', q1, by rw [arrV_size, arrV_size]⟩ (Or.inr ⟨ti, kd2, hti, ?_⟩) rfl rfl (fun x y hx => sR_ne x y (fun z => hx z.1)) (fun y => rp2.2.2.2.2.2.2.2.1 _ _) (fun y => rp2.2.2.2.2.2.2.2.2.1 _ _) (fun y => ?_)
      · show _ = some (arrV _ (ln h2 (hN h)) _)
        rw [q1, ln2]
        congr 2
        funext k
        unfold updV
        by_cases hk : k = i
        · subst hk
          rw [if_pos rfl, fv_R (by rw [hty]; rfl) w _ _ _ 0, sR_eq, rv_nz _ (by omega), hadr2]
        · rw [if_neg hk, hty]
          exact (fv_congr (sR_ne _ _ (fun z => hk z.2)).1 (sR_ne _ _ (fun z => hk z.2)).2.1 (sR_ne _ _ (fun z => hk z.2)).2.2 _).symm
      · by_cases hk : y = i
        · subst hk
          rw [sR_eq, kd2, rk_arr hkn]
          refine Or.inr ⟨?_, by omega⟩
          rw [← hh2, show hN h + 1 + y = hN (nwM h (ti + 101) (tj + 101) N K y) from f1.symm]
          exact kd_nw _ _ _ _
        · rw [(sR_ne _ _ (fun z => hk z.2)).2.2]
          exact rp2.2.2.2.2.2.2.2.2.2.1 _ _ hp
    · rcases List.mem_append.mp hq with hq | hq
      · exact hL1 q hq
      · rw [List.mem_singleton.mp hq]; show wB w ≤ H.size; omega
  · intro H' L hI
    obtain ⟨rp1, hL1⟩ := hI
    obtain ⟨f1, f2, f3, f4⟩ := nwM_facts h (ti + 101) (tj + 101) N K N
    have hEx := Ext.nwM h (ti + 101) (tj + 101) N K N
    have k1 := kk H' L ls rp1 (hE.tr hEx) (fun q hq => (hl2 q hq).ext hEx) (ok_c (Or.inr ⟨f3, by omega⟩) (fun u hu => (ok_t (ok_t hs) u hu).ext hEx)) hL1 hv2
    have e5 : rv (wM w) (vR (ti + 101) (hN h)) = .ref H.size := by rw [rv_nz _ hne, hadr]
    have e6 : hN (nwM h (ti + 101) (tj + 101) N K N) - hN h0 = hN h - hN h0 + 1 + N := by omega
    have e7 : hZ (nwM h (ti + 101) (tj + 101) N K N) - hZ h0 = hZ h - hZ h0 + N + N * K := by omega
    rw [e6, e7] at k1
    show W p l e R s m args below meth c H' L _ _ _ (F0 m (pc + 4) ls (.ref H.size :: st.map (rv (wM w))))
    rw [← e5]
    exact k1
end
