/-! THE BRIDGE: what an abstract heap says of the machine's heap; the judgement Sm: the pure expression F runs as the bytecode at pc does -/
def PN1 : Nat := 64
abbrev AV : Type := Int ⊕ Int ⊕ (Nat × Nat)
abbrev vI (x : Int) : AV := .inl x
abbrev vJ (x : Int) : AV := .inr (.inl x)
abbrev vR (k r : Nat) : AV := .inr (.inr (k, r))
def rv (ρ : Nat → Nat) (v : AV) : Value := match v with
  | .inl x => .int (Int32.ofInt x)
  | .inr (.inl x) => .long (Int64.ofInt x)
  | .inr (.inr q) => if q.2 = 0 then .null else .ref (ρ q.2)
def okv (h : Hp) (v : AV) : Prop := match v with
  | .inl x => c32 x
  | .inr (.inl x) => c64 x
  | .inr (.inr q) => q.2 = 0 ∨ (kd h q.2 = q.1 ∧ q.2 < hN h)
def isJ (v : AV) : Bool := match v with
  | .inr (.inl _) => true
  | _ => false
/-- a world: first new real address, slots before, where abstract addresses lie, the heap before, the abstract heap before, classes, array classes -/
abbrev Wd : Type := Nat × Nat × (Nat → Nat) × Heap × Hp × va_G × (Nat → ClassId)
def wB (w : Wd) : Nat := w.1
def wZ (w : Wd) : Nat := w.2.1
def wM (w : Wd) : Nat → Nat := w.2.2.1
def wH (w : Wd) : Heap := w.2.2.2.1
def wP (w : Wd) : Hp := w.2.2.2.2.1
def wD (w : Wd) : va_G := w.2.2.2.2.2.1
def wA (w : Wd) : Nat → ClassId := w.2.2.2.2.2.2
def fv (w : Wd) (h : Hp) (a : Nat) (ty : FieldType) (k : Nat) : Value := match ty with
  | .long => .long (Int64.ofInt (hJ h a k))
  | .object _ => rv (wM w) (vR 0 (hR h a k))
  | .array _ => rv (wM w) (vR 0 (hR h a k))
  | _ => .int (Int32.ofInt (hI h a k))
def oO (w : Wd) (h : Hp) (H : Heap) (a ci : Nat) : Prop := ∃ q : vw_C, gCL[ci]? = some q ∧ t_OB (wM w a) ((wD w).1 ci) q.2.2 ((wD w).2 ci) H (fun k => fv w h a (gTy ci k) k)
def oA (w : Wd) (h : Hp) (H : Heap) (a ti : Nat) : Prop := H[wM w a]? = some (arrV (wA w ti) (ln h a) (fun k => fv w h a (gTA ti) k))
def cO (w : Wd) (h : Hp) (H : Heap) (a : Nat) : Prop := (∃ ci, kd h a = ci + 1 ∧ ci < 60 ∧ oO w h H a ci) ∨ (∃ ti, kd h a = ti + 101 ∧ ti < 20 ∧ oA w h H a ti)
/-- what an int slot of a cell of kind k holds -/
def cA (k : Nat) (v : Int) : Prop := c32 v ∧ (k = 102 → -128 ≤ v ∧ v ≤ 127) ∧ (k = 103 → v = 0 ∨ v = 1) ∧ (k = 104 → -32768 ≤ v ∧ v ≤ 32767)
theorem cA.z (k : Nat) : cA k 0 := ⟨by decide, fun _ => by decide, fun _ => Or.inl rfl, fun _ => by decide⟩
theorem cA.o {k : Nat} {v : Int} (hv : c32 v) (h1 : k ≠ 102) (h2 : k ≠ 103) (h3 : k ≠ 104) : cA k v := ⟨hv, fun z => absurd z h1, fun z => absurd z h2, fun z => absurd z h3⟩
def Rp (w : Wd) (h : Hp) (H : Heap) : Prop :=
  PN1 ≤ hN h ∧ H.size + PN1 = wB w + hN h ∧ slotSum H = wZ w + hZ h ∧ (∀ q : Nat, q < wB w → H[q]? = (wH w)[q]?) ∧ (∀ a, hN h ≤ a → kd h a = 0) ∧
  (∀ a, a < PN1 → h.2.1 a = (wP w).2.1 a ∧ ∀ k, hI h a k = hI (wP w) a k ∧ hR h a k = hR (wP w) a k) ∧
  (∀ a, PN1 ≤ a → a < hN h → cO w h H a) ∧ (∀ a k, cA (kd h a) (hI h a k)) ∧ (∀ a k, c64 (hJ h a k)) ∧ (∀ a k, PN1 ≤ a → (hR h a k = 0 ∨ (kd h (hR h a k) = rk (kd h a) k ∧ hR h a k < hN h))) ∧ hN h ≤ CN ∧ hZ h ≤ CZ ∧ ∀ a, PN1 ≤ a → ln h a ≤ CZ
def gSK (k : Nat) : Nat := if k < 2 then 62 else if k < 12 then 61 else if k = 12 then 65 else 0
/-- the references among what was there beforehand -/
def WP (w : Wd) : Prop := (∀ k, k < 13 → (hR (wP w) 40 k = 0 ∨ (kd (wP w) (hR (wP w) 40 k) = gSK k ∧ hR (wP w) 40 k < PN1))) ∧ (∀ r, r < PN1 → kd (wP w) r = 61 → (hR (wP w) r 0 = 0 ∨ (kd (wP w) (hR (wP w) r 0) = 64 ∧ hR (wP w) r 0 < PN1))) ∧ (∀ r, r < PN1 → kd (wP w) r = 64 → (hR (wP w) r 0 = 0 ∨ (kd (wP w) (hR (wP w) r 0) = 63 ∧ hR (wP w) r 0 < PN1))) ∧ (∀ r, r < PN1 → ln (wP w) r ≤ CZ)
def Wok (w : Wd) : Prop := (∀ a, PN1 ≤ a → wM w a + PN1 = wB w + a) ∧ (∀ a, 0 < a → a < PN1 → a ≠ 33 → wM w a < wB w) ∧ (∀ a, a < PN1 → kd (wP w) a = 0 ∨ (60 < kd (wP w) a ∧ kd (wP w) a ≤ 100)) ∧ kd (wP w) 0 = 0 ∧ WP w
/-- words of the tables that do not ride in lw_all: links between nest mates -/
def isNst : Cond → Bool
  | .fieldLinkNest .. => true
  | .methodLinkNest .. => true
  | .arrayOver (.object _) => true
  | .castable .. => true
  | .declares _ => true
  | _ => false
theorem nst_use {x : Cond} (hn : isNst x = true) {A : Array Value} {U : State} (h : va_Nw x U) : x.before A U = true := by
  match x, hn, h with
  | .fieldLinkNest .., _, h => exact va_Nw.use rfl h
  | .methodLinkNest .., _, h => exact va_Nw.use rfl h
  | .arrayOver (.object _), _, h => exact va_AO.use h
  | .castable .., _, h => exact va_Nw.use rfl h
  | .declares _, _, h => exact va_Nw.use rfl h
def cnm (ty : FieldType) : String := match ty with
  | .object C => C
  | t => t.toString
def aR (U : State) (cA : ClassId) (ty : FieldType) : Prop := U.vm.findClass ("[" ++ ty.toString) = some cA ∧ (ty.isReference = true → ∃ (kA : Class) (comp : ClassId), U.vm.classes[cA]? = some kA ∧ kA.kind = .array comp ty ∧ U.vm.findClass (cnm ty) = some comp ∧ ∃ kc : Class, U.vm.classes[comp]? = some kc)
theorem aR.moved {u U : State} (hvm : u.vm.Alike U.vm) {cA : ClassId} {ty : FieldType} (h : aR u cA ty) : aR U cA ty := by
  refine ⟨by rw [hvm.findClass]; exact h.1, fun hr => ?_⟩
  obtain ⟨kA, comp, h1, h2, h3, kc, h4⟩ := h.2 hr
  obtain ⟨k', hk', he⟩ := hvm.2.2 _ _ h1
  obtain ⟨k2, hk2, -⟩ := hvm.2.2 _ _ h4
  exact ⟨k', comp, hk', by rw [he]; exact h2, by rw [hvm.findClass]; exact h3, k2, hk2⟩
/-- statics that are read: at abstract address 40, by number -/
def gST (k : Nat) : String × String × String := ([("TransportPair$Hash", "START", "[I"), ("TransportPair$Hash", "ROUNDS", "[I"), ("TransportPair$Label", "KEY", "LTransportPair$Label;"), ("TransportPair$Label", "IV", "LTransportPair$Label;"), ("TransportPair$Label", "HIDE", "LTransportPair$Label;"), ("TransportPair$Label", "FIRST_A", "LTransportPair$Label;"), ("TransportPair$Label", "FIRST_B", "LTransportPair$Label;"), ("TransportPair$Label", "GREET_A", "LTransportPair$Label;"), ("TransportPair$Label", "GREET_B", "LTransportPair$Label;"), ("TransportPair$Label", "TALK_A", "LTransportPair$Label;"), ("TransportPair$Label", "TALK_B", "LTransportPair$Label;"), ("TransportPair$Label", "DONE", "LTransportPair$Label;"), ("jdk/internal/util/Preconditions", "SIOOBE_FORMATTER", "Ljava/util/function/BiFunction;"), ("java/lang/String", "COMPACT_STRINGS", "Z"), ("java/lang/StringUTF16", "$assertionsDisabled", "Z"), ("java/lang/StringUTF16", "HI_BYTE_SHIFT", "I"), ("java/lang/StringUTF16", "LO_BYTE_SHIFT", "I")] : List (String × String × String)).getD k ("", "", "")
def sv (w : Wd) (k : Nat) : Value := if k < 13 then rv (wM w) (vR 0 (hR (wP w) 40 k)) else .int (Int32.ofInt (hI (wP w) 40 k))
/-- the classes that are thrown, by their number -/
def xCL : List Nat := [29, 31, 34]
/-- a static of Throwable's lies as its word says, in a heap -/
def LSt (b : Nat) (n d : String) (U : State) (H : Heap) : Prop := ∃ (cf : ClassId) (kf : Class) (fi : Nat) (f : Field) (a : Nat) (cell : Cell), U.vm.findClass "java/lang/Throwable" = some cf ∧ U.fieldFound? "java/lang/Throwable" n d = some (cf, kf, fi, f) ∧ kf.statics = some a ∧ a < b ∧ H[a]? = some cell ∧ f.isStatic = true ∧ cell.vm.isStatics = true ∧ cell.cls = cf ∧ f.slot < cell.slots.size ∧ kf.staticTypes[f.slot]? = some f.type
theorem LSt.moved {b : Nat} {n d : String} {u U : State} {H : Heap} (hvm : u.vm.Alike U.vm) (h : LSt b n d u H) : LSt b n d U H := by
  obtain ⟨cf, kf, fi, f, a, cell, h1, h2, h3, h4, h5, h6, h7, h8, h9, h10⟩ := h
  obtain ⟨k', hi', he⟩ := State.fieldFound?_setVm hvm h2
  exact ⟨cf, k', fi, f, a, cell, by rw [hvm.findClass]; exact h1, hi', by rw [he]; exact h3, h4, h5, h6, h7, h8, h9, by rw [he]; exact h10⟩
theorem LSt.use {b : Nat} {n d : String} {U : State} {H : Heap} (h : LSt b n d U H) (hq : ∀ q : Nat, q < b → U.heap[q]? = H[q]?) (A : Array Value) : (Cond.laysStatic "java/lang/Throwable" n d).before A U = true := by
  obtain ⟨cf, kf, fi, f, a, cell, h1, h2, h3, h4, h5, h6, h7, h8, h9, h10⟩ := h
  simp [Cond.before, Cond.holds, Cond.value, h1, h2, h3, hq a h4, h5, h6, h7, h8, h9, h10]
/-- what was there beforehand: statics, labels, their texts, arrays that are only read; what is asked of the classes that are thrown -/
def KP (w : Wd) (U : State) : Prop := (∀ k, k < 17 → va_Z (gST k).1 (gST k).2.1 (gST k).2.2 (sv w k) (fun q => wB w ≤ q) U (wH w)) ∧
  (∀ r, r < PN1 → kd (wP w) r = 61 → va_OF "TransportPair$Label" "text" "Ljava/lang/String;" (rv (wM w) (vR 0 (hR (wP w) r 0))) (wM w r) (fun q => wB w ≤ q) U (wH w)) ∧
  (∀ r, r < PN1 → kd (wP w) r = 64 → va_OF "java/lang/String" "value" "[B" (rv (wM w) (vR 0 (hR (wP w) r 0))) (wM w r) (fun q => wB w ≤ q) U (wH w) ∧ va_OF "java/lang/String" "coder" "B" (.int (Int32.ofInt (hI (wP w) r 1))) (wM w r) (fun q => wB w ≤ q) U (wH w) ∧ va_O "java/lang/String" (wM w r) (fun q => wB w ≤ q) U (wH w)) ∧
  (∀ r, r < PN1 → kd (wP w) r = 62 → va_T .int (wM w r) (ln (wP w) r) (fun j => .int (Int32.ofInt (hI (wP w) r j))) (fun q => wB w ≤ q) U (wH w)) ∧
  (∀ r, r < PN1 → kd (wP w) r = 63 → va_T .byte (wM w r) (ln (wP w) r) (fun j => .int (Int32.ofInt (hI (wP w) r j))) (fun q => wB w ≤ q) U (wH w)) ∧
  (va_Zq "java/lang/Throwable" "UNASSIGNED_STACK" "[Ljava/lang/StackTraceElement;" (fun q => wB w ≤ q) U (wH w) ∧ va_Zq "java/lang/Throwable" "SUPPRESSED_SENTINEL" "Ljava/util/List;" (fun q => wB w ≤ q) U (wH w) ∧ LSt (wB w) "UNASSIGNED_STACK" "[Ljava/lang/StackTraceElement;" U (wH w) ∧ LSt (wB w) "SUPPRESSED_SENTINEL" "Ljava/util/List;" U (wH w)) ∧
  (∀ i j, i ∈ xCL → j ∈ xCL → i ≠ j → U.vm.assignable ((wD w).1 i) ((wD w).1 j) = false)
theorem KP.moved {w : Wd} {u U : State} (hvm : u.vm.Alike U.vm) (h : KP w u) : KP w U :=
  ⟨fun k hk => (h.1 k hk).moved hvm, fun r hr hk => (h.2.1 r hr hk).moved hvm, fun r hr hk => ⟨(h.2.2.1 r hr hk).1.moved hvm, (h.2.2.1 r hr hk).2.1.moved hvm, (h.2.2.1 r hr hk).2.2.moved hvm⟩, fun r hr hk => (h.2.2.2.1 r hr hk).moved hvm, fun r hr hk => (h.2.2.2.2.1 r hr hk).moved hvm, ⟨h.2.2.2.2.2.1.1.moved hvm, h.2.2.2.2.2.1.2.1.moved hvm, h.2.2.2.2.2.1.2.2.1.moved hvm, h.2.2.2.2.2.1.2.2.2.moved hvm⟩, fun i j hi hj hn => by rw [hvm.assignable]; exact h.2.2.2.2.2.2 i j hi hj hn⟩
/-- what is known of the tables at a state -/
def KW (w : Wd) (U : State) : Prop := (∀ (c : Nat) (q : vw_C), gCL[c]? = some q → u_Kn U q.1 q.2.1 q.2.2 ((wD w).1 c) ((wD w).2 c)) ∧ (∀ t, t < 20 → ArrOfT U (wA w t) (gTA t) ∧ aR U (wA w t) (gTA t)) ∧ (∀ x ∈ lw_tbl, isNst x = true → va_Nw x U) ∧ KP w U
theorem KW.warm {w : Wd} {s U : State} (hW : s.WarmedH U.vm) (h : KW w s) : KW w U := by
  refine ⟨fun c q hq => u_Kn_moved hW.alike (h.1 c q hq), fun t ht => ⟨arrOfT_moved hW.alike (h.2.1 t ht).1, (h.2.1 t ht).2.moved hW.alike⟩, fun x hx hn => ?_, h.2.2.2.moved hW.alike⟩
  have hz := h.2.2.1 x hx hn
  match x, hn, hz with
  | .fieldLinkNest .., _, hz => exact va_Nw.warmF hW hz
  | .methodLinkNest .., _, hz => exact va_Nw.warmM hW hz
  | .arrayOver (.object C), _, hz => exact va_AO.moved (C := C) hW.alike hz
  | .castable .., _, hz => exact va_Nw.warmC hW hz
  | .declares _, _, hz => exact va_Nw.warmD hW hz
theorem KW.same {w : Wd} {s U : State} (hW : s.vm = U.vm) (h : KW w s) : KW w U := by
  have ha : s.vm.Alike U.vm := by rw [hW]; exact Vm.Alike.refl _
  refine ⟨fun c q hq => u_Kn_moved ha (h.1 c q hq), fun t ht => ⟨arrOfT_moved ha (h.2.1 t ht).1, (h.2.1 t ht).2.moved ha⟩, fun x hx hn => ?_, h.2.2.2.moved ha⟩
  have hz := h.2.2.1 x hx hn
  match x, hn, hz with
  | .fieldLinkNest .., _, hz => exact va_Nw.same rfl hW hz
  | .methodLinkNest .., _, hz => exact va_Nw.same rfl hW hz
  | .arrayOver (.object C), _, hz => exact va_AO.moved (C := C) ha hz
  | .castable .., _, hz => exact va_Nw.same rfl hW hz
  | .declares _, _, hz => exact va_Nw.same rfl hW hz
def Ext (h0 h : Hp) : Prop := hN h0 ≤ hN h ∧ hZ h0 ≤ hZ h ∧ ∀ a, a < hN h0 → kd h a = kd h0 a
theorem Ext.rf {h : Hp} : Ext h h := ⟨Nat.le_refl _, Nat.le_refl _, fun _ _ => rfl⟩
theorem Ext.tr {a b c : Hp} (h1 : Ext a b) (h2 : Ext b c) : Ext a c := ⟨Nat.le_trans h1.1 h2.1, Nat.le_trans h1.2.1 h2.2.1, fun x hx => (h2.2.2 x (Nat.lt_of_lt_of_le hx h1.1)).trans (h1.2.2 x hx)⟩
theorem okv.ext {h h' : Hp} (hE : Ext h h') {v : AV} (hv : okv h v) : okv h' v := by
  match v, hv with
  | .inl x, hv => exact hv
  | .inr (.inl x), hv => exact hv
  | .inr (.inr (k, r)), hv =>
    rcases hv with hv | hv
    · exact Or.inl hv
    · exact Or.inr ⟨(hE.2.2 r hv.2).trans hv.1, Nat.lt_of_lt_of_le hv.2 hE.1⟩
abbrev Ctx : Type := Program × Launch × Env × Room × State × MethodId × Array Value × List Frame × Method × Code × Nat × Wd × Hp
def Cx (x : Ctx) (cc : ByteArray) (own : String) : Prop := match x with
  | (p, l, _, R, s, m, args, _, meth, c, nL, w, h0) => p.tables.exec = Jvm.exec ∧ c.code = cc ∧ c.maxLocals = nL ∧ s.vm.findClass own = some m.cls ∧ (∀ y ∈ lw_all, y.before args s = true) ∧ KW w s ∧ Wok w ∧ meth.locks = false ∧ R.cells + hN h0 = CN ∧ R.slots + hZ h0 = CZ ∧ Rp w h0 s.heap ∧ l.stackTraces = false
def lvm (w : Wd) (lv : List (Nat × AV)) : List (Nat × Value) := lv.map (fun q => (q.1, rv (wM w) q.2))
def Go (x : Ctx) (Q : State → Prop) (pc : Nat) (lv : List (Nat × AV)) (st : List AV) (h : Hp) : Prop := match x with
  | (p, l, e, R, s, m, args, below, meth, c, nL, w, h0) => ∀ (H : Heap) (locs : List Loc) (ls : Array Slot), Rp w h H → Ext h0 h → (∀ q ∈ lv, okv h q.2) → (∀ v ∈ st, okv h v) → (∀ q ∈ locs, wB w ≤ q.base) → lv_has ls nL (lvm w lv) →
    W p l e R s m args below meth c H locs (hN h - hN h0) (hZ h - hZ h0) Q (F0 m pc ls (st.map (rv (wM w))))
/-- the end of a method: its answer and its heap -/
def Qcc (w : Wd) (h0 : Hp) (o : Option AV × Hp) : Array Value → State → Outcome → State → Prop := fun _ _ oc t => oc = .returned (o.1.map (rv (wM w))) ∧ Rp w o.2 t.heap ∧ Ext h0 o.2 ∧ ∀ v ∈ o.1, okv o.2 v
/-- how a method ends: an answer, or a throw of the object at an address; and the heap -/
abbrev Xo : Type := (Option AV × Hp) ⊕ (Nat × Hp)
/-- the end by a throw -/
def Qth (w : Wd) (h0 : Hp) (q : Nat × Hp) (s t : State) : Prop := s.WarmedH t.vm ∧ (∃ L, s.sameButNew ({ t with vm := s.vm } : State) L (CN - hN h0) (CZ - hZ h0) ∧ ∀ y ∈ L, wB w ≤ y.base) ∧ Rp w q.2 t.heap ∧ Ext h0 q.2 ∧ PN1 ≤ q.1 ∧ q.1 < hN q.2
def QX (w : Wd) (h0 : Hp) (o : Xo) : Array Value → State → Outcome → State → Prop := fun a st oc t => match o with
  | .inl o => Qcc w h0 o a st oc t ∧ ∃ L, FrameEnd st oc t L (CN - hN h0) (CZ - hZ h0) ∧ ∀ q ∈ L, wB w ≤ q.base
  | .inr q => oc = .threw (wM w q.1) ∧ Qth w h0 q st t
def FinQ (x : Ctx) (o : Xo) : State → Prop := match x with
  | (_, _, _, _, s, _, args, below, _, _, _, w, h0) => fun t => ∃ oc, t.status = .running ∧ Ended t below oc ∧ QX w h0 o args s oc t
/-- the pure expression F, in a method's run at pc with these locals, stack and heap: what it yields is the method's end -/
def Sm (x : Ctx) {β : Type} (em : β → Xo) (F : Option β) (pc : Nat) (lv : List (Nat × AV)) (st : List AV) (h : Hp) : Prop := ∀ o, F = some o → Go x (FinQ x (em o)) pc lv st h
def emI (o : Int × Hp) : Option AV × Hp := (some (vI o.1), o.2)
def emJ (o : Int × Hp) : Option AV × Hp := (some (vJ o.1), o.2)
def emR (k : Nat) (o : Nat × Hp) : Option AV × Hp := (some (vR k o.1), o.2)
def emV (o : Hp) : Option AV × Hp := (none, o)
abbrev xI (o : Int × Hp) : Xo := .inl (emI o)
abbrev xJ (o : Int × Hp) : Xo := .inl (emJ o)
abbrev xR (k : Nat) (o : Nat × Hp) : Xo := .inl (emR k o)
abbrev xV (o : Hp) : Xo := .inl (emV o)
def yI (o : (Int × Hp) ⊕ (Nat × Hp)) : Xo := match o with
  | .inl o => .inl (emI o)
  | .inr q => .inr q
def yJ (o : (Int × Hp) ⊕ (Nat × Hp)) : Xo := match o with
  | .inl o => .inl (emJ o)
  | .inr q => .inr q
def yR (k : Nat) (o : (Nat × Hp) ⊕ (Nat × Hp)) : Xo := match o with
  | .inl o => .inl (emR k o)
  | .inr q => .inr q
def yV (o : Hp ⊕ (Nat × Hp)) : Xo := match o with
  | .inl o => .inl (emV o)
  | .inr q => .inr q
theorem slotSum_ext {H H' : Heap} (hz : H'.size = H.size) (h : ∀ (q : Nat) (c : Cell), H[q]? = some c → ∃ c' : Cell, H'[q]? = some c' ∧ c'.slots.size = c.slots.size) : slotSum H' = slotSum H := by
  rw [slotSum_sum, slotSum_sum]
  congr 1
  refine List.ext_getElem? fun i => ?_
  rw [List.getElem?_map, List.getElem?_map, Array.getElem?_toList, Array.getElem?_toList]
  cases hc : H[i]? with
  | none =>
    have h1 : H.size ≤ i := by simpa using hc
    have h2 : H'[i]? = none := by simpa using (by omega : H'.size ≤ i)
    rw [h2]
  | some c =>
    obtain ⟨c', h1, h2⟩ := h i c hc
    rw [h1]
    simp [h2]
theorem slotSum_new {H H' : Heap} {c : Cell} (h1 : H'[H.size]? = some c) (h2 : H'.size = H.size + 1) (h3 : ∀ q : Nat, q < H.size → H'[q]? = H[q]?) : slotSum H' = slotSum H + c.slots.size := by
  rw [← slotSum_push]
  refine slotSum_ext (by simp [h2]) fun q d hd => ⟨d, ?_, rfl⟩
  rcases Nat.lt_trichotomy q H.size with hq | hq | hq
  · rw [h3 q hq]
    rw [Array.getElem?_push_lt hq] at hd
    rw [← hd]
    exact Array.getElem?_eq_getElem hq
  · subst hq
    rw [h1]
    simpa using hd
  · have : q < (H.push c).size := (Array.getElem?_eq_some_iff.mp hd).1
    simp at this
    omega
theorem W.tight {p : Program} {l : Launch} {e : Env} {R : Room} {s : State} {m : MethodId} {args : Array Value} {below : List Frame} {meth : Method} {c : Code} {H : Heap} {locs : List Loc} {c1 s1 c2 s2 : Nat} {Q : State → Prop} {g : JFrame} (hc : H.size ≤ s.heap.size + c2) (hz : slotSum H ≤ slotSum s.heap + s2)
    (k : W p l e R s m args below meth c H locs c2 s2 Q g) : W p l e R s m args below meth c H locs c1 s1 Q g := by
  intro T hT X
  have hs0 : s.slotsUsed = slotSum s.heap := by
    have h := X.room
    simp only [State.hasRoom, Bool.and_eq_true] at h
    exact (State.slotsTrue_iff s).mp h.2
  have ht0 : T.slotsUsed = slotSum T.heap := (State.slotsTrue_iff T).mp X.book
  obtain ⟨a1, a2, a3, a4, a5, a6⟩ := X.same
  refine k T hT { X with same := ⟨a1, a2, ?_, a4, ?_, a6⟩ }
  · show T.heap.size ≤ _
    rw [hT]; exact hc
  · have h4 : T.slotsUsed = s.slotsUsed + _ := a4
    rw [hs0, ht0, hT] at h4
    show (((T.setVm s.vm).heap.toList.drop s.heap.size).map (·.slots.size)).sum ≤ s2
    have h5 : (T.setVm s.vm).heap = T.heap := rfl
    rw [h5, hT]
    rw [h5, hT] at h4
    omega
