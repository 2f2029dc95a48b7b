/-! THE GUARDS: need, ready, there: they return, or throw a new object -/
def guardWs (own : String) (ic : Nat) (X : String) : List Cond := Bundle.throwableAtoms ++ Bundle.chain0Atoms X ["java/lang/RuntimeException", "java/lang/Exception"] ++
  [.methodLink own ic (Bundle.init0 X), .instantiable X 6, .castable X X, .selects X Bundle.tFill0 Bundle.tFill0, .selects X Bundle.tFill Bundle.tFill,
   .lays X Bundle.tN "cause" "Ljava/lang/Throwable;", .lays X Bundle.tN "stackTrace" Bundle.steD, .lays X Bundle.tN "suppressedExceptions" Bundle.listD, .lays X Bundle.tN "detailMessage" "Ljava/lang/String;",
   .fieldLink Bundle.tN 198 Bundle.tN "backtrace" "Ljava/lang/Object;", .lays Bundle.tN Bundle.tN "backtrace" "Ljava/lang/Object;", .lays X Bundle.tN "backtrace" "Ljava/lang/Object;"]
theorem isRef_of {C n d : String} {A : Nat → Prop} {args : Array Value} {s : State} (h : va_Zq C n d A s s.heap) : (Cond.isRef (.static C n d)).before args s = true := by
  have key : ∀ v : Value, va_Z C n d v A s s.heap → (Term.static C n d).eval args s none [] s = some v := by
    intro v ⟨cf, kf, fi, f, a, ce, h1, h2, h3, h4, h5, h6, h7, h8⟩
    simp [Term.eval, State.fieldNamed?, h1, h2, h4, h5, h6, h7]
  rcases h with h | ⟨t, h⟩
  · simp [Cond.before, Cond.holds, Cond.value, key _ h]
  · simp [Cond.before, Cond.holds, Cond.value, key _ h]
def gLS : List Cond := [.laysStatic Bundle.tN "UNASSIGNED_STACK" Bundle.steD, .laysStatic Bundle.tN "SUPPRESSED_SENTINEL" Bundle.listD]
theorem gw_in (ws : List Cond) (ps : List Nat) (hp : ws = ps.filterMap (fun i => lw_tbl[i]?)) (hg : ws.all (fun w => goodWord w || (isNst w || decide (w ∈ gLS))) = true) : ∀ w ∈ ws, w ∈ lw_all ∨ (w ∈ lw_tbl ∧ isNst w = true) ∨ w ∈ gLS := by
  intro w h
  have h1 := List.all_eq_true.mp hg w h
  rw [hp] at h
  obtain ⟨i, -, hi⟩ := List.mem_filterMap.mp h
  simp only [Bool.or_eq_true, decide_eq_true_eq] at h1
  rcases h1 with h1 | h1 | h1
  · exact Or.inl (lw_w i hi h1)
  · exact Or.inr (Or.inl ⟨List.mem_of_getElem? hi, h1⟩)
  · exact Or.inr (Or.inr h1)
section
variable {x : Ctx} {cc : ByteArray} {own : String} {fr lo nL : Nat}
theorem guard_throws (C : Cx x cc own) (D : Cm x fr lo none nL) (E : Ce x []) {ia ic ci : Nat} {q : vw_C} (hq : gCL[ci]? = some q) (hci : ci < 60) (hN0 : q.2.2 = 0) (hfit : Bundle.fit q.1 = true)
    (hgw : ∀ w ∈ guardWs own ic q.1, w ∈ lw_all ∨ (w ∈ lw_tbl ∧ isNst w = true) ∨ w ∈ gLS) (hin6 : Cond.instantiable q.1 6 ∈ lw_all) (hcl : Cond.classLink own ia q.1 ∈ lw_all) (hini : Cond.initialized q.1 ∈ lw_all)
    (d0 : decode cc 0 = .ok (.iload_n 0, 1)) (d1 : decode cc 1 = .ok (.ifCond .ne 11, 3)) (d4 : decode cc 4 = .ok (.new ia, 3)) (d7 : decode cc 7 = .ok (.dup, 1)) (d8 : decode cc 8 = .ok (.invokespecial ic, 3)) (d11 : decode cc 11 = .ok (.athrow, 1))
    (hfr : 6 ≤ fr) (hlo : 90 ≤ lo) (hroom : hN x.2.2.2.2.2.2.2.2.2.2.2.2 + 1 ≤ CN ∧ hZ x.2.2.2.2.2.2.2.2.2.2.2.2 + 6 ≤ CZ) :
    S0 x (.inr (hN x.2.2.2.2.2.2.2.2.2.2.2.2, nwC x.2.2.2.2.2.2.2.2.2.2.2.2 (ci + 1) 0 6)) [(0, vI 0)] := by
  obtain ⟨p, l, e, R, s, m, args, below, meth, c, nL', w, h0⟩ := x
  obtain ⟨hx, hb, hml, hown, hts, hK, hW, hlk, hc1, hc2, rp0, hlt⟩ := C
  have D1 : R.frames = fr := D.1
  have D2 : R.locals = lo := D.2.1
  have hroom : hN h0 + 1 ≤ CN ∧ hZ h0 + 6 ≤ CZ := hroom
  intro ls hl2 _
  have hlv : ls[0]? = some (.val (.int (Int32.ofInt 0))) := hl2.2.2 (0, _) List.mem_cons_self
  have hp : PN1 ≤ hN h0 := rp0.1
  have hsz := rp0.2.1
  have hadr : wM w (hN h0) = s.heap.size := by have := hW.1 (hN h0) hp; omega
  obtain ⟨hS, hfc, kC0, hkC0, hkind⟩ := hK.1 ci _ hq
  refine lv_iload_n hx hb d0 rfl hlv ?_
  refine lv_if_ne (tgt := 12) hx hb d1 rfl (fun z => absurd rfl z) (fun _ => ?_)
  refine W.newcK hx hb hown (hts _ hcl) (hts _ (hin6)) (hts _ hini) rfl d4 (by omega) (by omega) hfc (h := s.heap.size) rfl (fun H' kC hkC e1 e2 e3 => ?_)
  refine lv_dup hx hb d7 rfl ?_
  intro T hT X
  have htr : e.platform.stackTraces = false := by rw [X.admits.platform]; exact hlt
  have hz1 : (Cond.isRef (.static Bundle.tN "UNASSIGNED_STACK" Bundle.steD)).before args s = true := isRef_of (A := fun q => wB w ≤ q) (hK.2.2.2.2.2.2.2.2.1.1.kept (fun a _ hA => rp0.2.2.2.1 a (Nat.not_le.mp hA)))
  have hz2 : (Cond.isRef (.static Bundle.tN "SUPPRESSED_SENTINEL" Bundle.listD)).before args s = true := isRef_of (A := fun q => wB w ≤ q) (hK.2.2.2.2.2.2.2.2.1.2.1.kept (fun a _ hA => rp0.2.2.2.1 a (Nat.not_le.mp hA)))
  have hat : ∀ a ∈ Bundle.ownAtoms0 own ic q.1 ["java/lang/RuntimeException", "java/lang/Exception"], a.before args s = true := by
    intro a ha
    by_cases h1 : a = Cond.isRef (.static Bundle.tN "UNASSIGNED_STACK" Bundle.steD)
    · rw [h1]; exact hz1
    by_cases h2 : a = Cond.isRef (.static Bundle.tN "SUPPRESSED_SENTINEL" Bundle.listD)
    · rw [h2]; exact hz2
    have hz9 : ∀ b, b ∈ guardWs own ic q.1 → b.before args s = true := fun b hb => by
      rcases hgw b hb with z | ⟨z1, z2⟩ | z
      · exact hts b z
      · exact nst_use z2 (hK.2.2.1 b z1 z2)
      · simp only [gLS, List.mem_cons, List.not_mem_nil, or_false] at z
        rcases z with z | z
        · rw [z]; exact hK.2.2.2.2.2.2.2.2.1.2.2.1.use rp0.2.2.2.1 _
        · rw [z]; exact hK.2.2.2.2.2.2.2.2.1.2.2.2.use rp0.2.2.2.1 _
    refine hz9 a ?_
    unfold Bundle.ownAtoms0 at ha
    unfold guardWs
    rcases List.mem_append.mp ha with h3 | h3
    · exact List.mem_append_left _ h3
    · refine List.mem_append_right _ ?_
      simp only [List.mem_cons, List.not_mem_nil, or_false, h1, h2, false_or] at h3 ⊢
      exact h3
  have hnil : c.exceptionTable.toList = [] := List.map_eq_nil_iff.mp E
  obtain ⟨U, u1, u2, u3, u4, u5, ce, u6, u7⟩ := X.ctorThrow0 hx htr (own := own) (cls := q.1) (names := ["java/lang/RuntimeException", "java/lang/Exception"]) (ic := ic) hown hfit (by decide) hat (fun y hy => by cases hy)
    (a := s.heap.size) hfc hkC (by rw [hT]; exact e1) (Nat.le_refl _) (g := F0 m 8 ls [.ref s.heap.size, .ref s.heap.size]) rfl (by rw [hml]; exact hl2.1) rfl rfl (rest := []) rfl (by rw [hb]; exact d8) (by rw [hb]; exact d11) (fun y hy => by rw [hnil] at hy; cases hy)
    (by rw [D1]; exact hfr) (by rw [D2]; show 2 * 0 + (1 + 0) + (13 * (2 + 1) + 41) ≤ lo; omega) hlk
  refine ⟨U, u1, .threw s.heap.size, u2, u3, ?_⟩
  have hU0 : U.heap.size = s.heap.size + 1 := by
    have z1 : U.heap.size ≤ s.heap.size + (0 + 1) := u5.2.2.1
    have z2 : s.heap.size < U.heap.size := (Array.getElem?_eq_some_iff.mp u6).1
    omega
  have hUk : ∀ q : Nat, q < s.heap.size → U.heap[q]? = s.heap[q]? := by
    intro q hq
    obtain ⟨c', v1, v2, v3, v4⟩ := u5.2.2.2.2.2 q _ (Array.getElem?_eq_getElem hq)
    have v1 : U.heap[q]? = some c' := v1
    rw [v1, Array.getElem?_eq_getElem hq, v2]
    have : c'.slots = s.heap[q].slots := Array.ext_getElem? (fun i => v4 i (fun z => by cases z))
    rw [this]
  have hrp : Rp w (nwC h0 (ci + 1) 0 6) U.heap := by
    refine rp0.nw hW u6 hU0 hUk u7.size (Or.inl ⟨ci, kd_nw _ _ _ _, hci, q, hq, ce, ?_, ?_, u7.vm, ?_⟩) hroom.1 hroom.2 (Nat.zero_le _)
    · rw [hadr]; exact u6
    · exact Option.some.inj (u7.cls.symm.trans hfc)
    · intro k hk
      rw [hN0] at hk
      exact absurd hk (Nat.not_lt_zero _)
  refine ⟨by show Outcome.threw s.heap.size = .threw (wM w (hN h0)); rw [hadr], u4, ⟨[], u5.weaken (fun y hy _ => hy) (by omega) (by omega), fun y hy => by cases hy⟩, hrp, Ext.nw _ _ _, hp, Nat.lt_succ_self _⟩
end
def fGuard (k : Nat) (v0 : Int) (h : Hp) : Option (Hp ⊕ (Nat × Hp)) := if v0 ≠ 0 then some (.inl h) else if hN h + 1 ≤ CN ∧ hZ h + 6 ≤ CZ then some (.inr (hN h, nwC h k 0 6)) else none
theorem ct_guard {l : Launch} {w : Wd} {y : MethodName} {cc : ByteArray} {ia ic ci : Nat} {q : vw_C} {v0 : Int} {h : Hp} {o : Hp ⊕ (Nat × Hp)} (hW : Wok w) (hy : plainName y.cls = true) (hq : gCL[ci]? = some q) (hci : ci < 60) (hN0 : q.2.2 = 0) (hfit : Bundle.fit q.1 = true)
    (hgw : ∀ w ∈ guardWs y.cls ic q.1, w ∈ lw_all ∨ (w ∈ lw_tbl ∧ isNst w = true) ∨ w ∈ gLS) (hin6 : Cond.instantiable q.1 6 ∈ lw_all) (hcl : Cond.classLink y.cls ia q.1 ∈ lw_all) (hini : Cond.initialized q.1 ∈ lw_all)
    (d0 : decode cc 0 = .ok (.iload_n 0, 1)) (d1 : decode cc 1 = .ok (.ifCond .ne 11, 3)) (d4 : decode cc 4 = .ok (.new ia, 3)) (d7 : decode cc 7 = .ok (.dup, 1)) (d8 : decode cc 8 = .ok (.invokespecial ic, 3)) (d11 : decode cc 11 = .ok (.athrow, 1)) (d12 : decode cc 12 = .ok (.return_, 1))
    (hF : fGuard (ci + 1) v0 h = some o) : Ct l w y (ws_ y cc 1 none) 6 90 [vI v0] h (yV o) := by
  unfold fGuard at hF
  by_cases hv : v0 ≠ 0
  · rw [if_pos hv] at hF
    cases hF
    show Ct l w y (ws_ y cc 1 none) 6 90 [vI v0] h (xV h)
    refine ct_of (F := if v0 ≠ 0 then some h else none) hW hy (Nat.le_of_ble_eq_true rfl) (if_pos hv) (fun x C D _ _ _ => ?_)
    refine sm_iload_n C 0 d0 rfl rfl ?_
    refine sm_if_ne (tgt := 12) C d1 rfl ?_ sm_none
    exact sm_vret C D d12
  · rw [if_neg hv] at hF
    have hv0 : v0 = 0 := Classical.not_not.mp hv
    by_cases hr : hN h + 1 ≤ CN ∧ hZ h + 6 ≤ CZ
    · rw [if_pos hr] at hF
      cases hF
      subst hv0
      refine ct_gen0 (cc := cc) (maxL := 1) (ret := none) (tb := []) (fun args s m h hn => by
        obtain ⟨meth, c, h1, h2, h3, h4, h5, h6, h7, -⟩ := Cond.code_spec hn h
        exact ⟨meth, c, h1, h2, h3, h4, h5, h6, tb_nil h7⟩) hW hy (by decide) (fun x C D E hn hl hw hh => ?_)
      have k := guard_throws C D E hq hci hN0 hfit hgw hin6 hcl hini d0 d1 d4 d7 d8 d11 (by decide) (by decide) (by rw [hh]; exact hr)
      rw [hh] at k
      exact k
    · rw [if_neg hr] at hF
      cases hF
