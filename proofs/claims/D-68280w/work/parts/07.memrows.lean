/-! ROWS: fields, arrays, new cells, as steps of Sm -/
def FL (own : String) (idx ci k f kn : Nat) : Prop := ∃ q : vw_C, gCL[ci]? = some q ∧ k < q.2.2 ∧ fk (gTy ci k) = f ∧ (f = 2 → rk (ci + 1) k = kn) ∧ ci < 60 ∧ Lk own idx q k
/-- a field that may be written anywhere -/
def PL (own : String) (idx ci k : Nat) (ty : FieldType) (kn : Nat) : Prop := ∃ q : vw_C, gCL[ci]? = some q ∧ k < q.2.2 ∧ gTy ci k = ty ∧ (fk ty = 2 → rk (ci + 1) k = kn) ∧ ci < 60 ∧ Lk own idx q k ∧ (q.2.1 k).2.2.2 = false
/-- a final field, written in its class's constructor -/
def PF (own : String) (idx ci k : Nat) (ty : FieldType) (kn : Nat) : Prop := ∃ q : vw_C, gCL[ci]? = some q ∧ k < q.2.2 ∧ gTy ci k = ty ∧ (fk ty = 2 → rk (ci + 1) k = kn) ∧ ci < 60 ∧ (q.2.1 k).2.2.2 = true ∧ own = q.1 ∧ (Cond.fieldLink own idx q.1 (q.2.1 k).2.1 (q.2.1 k).2.2.1) ∈ lw_all
theorem rv_nz (ρ : Nat → Nat) {k a : Nat} (ha : a ≠ 0) : rv ρ (vR k a) = .ref (ρ a) := if_neg ha
theorem up2_s {α : Type} (f : Nat → Nat → α) (a k : Nat) (v : α) : up2 f a k v a k = v := if_pos ⟨rfl, rfl⟩
theorem up2_n {α : Type} (f : Nat → Nat → α) {a k x y : Nat} (v : α) (hn : ¬ (x = a ∧ y = k)) : up2 f a k v x y = f x y := if_neg hn
section
variable {x : Ctx} {cc : ByteArray} {own : String} {β : Type} {em : β → Xo} {F A B : Option β} {pc : Nat} {lv : List (Nat × AV)} {st : List AV} {h : Hp}
theorem sm_get (C : Cx x cc own) {idx ci k a f kn : Nat} {v : AV} (hl : FL own idx ci k f kn) (ha : a ≠ 0) (hd : decode cc pc = .ok (.getfield idx, 3)) (kk : Sm x em F (pc + 3) lv (v :: st) h) (hv : ∀ w : Wd, fv w h a (gTy ci k) k = rv (wM w) v) (ho : ∀ (w : Wd) (H : Heap), Wok w → Rp w h H → kd h a = ci + 1 → okv h v) : Sm x em F pc lv (vR (ci + 1) a :: st) h := by
  intro o hF
  have kk := kk o hF
  obtain ⟨p, l, e, R, s, m, args, below, meth, c, nL, w, h0⟩ := x
  obtain ⟨hx, hb, -, hown, hts, hK, hW, -⟩ := C
  obtain ⟨q, hq, hk, -, -, hci, hlk⟩ := hl
  intro H locs ls rp hE hl hs hL hv2
  have hka : kd h a = ci + 1 ∧ a < hN h := Or.resolve_left (ok_h hs) ha
  show W p l e R s m args below meth c H locs _ _ _ (F0 m pc ls (rv (wM w) (vR (ci + 1) a) :: st.map (rv (wM w))))
  rw [rv_nz _ ha]
  refine W.rdF hx hb hown hts hK hW rp hka.1 hka.2 hci hq hk hlk hd ?_
  rw [hv]
  exact kk H locs ls rp hE hl (ok_c (ho w H hW rp hka.1) (ok_t hs)) hL hv2
theorem sm_getI (C : Cx x cc own) {idx ci k a kn : Nat} (hl : FL own idx ci k 0 kn) (ha : a ≠ 0) (hd : decode cc pc = .ok (.getfield idx, 3)) (kk : Sm x em F (pc + 3) lv (vI (hI h a k) :: st) h) : Sm x em F pc lv (vR (ci + 1) a :: st) h :=
  sm_get C hl ha hd kk (fun w => by obtain ⟨q, hq, hk, hf, -⟩ := hl; exact fv_I hf w h a k) (fun w H hW rp _ => (rp.2.2.2.2.2.2.2.1 a k).1)
theorem sm_getJ (C : Cx x cc own) {idx ci k a kn : Nat} (hl : FL own idx ci k 1 kn) (ha : a ≠ 0) (hd : decode cc pc = .ok (.getfield idx, 3)) (kk : Sm x em F (pc + 3) lv (vJ (hJ h a k) :: st) h) : Sm x em F pc lv (vR (ci + 1) a :: st) h :=
  sm_get C hl ha hd kk (fun w => by obtain ⟨q, hq, hk, hf, -⟩ := hl; exact fv_J hf w h a k) (fun w H hW rp _ => rp.2.2.2.2.2.2.2.2.1 a k)
theorem sm_getR (C : Cx x cc own) {idx ci k a kn : Nat} (hl : FL own idx ci k 2 kn) (ha : a ≠ 0) (hd : decode cc pc = .ok (.getfield idx, 3)) (kk : Sm x em F (pc + 3) lv (vR kn (hR h a k) :: st) h) : Sm x em F pc lv (vR (ci + 1) a :: st) h :=
  sm_get C hl ha hd kk (fun w => by obtain ⟨q, hq, hk, hf, -⟩ := hl; exact fv_R hf w h a k kn) (fun w H hW rp hka => by
    obtain ⟨q, hq, hk, hf, hr, hci, -⟩ := hl
    have hp := rp.low hW hka (Nat.succ_pos _) (Or.inl (by omega))
    have h1 := rp.2.2.2.2.2.2.2.2.2.1 a k hp
    rw [hka, hr rfl] at h1
    exact h1)
theorem sm_putA (C : Cx x cc own) {idx ci k a : Nat} {q : vw_C} {v : AV} {h' : Hp} {f : Hp → Option β} (hq : gCL[ci]? = some q) (hk : k < q.2.2) (hci : ci < 60) (hlk : Lk own idx q k) (hfin : (q.2.1 k).2.2.2 = false ∨ ((q.2.1 k).2.2.2 = true ∧ x.2.2.2.2.2.2.2.2.1.name = "<init>" ∧ own = q.1 ∧ (Cond.fieldLink own idx q.1 (q.2.1 k).2.1 (q.2.1 k).2.2.1) ∈ lw_all)) (ha : a ≠ 0)
    (hn : ∀ ρ : Nat → Nat, narrow (gTy ci k) (rv ρ v) = rv ρ v) (hfit : ∀ ρ : Nat → Nat, fits (gTy ci k) (rv ρ v) = true) (hv : ∀ w : Wd, fv w h' a (gTy ci k) k = rv (wM w) v)
    (s1 : h'.1 = h.1) (s2 : h'.2.1 = h.2.1) (s3 : ∀ x y, ¬ (x = a ∧ y = k) → hI h' x y = hI h x y ∧ hJ h' x y = hJ h x y ∧ hR h' x y = hR h x y)
    (s4 : okv h v → c32 (hI h a k) → c32 (hI h' a k)) (s5 : okv h v → c64 (hJ h a k) → c64 (hJ h' a k)) (s6 : okv h v → (hR h a k = 0 ∨ (kd h (hR h a k) = rk (ci + 1) k ∧ hR h a k < hN h)) → (hR h' a k = 0 ∨ (kd h (hR h' a k) = rk (ci + 1) k ∧ hR h' a k < hN h)))
    (hd : decode cc pc = .ok (.putfield idx, 3)) (kk : ∀ h1, Sm x em (f h1) (pc + 3) lv st h1) : Sm x em (lt1 h' f) pc lv (v :: vR (ci + 1) a :: st) h := by
  intro o hF
  have kk := kk h' o hF
  obtain ⟨p, l, e, R, s, m, args, below, meth, c, nL, w, h0⟩ := x
  obtain ⟨hx, hb, -, hown, hts, hK, hW, -⟩ := C
  intro H locs ls rp hE hl hs hL hv2
  have hka : kd h a = ci + 1 ∧ a < hN h := Or.resolve_left (ok_h (ok_t hs)) ha
  have hp := rp.low hW hka.1 (Nat.succ_pos _) (Or.inl (by omega))
  have hEx : Ext h h' := Ext.of s1 s2
  show W p l e R s m args below meth c H locs _ _ _ (F0 m pc ls (rv (wM w) v :: rv (wM w) (vR (ci + 1) a) :: st.map (rv (wM w))))
  rw [rv_nz _ ha]
  have hw6 := rp.2.2.2.2.2.2.2.2.2.1 a k hp
  rw [hka.1] at hw6
  refine W.wrF (h' := h') hx hb hown hts hK hW rp hka.1 hka.2 hci hq hk hlk hfin (hn _) (hfit _) (hv w) s1 s2 s3 (s4 (ok_h hs) (rp.2.2.2.2.2.2.2.1 a k).1) (s5 (ok_h hs) (rp.2.2.2.2.2.2.2.2.1 a k)) (by rw [hka.1]; exact s6 (ok_h hs) hw6) hd (fun H' lo hlo rp' => ?_)
  have hn' : hN h' = hN h := by unfold hN; rw [s1]
  have hz' : hZ h' = hZ h := by unfold hZ; rw [s1]
  rw [← hn', ← hz']
  exact kk H' _ ls rp' (hE.tr hEx) (fun q hq => (hl q hq).ext hEx) (fun u hu => ((ok_t (ok_t hs)) u hu).ext hEx) (fun q hq => by
    rcases List.mem_append.mp hq with z | z
    · exact hL q z
    · rw [List.mem_singleton.mp z]; exact hlo) hv2
theorem b01 {v : Int} (hv : v = 0 ∨ v = 1) (ρ : Nat → Nat) : narrow .boolean (rv ρ (vI v)) = rv ρ (vI v) ∧ fits .boolean (rv ρ (vI v)) = true := by
  rcases hv with rfl | rfl
  · exact ⟨(by decide +kernel : narrow .boolean (.int (Int32.ofInt 0)) = .int (Int32.ofInt 0)), (by decide +kernel : fits .boolean (.int (Int32.ofInt 0)) = true)⟩
  · exact ⟨(by decide +kernel : narrow .boolean (.int (Int32.ofInt 1)) = .int (Int32.ofInt 1)), (by decide +kernel : fits .boolean (.int (Int32.ofInt 1)) = true)⟩
theorem sI_ne {h : Hp} {a k : Nat} {v : Int} (x y : Nat) (hn : ¬ (x = a ∧ y = k)) : hI (sI h a k v) x y = hI h x y ∧ hJ (sI h a k v) x y = hJ h x y ∧ hR (sI h a k v) x y = hR h x y := ⟨up2_n _ _ hn, rfl, rfl⟩
theorem sJ_ne {h : Hp} {a k : Nat} {v : Int} (x y : Nat) (hn : ¬ (x = a ∧ y = k)) : hI (sJ h a k v) x y = hI h x y ∧ hJ (sJ h a k v) x y = hJ h x y ∧ hR (sJ h a k v) x y = hR h x y := ⟨rfl, up2_n _ _ hn, rfl⟩
theorem sR_ne {h : Hp} {a k : Nat} {v : Nat} (x y : Nat) (hn : ¬ (x = a ∧ y = k)) : hI (sR h a k v) x y = hI h x y ∧ hJ (sR h a k v) x y = hJ h x y ∧ hR (sR h a k v) x y = hR h x y := ⟨rfl, rfl, up2_n _ _ hn⟩
theorem sI_eq (h : Hp) (a k : Nat) (v : Int) : hI (sI h a k v) a k = v := up2_s _ _ _ _
theorem sJ_eq (h : Hp) (a k : Nat) (v : Int) : hJ (sJ h a k v) a k = v := up2_s _ _ _ _
theorem sR_eq (h : Hp) (a k : Nat) (v : Nat) : hR (sR h a k v) a k = v := up2_s _ _ _ _
theorem rv_fit {ty : FieldType} (hf : fk ty = 2) (ρ : Nat → Nat) (k r : Nat) : narrow ty (rv ρ (vR k r)) = rv ρ (vR k r) ∧ fits ty (rv ρ (vR k r)) = true := by
  rcases rv_ref ρ k r with z | ⟨a, z⟩ <;> rw [z] <;> cases ty <;> first | exact ⟨rfl, rfl⟩ | (simp [fk] at hf)
theorem sm_putI (C : Cx x cc own) {idx ci k a kn : Nat} {v : Int} {f : Hp → Option β} (hl : PL own idx ci k .int kn) (ha : a ≠ 0) (hd : decode cc pc = .ok (.putfield idx, 3)) (kk : ∀ h1, Sm x em (f h1) (pc + 3) lv st h1) : Sm x em (lt1 (sI h a k v) f) pc lv (vI v :: vR (ci + 1) a :: st) h := by
  obtain ⟨q, hq, hk, hty, -, hci, hlk, hfin⟩ := hl
  exact sm_putA C hq hk hci hlk (Or.inl hfin) ha (fun ρ => by rw [hty]; rfl) (fun ρ => by rw [hty]; rfl) (fun w => by rw [hty, fv_I rfl, sI_eq]; rfl) rfl rfl sI_ne (fun h1 _ => by rw [sI_eq]; exact h1) (fun _ h1 => h1) (fun _ h1 => h1) hd kk
theorem sm_putZ (C : Cx x cc own) {idx ci k a kn : Nat} {v : Int} {f : Hp → Option β} (hl : PL own idx ci k .boolean kn) (ha : a ≠ 0) (hv : v = 0 ∨ v = 1) (hd : decode cc pc = .ok (.putfield idx, 3)) (kk : ∀ h1, Sm x em (f h1) (pc + 3) lv st h1) : Sm x em (lt1 (sI h a k v) f) pc lv (vI v :: vR (ci + 1) a :: st) h := by
  obtain ⟨q, hq, hk, hty, -, hci, hlk, hfin⟩ := hl
  exact sm_putA C hq hk hci hlk (Or.inl hfin) ha (fun ρ => by rw [hty]; exact (b01 hv ρ).1) (fun ρ => by rw [hty]; exact (b01 hv ρ).2) (fun w => by rw [hty, fv_I rfl, sI_eq]; rfl) rfl rfl sI_ne (fun h1 _ => by rw [sI_eq]; exact h1) (fun _ h1 => h1) (fun _ h1 => h1) hd kk
theorem sm_putJ (C : Cx x cc own) {idx ci k a kn : Nat} {v : Int} {f : Hp → Option β} (hl : PL own idx ci k .long kn) (ha : a ≠ 0) (hd : decode cc pc = .ok (.putfield idx, 3)) (kk : ∀ h1, Sm x em (f h1) (pc + 3) lv st h1) : Sm x em (lt1 (sJ h a k v) f) pc lv (vJ v :: vR (ci + 1) a :: st) h := by
  obtain ⟨q, hq, hk, hty, -, hci, hlk, hfin⟩ := hl
  exact sm_putA C hq hk hci hlk (Or.inl hfin) ha (fun ρ => by rw [hty]; rfl) (fun ρ => by rw [hty]; rfl) (fun w => by rw [hty, fv_J rfl, sJ_eq]; rfl) rfl rfl sJ_ne (fun _ h1 => h1) (fun h1 _ => by rw [sJ_eq]; exact h1) (fun _ h1 => h1) hd kk
theorem sm_putR (C : Cx x cc own) {idx ci k a kn v : Nat} {ty : FieldType} {f : Hp → Option β} (hl : PL own idx ci k ty kn) (hf : fk ty = 2) (ha : a ≠ 0) (hd : decode cc pc = .ok (.putfield idx, 3)) (kk : ∀ h1, Sm x em (f h1) (pc + 3) lv st h1) : Sm x em (lt1 (sR h a k v) f) pc lv (vR kn v :: vR (ci + 1) a :: st) h := by
  obtain ⟨q, hq, hk, hty, hr, hci, hlk, hfin⟩ := hl
  exact sm_putA C hq hk hci hlk (Or.inl hfin) ha (fun ρ => by rw [hty]; exact (rv_fit hf ρ _ _).1) (fun ρ => by rw [hty]; exact (rv_fit hf ρ _ _).2) (fun w => by rw [hty, fv_R hf w _ a k kn, sR_eq]) rfl rfl sR_ne (fun _ h1 => h1) (fun _ h1 => h1) (fun h1 _ => by rw [sR_eq, hr hf]; exact h1) hd kk
theorem sm_putFI (C : Cx x cc own) (hin : x.2.2.2.2.2.2.2.2.1.name = "<init>") {idx ci k a kn : Nat} {v : Int} {f : Hp → Option β} (hl : PF own idx ci k .int kn) (ha : a ≠ 0) (hd : decode cc pc = .ok (.putfield idx, 3)) (kk : ∀ h1, Sm x em (f h1) (pc + 3) lv st h1) : Sm x em (lt1 (sI h a k v) f) pc lv (vI v :: vR (ci + 1) a :: st) h := by
  obtain ⟨q, hq, hk, hty, -, hci, hfin, ho, hlk⟩ := hl
  exact sm_putA C hq hk hci (Or.inl hlk) (Or.inr ⟨hfin, hin, ho, hlk⟩) ha (fun ρ => by rw [hty]; rfl) (fun ρ => by rw [hty]; rfl) (fun w => by rw [hty, fv_I rfl, sI_eq]; rfl) rfl rfl sI_ne (fun h1 _ => by rw [sI_eq]; exact h1) (fun _ h1 => h1) (fun _ h1 => h1) hd kk
theorem sm_putFR (C : Cx x cc own) (hin : x.2.2.2.2.2.2.2.2.1.name = "<init>") {idx ci k a kn v : Nat} {ty : FieldType} {f : Hp → Option β} (hl : PF own idx ci k ty kn) (hf : fk ty = 2) (ha : a ≠ 0) (hd : decode cc pc = .ok (.putfield idx, 3)) (kk : ∀ h1, Sm x em (f h1) (pc + 3) lv st h1) : Sm x em (lt1 (sR h a k v) f) pc lv (vR kn v :: vR (ci + 1) a :: st) h := by
  obtain ⟨q, hq, hk, hty, hr, hci, hfin, ho, hlk⟩ := hl
  exact sm_putA C hq hk hci (Or.inl hlk) (Or.inr ⟨hfin, hin, ho, hlk⟩) ha (fun ρ => by rw [hty]; exact (rv_fit hf ρ _ _).1) (fun ρ => by rw [hty]; exact (rv_fit hf ρ _ _).2) (fun w => by rw [hty, fv_R hf w _ a k kn, sR_eq]) rfl rfl sR_ne (fun _ h1 => h1) (fun _ h1 => h1) (fun h1 _ => by rw [sR_eq, hr hf]; exact h1) hd kk

/-- an array cell of kind ti + 101 that a value of the stack names -/
theorem ar_at {w : Wd} {h : Hp} {H : Heap} (hW : Wok w) (rp : Rp w h H) {ti a : Nat} (ha : a ≠ 0) (ho : okv h (vR (ti + 101) a)) : PN1 ≤ a ∧ a < hN h ∧ kd h a = ti + 101 ∧ ti < 20 ∧ oA w h H a ti := by
  have hka : kd h a = ti + 101 ∧ a < hN h := Or.resolve_left ho ha
  obtain ⟨h1, h2, h3⟩ := rp.arr hW hka.1 hka.2
  exact ⟨h1, hka.2, hka.1, h2, h3⟩
theorem ix_in {i : Int} {n : Nat} (hc : c32 i) (hi : ix i n) : ¬ (Int32.ofInt i < 0 ∨ n ≤ (Int32.ofInt i).toNatClampNeg) ∧ (Int32.ofInt i).toNatClampNeg = i.toNat ∧ i.toNat < n := by
  unfold ix at hi
  have e := of32_clamp hc
  refine ⟨fun z => ?_, e, by omega⟩
  rcases z with z | z
  · have := (of32_lt hc (by decide : c32 0)).mp z
    omega
  · rw [e] at z; omega
theorem sm_ald (C : Cx x cc own) {ti a : Nat} {i : Int} {ins : Instr} {v : AV} (ha : a ≠ 0) (hi : ix i (ln h a)) (hd : decode cc pc = .ok (ins, 1)) (kk : Sm x em F (pc + 1) lv (v :: st) h)
    (hv : ∀ w : Wd, fv w h a (gTA ti) i.toNat = rv (wM w) v) (ho : ∀ (w : Wd) (H : Heap), Rp w h H → PN1 ≤ a → kd h a = ti + 101 → okv h v)
    (hw : ∀ (p : Program) (l : Launch) (e : Env) (R : Room) (s : State) (m : MethodId) (args : Array Value) (below : List Frame) (meth : Method) (c : Code) (H : Heap) (locs : List Loc) (ls : Array Slot) (cells slots : Nat) (Q : State → Prop) (ad : Nat) (cA : ClassId) (g : Nat → Value) (rest : List Value), p.tables.exec = Jvm.exec → c.code = cc → H[ad]? = some (arrV cA (ln h a) g) → ArrOfT s cA (gTA ti) →
      ¬ (Int32.ofInt i < 0 ∨ (arrV cA (ln h a) g).slots.size ≤ (Int32.ofInt i).toNatClampNeg) → (arrV cA (ln h a) g).slots[(Int32.ofInt i).toNatClampNeg]? = some (g i.toNat) →
      W p l e R s m args below meth c H locs cells slots Q (F0 m (pc + 1) ls (g i.toNat :: rest)) → W p l e R s m args below meth c H locs cells slots Q (F0 m pc ls (.int (Int32.ofInt i) :: .ref ad :: rest))) : Sm x em F pc lv (vI i :: vR (ti + 101) a :: st) h := by
  intro o hF
  have kk := kk o hF
  obtain ⟨p, l, e, R, s, m, args, below, meth, c, nL, w, h0⟩ := x
  obtain ⟨hx, hb, -, hown, hts, hK, hW, -⟩ := C
  intro H locs ls rp hE hl hs hL hv2
  obtain ⟨hp, hlt, hka, hti, hA⟩ := ar_at hW rp ha (ok_h (ok_t hs))
  obtain ⟨j1, j2, j3⟩ := ix_in (ok_h hs) hi
  show W p l e R s m args below meth c H locs _ _ _ (F0 m pc ls (.int (Int32.ofInt i) :: rv (wM w) (vR (ti + 101) a) :: st.map (rv (wM w))))
  rw [rv_nz _ ha]
  refine hw p l e R s m args below meth c H locs ls _ _ _ _ _ _ _ hx hb hA (hK.2.1 ti hti).1 (by rw [arrV_size]; exact j1) (by rw [j2]; exact arrV_read _ _ j3) ?_
  rw [hv]
  exact kk H locs ls rp hE hl (ok_c (ho w H rp hp hka) (ok_t (ok_t hs))) hL hv2
theorem sm_iald (C : Cx x cc own) {a : Nat} {i : Int} (ha : a ≠ 0) (hi : ix i (ln h a)) (hd : decode cc pc = .ok (.iaload, 1)) (kk : Sm x em F (pc + 1) lv (vI (hI h a i.toNat) :: st) h) : Sm x em F pc lv (vI i :: vR 101 a :: st) h :=
  sm_ald (ti := 0) C ha hi hd kk (fun w => fv_I rfl w h a _) (fun w H rp _ _ => (rp.2.2.2.2.2.2.2.1 a _).1) (fun p l e R s m args below meth c H locs ls cells slots Q ad cA g rest hx hb hc harr hin hr k => W.iald hx hb hc (harr _ _) (fun z => by cases z) hin hr rfl rfl hd k)
theorem sm_bald (C : Cx x cc own) {a : Nat} {i : Int} (ha : a ≠ 0) (hi : ix i (ln h a)) (hd : decode cc pc = .ok (.baload, 1)) (kk : Sm x em F (pc + 1) lv (vI (hI h a i.toNat) :: st) h) : Sm x em F pc lv (vI i :: vR 102 a :: st) h :=
  sm_ald (ti := 1) C ha hi hd kk (fun w => fv_I rfl w h a _) (fun w H rp _ _ => (rp.2.2.2.2.2.2.2.1 a _).1) (fun p l e R s m args below meth c H locs ls cells slots Q ad cA g rest hx hb hc harr hin hr k => W.bald hx hb hc (harr _ _) (fun z => by cases z) hin hr rfl rfl hd k)
theorem sm_zald (C : Cx x cc own) {a : Nat} {i : Int} (ha : a ≠ 0) (hi : ix i (ln h a)) (hd : decode cc pc = .ok (.baload, 1)) (kk : Sm x em F (pc + 1) lv (vI (hI h a i.toNat) :: st) h) : Sm x em F pc lv (vI i :: vR 103 a :: st) h :=
  sm_ald (ti := 2) C ha hi hd kk (fun w => fv_I rfl w h a _) (fun w H rp _ _ => (rp.2.2.2.2.2.2.2.1 a _).1) (fun p l e R s m args below meth c H locs ls cells slots Q ad cA g rest hx hb hc harr hin hr k => W.zald hx hb hc (harr _ _) (fun z => by cases z) hin hr rfl rfl hd k)
theorem sm_sald (C : Cx x cc own) {a : Nat} {i : Int} (ha : a ≠ 0) (hi : ix i (ln h a)) (hd : decode cc pc = .ok (.saload, 1)) (kk : Sm x em F (pc + 1) lv (vI (hI h a i.toNat) :: st) h) : Sm x em F pc lv (vI i :: vR 104 a :: st) h :=
  sm_ald (ti := 3) C ha hi hd kk (fun w => fv_I rfl w h a _) (fun w H rp _ _ => (rp.2.2.2.2.2.2.2.1 a _).1) (fun p l e R s m args below meth c H locs ls cells slots Q ad cA g rest hx hb hc harr hin hr k => W.sald hx hb hc (harr _ _) (fun z => by cases z) hin hr rfl rfl hd k)
theorem sm_lald (C : Cx x cc own) {a : Nat} {i : Int} (ha : a ≠ 0) (hi : ix i (ln h a)) (hd : decode cc pc = .ok (.laload, 1)) (kk : Sm x em F (pc + 1) lv (vJ (hJ h a i.toNat) :: st) h) : Sm x em F pc lv (vI i :: vR 105 a :: st) h :=
  sm_ald (ti := 4) C ha hi hd kk (fun w => fv_J rfl w h a _) (fun w H rp _ _ => rp.2.2.2.2.2.2.2.2.1 a _) (fun p l e R s m args below meth c H locs ls cells slots Q ad cA g rest hx hb hc harr hin hr k => W.lald hx hb hc (harr _ _) (fun z => by cases z) hin hr rfl rfl hd k)
theorem sm_aald (C : Cx x cc own) {a ti kn : Nat} {i : Int} (hf : fk (gTA ti) = 2) (hr : (gTA ti).isReference = true) (hkn : gRkA.getD ti 0 = kn) (ha : a ≠ 0) (hi : ix i (ln h a)) (hd : decode cc pc = .ok (.aaload, 1)) (kk : Sm x em F (pc + 1) lv (vR kn (hR h a i.toNat) :: st) h) : Sm x em F pc lv (vI i :: vR (ti + 101) a :: st) h :=
  sm_ald (ti := ti) C ha hi hd kk (fun w => fv_R hf w h a _ kn) (fun w H rp hp hka => by
    have h1 := rp.2.2.2.2.2.2.2.2.2.1 a i.toNat hp
    rw [hka, show rk (ti + 101) i.toNat = kn from by
      unfold rk; rw [if_neg (by omega), show ti + 101 - 101 = ti from by omega]; exact hkn] at h1
    exact h1) (fun p l e R s m args below meth c H locs ls cells slots Q ad cA g rest hx hb hc harr hin hr2 k => W.aald hx hb hc (harr _ _) hr (fun z => by cases z) hin hr2 rfl rfl hd k)
/-- a store into an array -/
theorem sm_ast (C : Cx x cc own) {ti a : Nat} {i : Int} {ins : Instr} {v : AV} {h' : Hp} {f : Hp → Option β} (ha : a ≠ 0) (hi : ix i (ln h a)) (hd : decode cc pc = .ok (ins, 1)) (kk : ∀ h1, Sm x em (f h1) (pc + 1) lv st h1)
    (s1 : h'.1 = h.1) (s2 : h'.2.1 = h.2.1) (s3 : ∀ x y, ¬ (x = a ∧ y = i.toNat) → hI h' x y = hI h x y ∧ hJ h' x y = hJ h x y ∧ hR h' x y = hR h x y)
    (s4 : okv h v → cA (ti + 101) (hI h a i.toNat) → cA (ti + 101) (hI h' a i.toNat)) (s5 : okv h v → c64 (hJ h a i.toNat) → c64 (hJ h' a i.toNat)) (s6 : okv h v → (hR h a i.toNat = 0 ∨ (kd h (hR h a i.toNat) = rk (ti + 101) i.toNat ∧ hR h a i.toNat < hN h)) → (hR h' a i.toNat = 0 ∨ (kd h (hR h' a i.toNat) = rk (ti + 101) i.toNat ∧ hR h' a i.toNat < hN h)))
    (hw : ∀ (p : Program) (l : Launch) (e : Env) (R : Room) (s : State) (m : MethodId) (args : Array Value) (below : List Frame) (meth : Method) (c : Code) (w : Wd) (H : Heap) (locs : List Loc) (ls : Array Slot) (cells slots : Nat) (Q : State → Prop) (g : Nat → Value) (rest : List Value), p.tables.exec = Jvm.exec → c.code = cc → KW w s → Wok w → Rp w h H → okv h v → H[wM w a]? = some (arrV (wA w ti) (ln h a) g) → ArrOfT s (wA w ti) (gTA ti) →
      ¬ (Int32.ofInt i < 0 ∨ (arrV (wA w ti) (ln h a) g).slots.size ≤ (Int32.ofInt i).toNatClampNeg) →
      (∀ H' : Heap, H'[wM w a]? = some ((arrV (wA w ti) (ln h a) g).setSlot (Int32.ofInt i).toNatClampNeg (fv w h' a (gTA ti) i.toNat)) → H'.size = H.size → (∀ q, q ≠ wM w a → H'[q]? = H[q]?) → W p l e R s m args below meth c H' (locs ++ [⟨wM w a, (Int32.ofInt i).toNatClampNeg⟩]) cells slots Q (F0 m (pc + 1) ls rest)) →
      W p l e R s m args below meth c H locs cells slots Q (F0 m pc ls (rv (wM w) v :: .int (Int32.ofInt i) :: .ref (wM w a) :: rest))) : Sm x em (lt1 h' f) pc lv (v :: vI i :: vR (ti + 101) a :: st) h := by
  intro o hF
  have kk := kk h' o hF
  obtain ⟨p, l, e, R, s, m, args, below, meth, c, nL, w, h0⟩ := x
  obtain ⟨hx, hb, -, hown, hts, hK, hW, -⟩ := C
  intro H locs ls rp hE hl hs hL hv2
  obtain ⟨hp, hlt, hka, hti, hA⟩ := ar_at hW rp ha (ok_h (ok_t (ok_t hs)))
  obtain ⟨j1, j2, j3⟩ := ix_in (ok_h (ok_t hs)) hi
  have hEx : Ext h h' := Ext.of s1 s2
  have hge : wB w ≤ wM w a := by have := hW.1 a hp; omega
  have hn' : hN h' = hN h := by unfold hN; rw [s1]
  have hz' : hZ h' = hZ h := by unfold hZ; rw [s1]
  have hl' : ln h' a = ln h a := by unfold ln; rw [s2]
  have hk' : kd h' a = ti + 101 := by unfold kd; rw [s2]; exact hka
  show W p l e R s m args below meth c H locs _ _ _ (F0 m pc ls (rv (wM w) v :: .int (Int32.ofInt i) :: rv (wM w) (vR (ti + 101) a) :: st.map (rv (wM w))))
  rw [rv_nz _ ha]
  refine hw p l e R s m args below meth c w H locs ls _ _ _ _ _ hx hb hK hW rp (ok_h hs) hA (hK.2.1 ti hti).1 (by rw [arrV_size]; exact j1) (fun H' e1 e2 e3 => ?_)
  rw [← hn', ← hz']
  refine kk H' _ ls ?_ (hE.tr hEx) (fun q hq => (hl q hq).ext hEx) (fun u hu => ((ok_t (ok_t (ok_t hs))) u hu).ext hEx) (fun q hq => by
    rcases List.mem_append.mp hq with z | z
    · exact hL q z
    · rw [List.mem_singleton.mp z]; exact hge) hv2
  have hw4 := rp.2.2.2.2.2.2.2.1 a i.toNat
  have hw6 := rp.2.2.2.2.2.2.2.2.2.1 a i.toNat hp
  rw [hka] at hw6 hw4
  refine rp.up hW hp hlt e2 e3 ⟨_, _, hA, e1, by simp [Cell.setSlot]⟩ (Or.inr ⟨ti, hk', hti, ?_⟩) s1 s2 (fun x y hxa => s3 x y (fun z => hxa z.1)) (fun y => ?_) (fun y => ?_) (fun y => ?_)
  · show H'[wM w a]? = some (arrV _ (ln h' a) _)
    rw [e1, arrV_store, hl', j2]
    congr 2
    funext y
    by_cases hy : y = i.toNat
    · subst hy; simp [updV]
    · simp only [updV, if_neg hy]
      exact (fv_congr (s3 a y (fun z => hy z.2)).1 (s3 a y (fun z => hy z.2)).2.1 (s3 a y (fun z => hy z.2)).2.2 _).symm
  · by_cases hy : y = i.toNat
    · rw [hy, hka]; exact s4 (ok_h hs) hw4
    · rw [(s3 a y (fun z => hy z.2)).1]; exact rp.2.2.2.2.2.2.2.1 a y
  · by_cases hy : y = i.toNat
    · rw [hy]; exact s5 (ok_h hs) (rp.2.2.2.2.2.2.2.2.1 a _)
    · rw [(s3 a y (fun z => hy z.2)).2.1]; exact rp.2.2.2.2.2.2.2.2.1 a y
  · by_cases hy : y = i.toNat
    · rw [hy, hka]; exact s6 (ok_h hs) hw6
    · rw [(s3 a y (fun z => hy z.2)).2.2]; exact rp.2.2.2.2.2.2.2.2.2.1 a y hp
theorem nar_b (x : Int) : narrow .byte (.int (Int32.ofInt x)) = .int (Int32.ofInt (i8 x)) := congrArg Value.int (of32_i8 x)
theorem nar_s (x : Int) : narrow .short (.int (Int32.ofInt x)) = .int (Int32.ofInt (i16 x)) := congrArg Value.int (of32_i16 x)
theorem sm_iast (C : Cx x cc own) {a : Nat} {i v : Int} {f : Hp → Option β} (ha : a ≠ 0) (hi : ix i (ln h a)) (hd : decode cc pc = .ok (.iastore, 1)) (kk : ∀ h1, Sm x em (f h1) (pc + 1) lv st h1) : Sm x em (lt1 (sI h a i.toNat v) f) pc lv (vI v :: vI i :: vR 101 a :: st) h :=
  sm_ast (ti := 0) C ha hi hd kk rfl rfl sI_ne (fun h1 _ => by rw [sI_eq]; exact cA.o h1 (by decide) (by decide) (by decide)) (fun _ h1 => h1) (fun _ h1 => h1) (fun p l e R s m args below meth c w H locs ls cells slots Q g rest hx hb hK hW rp ho hc harr hin k => W.iast hx hb hc (harr _ _) (fun z => by cases z) hin rfl rfl hd (fun H' e1 e2 e3 => k H' (by rw [e1, fv_I rfl, sI_eq]) e2 e3))
theorem sm_bast (C : Cx x cc own) {a : Nat} {i v : Int} {f : Hp → Option β} (ha : a ≠ 0) (hi : ix i (ln h a)) (hd : decode cc pc = .ok (.bastore, 1)) (kk : ∀ h1, Sm x em (f h1) (pc + 1) lv st h1) : Sm x em (lt1 (sI h a i.toNat (i8 v)) f) pc lv (vI v :: vI i :: vR 102 a :: st) h :=
  sm_ast (ti := 1) C ha hi hd kk rfl rfl sI_ne (fun h1 _ => by rw [sI_eq]; exact ⟨c32_i8 v, fun _ => by unfold i8; omega, fun z => absurd z (by decide), fun z => absurd z (by decide)⟩) (fun _ h1 => h1) (fun _ h1 => h1) (fun p l e R s m args below meth c w H locs ls cells slots Q g rest hx hb hK hW rp ho hc harr hin k => W.bast hx hb hc (harr _ _) (fun z => by cases z) hin rfl rfl hd (fun H' e1 e2 e3 => k H' (by rw [e1, fv_I rfl, sI_eq, nar_b]) e2 e3))
theorem sm_sast (C : Cx x cc own) {a : Nat} {i v : Int} {f : Hp → Option β} (ha : a ≠ 0) (hi : ix i (ln h a)) (hd : decode cc pc = .ok (.sastore, 1)) (kk : ∀ h1, Sm x em (f h1) (pc + 1) lv st h1) : Sm x em (lt1 (sI h a i.toNat (i16 v)) f) pc lv (vI v :: vI i :: vR 104 a :: st) h :=
  sm_ast (ti := 3) C ha hi hd kk rfl rfl sI_ne (fun h1 _ => by rw [sI_eq]; exact ⟨c32_i16 v, fun z => absurd z (by decide), fun z => absurd z (by decide), fun _ => by unfold i16; omega⟩) (fun _ h1 => h1) (fun _ h1 => h1) (fun p l e R s m args below meth c w H locs ls cells slots Q g rest hx hb hK hW rp ho hc harr hin k => W.sast hx hb hc (harr _ _) (fun z => by cases z) hin rfl rfl hd (fun H' e1 e2 e3 => k H' (by rw [e1, fv_I rfl, sI_eq, nar_s]) e2 e3))
theorem sm_zast (C : Cx x cc own) {a : Nat} {i v : Int} {f : Hp → Option β} (ha : a ≠ 0) (hi : ix i (ln h a)) (hb : v = 0 ∨ v = 1) (hd : decode cc pc = .ok (.bastore, 1)) (kk : ∀ h1, Sm x em (f h1) (pc + 1) lv st h1) : Sm x em (lt1 (sI h a i.toNat v) f) pc lv (vI v :: vI i :: vR 103 a :: st) h :=
  sm_ast (ti := 2) C ha hi hd kk rfl rfl sI_ne (fun h1 _ => by rw [sI_eq]; exact ⟨h1, fun z => absurd z (by decide), fun _ => hb, fun z => absurd z (by decide)⟩) (fun _ h1 => h1) (fun _ h1 => h1) (fun p l e R s m args below meth c w H locs ls cells slots Q g rest hx hb2 hK hW rp ho hc harr hin k => W.zast hx hb2 hc (harr _ _) (fun z => by cases z) hin rfl rfl hd (fun H' e1 e2 e3 => k H' (by rw [e1, fv_I rfl, sI_eq]; rw [show narrow .boolean (.int (Int32.ofInt v)) = .int (Int32.ofInt v) from (b01 hb (fun _ => 0)).1]) e2 e3))
theorem sm_last (C : Cx x cc own) {a : Nat} {i v : Int} {f : Hp → Option β} (ha : a ≠ 0) (hi : ix i (ln h a)) (hd : decode cc pc = .ok (.lastore, 1)) (kk : ∀ h1, Sm x em (f h1) (pc + 1) lv st h1) : Sm x em (lt1 (sJ h a i.toNat v) f) pc lv (vJ v :: vI i :: vR 105 a :: st) h :=
  sm_ast (ti := 4) C ha hi hd kk rfl rfl sJ_ne (fun _ h1 => h1) (fun h1 _ => by rw [sJ_eq]; exact h1) (fun _ h1 => h1) (fun p l e R s m args below meth c w H locs ls cells slots Q g rest hx hb hK hW rp ho hc harr hin k => W.last hx hb hc (harr _ _) (fun z => by cases z) hin rfl rfl hd (fun H' e1 e2 e3 => k H' (by rw [e1, fv_J rfl, sJ_eq]) e2 e3))
theorem sm_alen (C : Cx x cc own) {a ti : Nat} (ha : a ≠ 0) (hd : decode cc pc = .ok (.arraylength, 1)) (kk : Sm x em F (pc + 1) lv (vI (ln h a) :: st) h) : Sm x em F pc lv (vR (ti + 101) a :: st) h := by
  intro o hF
  have kk := kk o hF
  obtain ⟨p, l, e, R, s, m, args, below, meth, c, nL, w, h0⟩ := x
  obtain ⟨hx, hb, -, hown, hts, hK, hW, -⟩ := C
  intro H locs ls rp hE hl hs hL hv2
  obtain ⟨hp, hlt, hka, hti, hA⟩ := ar_at hW rp ha (ok_h hs)
  have hb2 := rp.2.2.2.2.2.2.2.2.2.2.2.2 a hp
  show W p l e R s m args below meth c H locs _ _ _ (F0 m pc ls (rv (wM w) (vR (ti + 101) a) :: st.map (rv (wM w))))
  rw [rv_nz _ ha]
  refine W.alen hx hb hA ((hK.2.1 ti hti).1 _ _) (n := Int32.ofInt (ln h a)) ?_ rfl rfl hd ?_
  · rw [arrV_size]; rfl
  · exact kk H locs ls rp hE hl (ok_c (show c32 _ by unfold CZ at hb2; unfold c32; omega) (ok_t hs)) hL hv2
end
