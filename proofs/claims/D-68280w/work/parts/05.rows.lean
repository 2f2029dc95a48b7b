/-! ROWS: instructions that touch locals, stack and pc alone (written by gen/rows1.py) -/
section
variable {x : Ctx} {cc : ByteArray} {own : String} {β : Type} {em : β → Xo} {F A B : Option β} {pc : Nat} {lv : List (Nat × AV)} {st : List AV} {h : Hp}
theorem ok_nil {h : Hp} : ∀ v ∈ ([] : List AV), okv h v := fun v hv => by cases hv
theorem ok_c {h : Hp} {v : AV} {st : List AV} (h1 : okv h v) (h2 : ∀ v ∈ st, okv h v) : ∀ u ∈ v :: st, okv h u := List.forall_mem_cons.mpr ⟨h1, h2⟩
theorem ok_h {h : Hp} {v : AV} {st : List AV} (h2 : ∀ u ∈ v :: st, okv h u) : okv h v := h2 v List.mem_cons_self
theorem ok_t {h : Hp} {v : AV} {st : List AV} (h2 : ∀ u ∈ v :: st, okv h u) : ∀ u ∈ st, okv h u := fun u hu => h2 u (List.mem_cons_of_mem _ hu)
theorem cat_i (ρ : Nat → Nat) {v : AV} (hv : isJ v = false) : (rv ρ v).category = 1 := by
  match v, hv with
  | .inl y, _ => rfl
  | .inr (.inr (k, r)), _ =>
    show (if r = 0 then Value.null else .ref (ρ r)).category = 1
    split <;> rfl
theorem cat_j (ρ : Nat → Nat) {v : AV} (hv : isJ v = true) : (rv ρ v).category = 2 := by
  match v, hv with
  | .inr (.inl y), _ => rfl
/-- a step that leaves heap and locals alone -/
theorem sm_s (C : Cx x cc own) {st' : List AV} {pc' : Nat} (k : Sm x em F pc' lv st' h) (ho : (∀ v ∈ st, okv h v) → ∀ v ∈ st', okv h v)
    (hw : ∀ (p : Program) (l : Launch) (e : Env) (R : Room) (s : State) (m : MethodId) (args : Array Value) (below : List Frame) (meth : Method) (c : Code) (ρ : Nat → Nat) (H : Heap) (locs : List Loc) (ls : Array Slot) (cells slots : Nat) (Q : State → Prop), p.tables.exec = Jvm.exec → c.code = cc → s.vm.findClass own = some m.cls → (∀ y ∈ lw_all, y.before args s = true) → (∀ v ∈ st, okv h v) →
      W p l e R s m args below meth c H locs cells slots Q (F0 m pc' ls (st'.map (rv ρ))) → W p l e R s m args below meth c H locs cells slots Q (F0 m pc ls (st.map (rv ρ)))) : Sm x em F pc lv st h := by
  intro o hF
  have k := k o hF
  obtain ⟨p, l, e, R, s, m, args, below, meth, c, nL, w, h0⟩ := x
  obtain ⟨hx, hb, -, hown, hts, -⟩ := C
  intro H locs ls hR hE hl hs hL hv
  exact hw p l e R s m args below meth c _ H locs ls _ _ _ hx hb hown hts hs (k H locs ls hR hE hl (ho hs) hL hv)
theorem sm_none : Sm x em (none : Option β) pc lv st h := fun _ hF => by cases hF
theorem sm_ite {c : Prop} [Decidable c] (ht : c → Sm x em A pc lv st h) (hf : ¬ c → Sm x em B pc lv st h) : Sm x em (if c then A else B) pc lv st h := by
  intro o hF
  by_cases hc : c
  · rw [if_pos hc] at hF; exact ht hc o hF
  · rw [if_neg hc] at hF; exact hf hc o hF
theorem sm_chk {c : Prop} [Decidable c] (ht : c → Sm x em A pc lv st h) : Sm x em (if c then A else none) pc lv st h := sm_ite ht (fun _ => sm_none)
theorem sm_chn {c : Prop} [Decidable c] (ht : ¬ c → Sm x em A pc lv st h) : Sm x em (if c then none else A) pc lv st h := sm_ite (fun _ => sm_none) ht
theorem sm_sub {lv' : List (Nat × AV)} (ps : List Nat) (hp : ps.filterMap (fun i => lv[i]?) = lv') (k : Sm x em F pc lv' st h) : Sm x em F pc lv st h := by
  intro o hF
  have k := k o hF
  obtain ⟨p, l, e, R, s, m, args, below, meth, c, nL, w, h0⟩ := x
  have hm : ∀ q ∈ lv', q ∈ lv := by
    intro q hq
    rw [← hp] at hq
    obtain ⟨i, -, hi⟩ := List.mem_filterMap.mp hq
    exact List.mem_of_getElem? hi
  intro H locs ls hR hE hl hs hL hv
  refine k H locs ls hR hE (fun q hq => hl q (hm q hq)) hs hL ⟨hv.1, hv.2.1, fun q hq => ?_⟩
  obtain ⟨r, hr, rfl⟩ := List.mem_map.mp hq
  exact hv.2.2 _ (List.mem_map.mpr ⟨r, hm r hr, rfl⟩)

theorem sm_iadd (C : Cx x cc own) {a b : Int} (hd : decode cc pc = .ok (.iadd, 1)) (k : Sm x em F (pc + 1) lv (vI (w32 (a + b)) :: st) h) : Sm x em F pc lv (vI b :: vI a :: st) h :=
  sm_s C k (fun hs => ok_c (c32_w _) (ok_t (ok_t hs))) (fun p l e R s m args below meth c ρ H locs ls cells slots Q hx hb ho ht hs kk => lv_iadd hx hb hd (by rw [show Int32.ofInt a + Int32.ofInt b = Int32.ofInt (w32 (a + b)) from of32_add a b]; exact kk))
theorem sm_isub (C : Cx x cc own) {a b : Int} (hd : decode cc pc = .ok (.isub, 1)) (k : Sm x em F (pc + 1) lv (vI (w32 (a - b)) :: st) h) : Sm x em F pc lv (vI b :: vI a :: st) h :=
  sm_s C k (fun hs => ok_c (c32_w _) (ok_t (ok_t hs))) (fun p l e R s m args below meth c ρ H locs ls cells slots Q hx hb ho ht hs kk => lv_isub hx hb hd (by rw [show Int32.ofInt a - Int32.ofInt b = Int32.ofInt (w32 (a - b)) from of32_sub a b]; exact kk))
theorem sm_imul (C : Cx x cc own) {a b : Int} (hd : decode cc pc = .ok (.imul, 1)) (k : Sm x em F (pc + 1) lv (vI (w32 (a * b)) :: st) h) : Sm x em F pc lv (vI b :: vI a :: st) h :=
  sm_s C k (fun hs => ok_c (c32_w _) (ok_t (ok_t hs))) (fun p l e R s m args below meth c ρ H locs ls cells slots Q hx hb ho ht hs kk => lv_imul hx hb hd (by rw [show Int32.ofInt a * Int32.ofInt b = Int32.ofInt (w32 (a * b)) from of32_mul a b]; exact kk))
theorem sm_iand (C : Cx x cc own) {a b : Int} (hd : decode cc pc = .ok (.iand, 1)) (k : Sm x em F (pc + 1) lv (vI (iAnd a b) :: st) h) : Sm x em F pc lv (vI b :: vI a :: st) h :=
  sm_s C k (fun hs => ok_c (c32_toInt _) (ok_t (ok_t hs))) (fun p l e R s m args below meth c ρ H locs ls cells slots Q hx hb ho ht hs kk => lv_iand hx hb hd (by rw [show Int32.ofInt a &&& Int32.ofInt b = Int32.ofInt (iAnd a b) from (Int32.ofInt_toInt _).symm]; exact kk))
theorem sm_ior (C : Cx x cc own) {a b : Int} (hd : decode cc pc = .ok (.ior, 1)) (k : Sm x em F (pc + 1) lv (vI (iOr a b) :: st) h) : Sm x em F pc lv (vI b :: vI a :: st) h :=
  sm_s C k (fun hs => ok_c (c32_toInt _) (ok_t (ok_t hs))) (fun p l e R s m args below meth c ρ H locs ls cells slots Q hx hb ho ht hs kk => lv_ior hx hb hd (by rw [show Int32.ofInt a ||| Int32.ofInt b = Int32.ofInt (iOr a b) from (Int32.ofInt_toInt _).symm]; exact kk))
theorem sm_ixor (C : Cx x cc own) {a b : Int} (hd : decode cc pc = .ok (.ixor, 1)) (k : Sm x em F (pc + 1) lv (vI (iXor a b) :: st) h) : Sm x em F pc lv (vI b :: vI a :: st) h :=
  sm_s C k (fun hs => ok_c (c32_toInt _) (ok_t (ok_t hs))) (fun p l e R s m args below meth c ρ H locs ls cells slots Q hx hb ho ht hs kk => lv_ixor hx hb hd (by rw [show Int32.ofInt a ^^^ Int32.ofInt b = Int32.ofInt (iXor a b) from (Int32.ofInt_toInt _).symm]; exact kk))
theorem sm_idiv (C : Cx x cc own) {a b : Int} (hne : b ≠ 0) (hd : decode cc pc = .ok (.idiv, 1)) (k : Sm x em F (pc + 1) lv (vI (iDiv a b) :: st) h) : Sm x em F pc lv (vI b :: vI a :: st) h :=
  sm_s C k (fun hs => ok_c (c32_toInt _) (ok_t (ok_t hs))) (fun p l e R s m args below meth c ρ H locs ls cells slots Q hx hb ho ht hs kk => lv_idiv hx hb hd (fun z => hne ((of32_eq (ok_h hs) (by decide : c32 0)).mp z)) (by rw [show Int32.ofInt a / Int32.ofInt b = Int32.ofInt (iDiv a b) from (Int32.ofInt_toInt _).symm]; exact kk))
theorem sm_irem (C : Cx x cc own) {a b : Int} (hne : b ≠ 0) (hd : decode cc pc = .ok (.irem, 1)) (k : Sm x em F (pc + 1) lv (vI (iRem a b) :: st) h) : Sm x em F pc lv (vI b :: vI a :: st) h :=
  sm_s C k (fun hs => ok_c (c32_toInt _) (ok_t (ok_t hs))) (fun p l e R s m args below meth c ρ H locs ls cells slots Q hx hb ho ht hs kk => lv_irem hx hb hd (fun z => hne ((of32_eq (ok_h hs) (by decide : c32 0)).mp z)) (by rw [show Int32.ofInt a - Int32.ofInt a / Int32.ofInt b * Int32.ofInt b = Int32.ofInt (iRem a b) from (Int32.ofInt_toInt _).symm]; exact kk))
theorem sm_ishl (C : Cx x cc own) {a b : Int} (hd : decode cc pc = .ok (.ishl, 1)) (k : Sm x em F (pc + 1) lv (vI (iShl a b) :: st) h) : Sm x em F pc lv (vI b :: vI a :: st) h :=
  sm_s C k (fun hs => ok_c (c32_toInt _) (ok_t (ok_t hs))) (fun p l e R s m args below meth c ρ H locs ls cells slots Q hx hb ho ht hs kk => lv_ishl hx hb hd (by rw [show Int32.ofInt a <<< (Int32.ofInt b &&& 31) = Int32.ofInt (iShl a b) from (Int32.ofInt_toInt _).symm]; exact kk))
theorem sm_ishr (C : Cx x cc own) {a b : Int} (hd : decode cc pc = .ok (.ishr, 1)) (k : Sm x em F (pc + 1) lv (vI (iShr a b) :: st) h) : Sm x em F pc lv (vI b :: vI a :: st) h :=
  sm_s C k (fun hs => ok_c (c32_toInt _) (ok_t (ok_t hs))) (fun p l e R s m args below meth c ρ H locs ls cells slots Q hx hb ho ht hs kk => lv_ishr hx hb hd (by rw [show Int32.ofInt a >>> (Int32.ofInt b &&& 31) = Int32.ofInt (iShr a b) from (Int32.ofInt_toInt _).symm]; exact kk))
theorem sm_iushr (C : Cx x cc own) {a b : Int} (hd : decode cc pc = .ok (.iushr, 1)) (k : Sm x em F (pc + 1) lv (vI (iUshr a b) :: st) h) : Sm x em F pc lv (vI b :: vI a :: st) h :=
  sm_s C k (fun hs => ok_c (c32_toInt _) (ok_t (ok_t hs))) (fun p l e R s m args below meth c ρ H locs ls cells slots Q hx hb ho ht hs kk => lv_iushr hx hb hd (Int32.ofInt_toInt _).symm kk)
theorem sm_ineg (C : Cx x cc own) {a : Int} (hd : decode cc pc = .ok (.ineg, 1)) (k : Sm x em F (pc + 1) lv (vI (w32 (-a)) :: st) h) : Sm x em F pc lv (vI a :: st) h :=
  sm_s C k (fun hs => ok_c (c32_w _) (ok_t hs)) (fun p l e R s m args below meth c ρ H locs ls cells slots Q hx hb ho ht hs kk => lv_ineg hx hb hd (by rw [of32_neg]; exact kk))
theorem sm_lneg (C : Cx x cc own) {a : Int} (hd : decode cc pc = .ok (.lneg, 1)) (k : Sm x em F (pc + 1) lv (vJ (w64 (-a)) :: st) h) : Sm x em F pc lv (vJ a :: st) h :=
  sm_s C k (fun hs => ok_c (c64_w _) (ok_t hs)) (fun p l e R s m args below meth c ρ H locs ls cells slots Q hx hb ho ht hs kk => lv_lneg hx hb hd (by rw [of64_neg]; exact kk))
theorem sm_i2l (C : Cx x cc own) {a : Int} (hd : decode cc pc = .ok (.i2l, 1)) (k : Sm x em F (pc + 1) lv (vJ a :: st) h) : Sm x em F pc lv (vI a :: st) h :=
  sm_s C k (fun hs => ok_c (c64_of32 (ok_h hs)) (ok_t hs)) (fun p l e R s m args below meth c ρ H locs ls cells slots Q hx hb ho ht hs kk => lv_i2l hx hb hd (of32_l (ok_h hs)) kk)
theorem sm_l2i (C : Cx x cc own) {a : Int} (hd : decode cc pc = .ok (.l2i, 1)) (k : Sm x em F (pc + 1) lv (vI (w32 a) :: st) h) : Sm x em F pc lv (vJ a :: st) h :=
  sm_s C k (fun hs => ok_c (c32_w _) (ok_t hs)) (fun p l e R s m args below meth c ρ H locs ls cells slots Q hx hb ho ht hs kk => lv_l2i hx hb hd (of64_i a) kk)
theorem sm_i2b (C : Cx x cc own) {a : Int} (hd : decode cc pc = .ok (.i2b, 1)) (k : Sm x em F (pc + 1) lv (vI (i8 a) :: st) h) : Sm x em F pc lv (vI a :: st) h :=
  sm_s C k (fun hs => ok_c (c32_i8 _) (ok_t hs)) (fun p l e R s m args below meth c ρ H locs ls cells slots Q hx hb ho ht hs kk => lv_i2b hx hb hd (of32_i8 a) kk)
theorem sm_i2s (C : Cx x cc own) {a : Int} (hd : decode cc pc = .ok (.i2s, 1)) (k : Sm x em F (pc + 1) lv (vI (i16 a) :: st) h) : Sm x em F pc lv (vI a :: st) h :=
  sm_s C k (fun hs => ok_c (c32_i16 _) (ok_t hs)) (fun p l e R s m args below meth c ρ H locs ls cells slots Q hx hb ho ht hs kk => lv_i2s hx hb hd (of32_i16 a) kk)
theorem sm_ladd (C : Cx x cc own) {a b : Int} (hd : decode cc pc = .ok (.ladd, 1)) (k : Sm x em F (pc + 1) lv (vJ (w64 (a + b)) :: st) h) : Sm x em F pc lv (vJ b :: vJ a :: st) h :=
  sm_s C k (fun hs => ok_c (c64_w _) (ok_t (ok_t hs))) (fun p l e R s m args below meth c ρ H locs ls cells slots Q hx hb ho ht hs kk => lv_ladd hx hb hd (by rw [show Int64.ofInt a + Int64.ofInt b = Int64.ofInt (w64 (a + b)) from of64_add a b]; exact kk))
theorem sm_lsub (C : Cx x cc own) {a b : Int} (hd : decode cc pc = .ok (.lsub, 1)) (k : Sm x em F (pc + 1) lv (vJ (w64 (a - b)) :: st) h) : Sm x em F pc lv (vJ b :: vJ a :: st) h :=
  sm_s C k (fun hs => ok_c (c64_w _) (ok_t (ok_t hs))) (fun p l e R s m args below meth c ρ H locs ls cells slots Q hx hb ho ht hs kk => lv_lsub hx hb hd (by rw [show Int64.ofInt a - Int64.ofInt b = Int64.ofInt (w64 (a - b)) from of64_sub a b]; exact kk))
theorem sm_lmul (C : Cx x cc own) {a b : Int} (hd : decode cc pc = .ok (.lmul, 1)) (k : Sm x em F (pc + 1) lv (vJ (w64 (a * b)) :: st) h) : Sm x em F pc lv (vJ b :: vJ a :: st) h :=
  sm_s C k (fun hs => ok_c (c64_w _) (ok_t (ok_t hs))) (fun p l e R s m args below meth c ρ H locs ls cells slots Q hx hb ho ht hs kk => lv_lmul hx hb hd (by rw [show Int64.ofInt a * Int64.ofInt b = Int64.ofInt (w64 (a * b)) from of64_mul a b]; exact kk))
theorem sm_land (C : Cx x cc own) {a b : Int} (hd : decode cc pc = .ok (.land, 1)) (k : Sm x em F (pc + 1) lv (vJ (lAnd a b) :: st) h) : Sm x em F pc lv (vJ b :: vJ a :: st) h :=
  sm_s C k (fun hs => ok_c (c64_toInt _) (ok_t (ok_t hs))) (fun p l e R s m args below meth c ρ H locs ls cells slots Q hx hb ho ht hs kk => lv_land hx hb hd (by rw [show Int64.ofInt a &&& Int64.ofInt b = Int64.ofInt (lAnd a b) from (Int64.ofInt_toInt _).symm]; exact kk))
theorem sm_lor (C : Cx x cc own) {a b : Int} (hd : decode cc pc = .ok (.lor, 1)) (k : Sm x em F (pc + 1) lv (vJ (lOr a b) :: st) h) : Sm x em F pc lv (vJ b :: vJ a :: st) h :=
  sm_s C k (fun hs => ok_c (c64_toInt _) (ok_t (ok_t hs))) (fun p l e R s m args below meth c ρ H locs ls cells slots Q hx hb ho ht hs kk => lv_lor hx hb hd (by rw [show Int64.ofInt a ||| Int64.ofInt b = Int64.ofInt (lOr a b) from (Int64.ofInt_toInt _).symm]; exact kk))
theorem sm_lxor (C : Cx x cc own) {a b : Int} (hd : decode cc pc = .ok (.lxor, 1)) (k : Sm x em F (pc + 1) lv (vJ (lXor a b) :: st) h) : Sm x em F pc lv (vJ b :: vJ a :: st) h :=
  sm_s C k (fun hs => ok_c (c64_toInt _) (ok_t (ok_t hs))) (fun p l e R s m args below meth c ρ H locs ls cells slots Q hx hb ho ht hs kk => lv_lxor hx hb hd (by rw [show Int64.ofInt a ^^^ Int64.ofInt b = Int64.ofInt (lXor a b) from (Int64.ofInt_toInt _).symm]; exact kk))
theorem sm_ldiv (C : Cx x cc own) {a b : Int} (hne : b ≠ 0) (hd : decode cc pc = .ok (.ldiv, 1)) (k : Sm x em F (pc + 1) lv (vJ (lDiv a b) :: st) h) : Sm x em F pc lv (vJ b :: vJ a :: st) h :=
  sm_s C k (fun hs => ok_c (c64_toInt _) (ok_t (ok_t hs))) (fun p l e R s m args below meth c ρ H locs ls cells slots Q hx hb ho ht hs kk => lv_ldiv hx hb hd (fun z => hne ((of64_eq (ok_h hs) (by decide : c64 0)).mp z)) (by rw [show Int64.ofInt a / Int64.ofInt b = Int64.ofInt (lDiv a b) from (Int64.ofInt_toInt _).symm]; exact kk))
theorem sm_lrem (C : Cx x cc own) {a b : Int} (hne : b ≠ 0) (hd : decode cc pc = .ok (.lrem, 1)) (k : Sm x em F (pc + 1) lv (vJ (lRem a b) :: st) h) : Sm x em F pc lv (vJ b :: vJ a :: st) h :=
  sm_s C k (fun hs => ok_c (c64_toInt _) (ok_t (ok_t hs))) (fun p l e R s m args below meth c ρ H locs ls cells slots Q hx hb ho ht hs kk => lv_lrem hx hb hd (fun z => hne ((of64_eq (ok_h hs) (by decide : c64 0)).mp z)) (by rw [show Int64.ofInt a - Int64.ofInt a / Int64.ofInt b * Int64.ofInt b = Int64.ofInt (lRem a b) from (Int64.ofInt_toInt _).symm]; exact kk))
theorem sm_lshl (C : Cx x cc own) {a b : Int} (hd : decode cc pc = .ok (.lshl, 1)) (k : Sm x em F (pc + 1) lv (vJ (lShl a b) :: st) h) : Sm x em F pc lv (vI b :: vJ a :: st) h :=
  sm_s C k (fun hs => ok_c (c64_toInt _) (ok_t (ok_t hs))) (fun p l e R s m args below meth c ρ H locs ls cells slots Q hx hb ho ht hs kk => lv_lshl hx hb hd (Int64.ofInt_toInt _).symm kk)
theorem sm_lshr (C : Cx x cc own) {a b : Int} (hd : decode cc pc = .ok (.lshr, 1)) (k : Sm x em F (pc + 1) lv (vJ (lShr a b) :: st) h) : Sm x em F pc lv (vI b :: vJ a :: st) h :=
  sm_s C k (fun hs => ok_c (c64_toInt _) (ok_t (ok_t hs))) (fun p l e R s m args below meth c ρ H locs ls cells slots Q hx hb ho ht hs kk => lv_lshr hx hb hd (Int64.ofInt_toInt _).symm kk)
theorem sm_lushr (C : Cx x cc own) {a b : Int} (hd : decode cc pc = .ok (.lushr, 1)) (k : Sm x em F (pc + 1) lv (vJ (lUshr a b) :: st) h) : Sm x em F pc lv (vI b :: vJ a :: st) h :=
  sm_s C k (fun hs => ok_c (c64_toInt _) (ok_t (ok_t hs))) (fun p l e R s m args below meth c ρ H locs ls cells slots Q hx hb ho ht hs kk => lv_lushr hx hb hd (Int64.ofInt_toInt _).symm kk)
theorem sm_lcmp (C : Cx x cc own) {a b : Int} (hd : decode cc pc = .ok (.lcmp, 1)) (k : Sm x em F (pc + 1) lv (vI (lCmp a b) :: st) h) : Sm x em F pc lv (vJ b :: vJ a :: st) h :=
  sm_s C k (fun hs => ok_c (c32_cmp _ _) (ok_t (ok_t hs))) (fun p l e R s m args below meth c ρ H locs ls cells slots Q hx hb ho ht hs kk => W.lcmp hx hb hd (by rw [of64_cmp (ok_h (ok_t hs)) (ok_h hs)]; exact kk))
theorem sm_iconst (C : Cx x cc own) {n : Int} (hd : decode cc pc = .ok (.iconst n, 1)) (hc : c32 n) (k : Sm x em F (pc + 1) lv (vI n :: st) h) : Sm x em F pc lv st h :=
  sm_s C k (fun hs => ok_c hc hs) (fun p l e R s m args below meth c ρ H locs ls cells slots Q hx hb ho ht hs kk => lv_iconst hx hb hd rfl kk)
theorem sm_bipush (C : Cx x cc own) {n : Int} (hd : decode cc pc = .ok (.bipush n, 2)) (hv : (Int8.ofInt n).toInt32 = Int32.ofInt n) (hc : c32 n) (k : Sm x em F (pc + 2) lv (vI n :: st) h) : Sm x em F pc lv st h :=
  sm_s C k (fun hs => ok_c hc hs) (fun p l e R s m args below meth c ρ H locs ls cells slots Q hx hb ho ht hs kk => lv_bipush hx hb hd hv kk)
theorem sm_sipush (C : Cx x cc own) {n : Int} (hd : decode cc pc = .ok (.sipush n, 3)) (hv : (Int16.ofInt n).toInt32 = Int32.ofInt n) (hc : c32 n) (k : Sm x em F (pc + 3) lv (vI n :: st) h) : Sm x em F pc lv st h :=
  sm_s C k (fun hs => ok_c hc hs) (fun p l e R s m args below meth c ρ H locs ls cells slots Q hx hb ho ht hs kk => lv_sipush hx hb hd hv kk)
theorem sm_lconst (C : Cx x cc own) {n : Fin 2} (hd : decode cc pc = .ok (.lconst n, 1)) {v : Int} (hv : Int64.ofNat (n : Nat) = Int64.ofInt v) (hc : c64 v) (k : Sm x em F (pc + 1) lv (vJ v :: st) h) : Sm x em F pc lv st h :=
  sm_s C k (fun hs => ok_c hc hs) (fun p l e R s m args below meth c ρ H locs ls cells slots Q hx hb ho ht hs kk => lv_lconst hx hb hd hv kk)
theorem sm_ldc (C : Cx x cc own) {i : Nat} {u : Int32} (hq : (Jvm.Cond.constant own i u) ∈ lw_all) (hd : decode cc pc = .ok (.ldc i, 2)) (v : Int) (hv : u = Int32.ofInt v) (hc : c32 v) (k : Sm x em F (pc + 2) lv (vI v :: st) h) : Sm x em F pc lv st h :=
  sm_s C k (fun hs => ok_c hc hs) (fun p l e R s m args below meth c ρ H locs ls cells slots Q hx hb ho ht hs kk => lv_ldc hx hb ho (ht _ hq) hd (by rw [hv]; exact kk))
theorem sm_ldcw (C : Cx x cc own) {i : Nat} {u : Int32} (hq : (Jvm.Cond.constant own i u) ∈ lw_all) (hd : decode cc pc = .ok (.ldc_w i, 3)) (v : Int) (hv : u = Int32.ofInt v) (hc : c32 v) (k : Sm x em F (pc + 3) lv (vI v :: st) h) : Sm x em F pc lv st h :=
  sm_s C k (fun hs => ok_c hc hs) (fun p l e R s m args below meth c ρ H locs ls cells slots Q hx hb ho ht hs kk => lv_ldcw hx hb ho (ht _ hq) hd (by rw [hv]; exact kk))
theorem sm_ldc2 (C : Cx x cc own) {i : Nat} {u : Int64} (hq : (Jvm.Cond.constantLong own i u) ∈ lw_all) (hd : decode cc pc = .ok (.ldc2_w i, 3)) (v : Int) (hv : u = Int64.ofInt v) (hc : c64 v) (k : Sm x em F (pc + 3) lv (vJ v :: st) h) : Sm x em F pc lv st h :=
  sm_s C k (fun hs => ok_c hc hs) (fun p l e R s m args below meth c ρ H locs ls cells slots Q hx hb ho ht hs kk => lv_ldc2 hx hb ho (ht _ hq) hd (by rw [hv]; exact kk))
theorem sm_null (C : Cx x cc own) (kn : Nat) (hd : decode cc pc = .ok (.aconst_null, 1)) (k : Sm x em F (pc + 1) lv (vR kn 0 :: st) h) : Sm x em F pc lv st h :=
  sm_s C k (fun hs => ok_c (Or.inl rfl) hs) (fun p l e R s m args below meth c ρ H locs ls cells slots Q hx hb ho ht hs kk => lv_null hx hb hd kk)
theorem sm_dup (C : Cx x cc own) {v : AV} (hj : isJ v = false) (hd : decode cc pc = .ok (.dup, 1)) (k : Sm x em F (pc + 1) lv (v :: v :: st) h) : Sm x em F pc lv (v :: st) h :=
  sm_s C k (fun hs => ok_c (ok_h hs) hs) (fun p l e R s m args below meth c ρ H locs ls cells slots Q hx hb ho ht hs kk => lv_dup hx hb hd (cat_i ρ hj) kk)
theorem sm_pop (C : Cx x cc own) {v : AV} (hj : isJ v = false) (hd : decode cc pc = .ok (.pop, 1)) (k : Sm x em F (pc + 1) lv st h) : Sm x em F pc lv (v :: st) h :=
  sm_s C k (fun hs => ok_t hs) (fun p l e R s m args below meth c ρ H locs ls cells slots Q hx hb ho ht hs kk => lv_pop hx hb hd (cat_i ρ hj) kk)
theorem sm_pop2 (C : Cx x cc own) {v : AV} (hj : isJ v = true) (hd : decode cc pc = .ok (.pop2, 1)) (k : Sm x em F (pc + 1) lv st h) : Sm x em F pc lv (v :: st) h :=
  sm_s C k (fun hs => ok_t hs) (fun p l e R s m args below meth c ρ H locs ls cells slots Q hx hb ho ht hs kk => lv_pop2_2 hx hb hd (cat_j ρ hj) kk)
theorem sm_dup_x1 (C : Cx x cc own) {v u : AV} (hj : isJ v = false) (hj2 : isJ u = false) (hd : decode cc pc = .ok (.dup_x1, 1)) (k : Sm x em F (pc + 1) lv (v :: u :: v :: st) h) : Sm x em F pc lv (v :: u :: st) h :=
  sm_s C k (fun hs => ok_c (ok_h hs) (ok_c (ok_h (ok_t hs)) (ok_c (ok_h hs) (ok_t (ok_t hs))))) (fun p l e R s m args below meth c ρ H locs ls cells slots Q hx hb ho ht hs kk => lv_dup_x1 hx hb hd (cat_i ρ hj) (cat_i ρ hj2) kk)
theorem sm_dup_x2 (C : Cx x cc own) {v u y : AV} (hj : isJ v = false) (hj2 : isJ u = false) (hj3 : isJ y = false) (hd : decode cc pc = .ok (.dup_x2, 1)) (k : Sm x em F (pc + 1) lv (v :: u :: y :: v :: st) h) : Sm x em F pc lv (v :: u :: y :: st) h :=
  sm_s C k (fun hs => ok_c (ok_h hs) (ok_c (ok_h (ok_t hs)) (ok_c (ok_h (ok_t (ok_t hs))) (ok_c (ok_h hs) (ok_t (ok_t (ok_t hs))))))) (fun p l e R s m args below meth c ρ H locs ls cells slots Q hx hb ho ht hs kk => lv_dup_x2 hx hb hd (cat_i ρ hj) (cat_i ρ hj2) (cat_i ρ hj3) kk)
theorem sm_dup2 (C : Cx x cc own) {v u : AV} (hj : isJ v = false) (hj2 : isJ u = false) (hd : decode cc pc = .ok (.dup2, 1)) (k : Sm x em F (pc + 1) lv (v :: u :: v :: u :: st) h) : Sm x em F pc lv (v :: u :: st) h :=
  sm_s C k (fun hs => ok_c (ok_h hs) (ok_c (ok_h (ok_t hs)) hs)) (fun p l e R s m args below meth c ρ H locs ls cells slots Q hx hb ho ht hs kk => lv_dup2_11 hx hb hd (cat_i ρ hj) (cat_i ρ hj2) kk)
theorem sm_dup2j (C : Cx x cc own) {v : AV} (hj : isJ v = true) (hd : decode cc pc = .ok (.dup2, 1)) (k : Sm x em F (pc + 1) lv (v :: v :: st) h) : Sm x em F pc lv (v :: st) h :=
  sm_s C k (fun hs => ok_c (ok_h hs) hs) (fun p l e R s m args below meth c ρ H locs ls cells slots Q hx hb ho ht hs kk => lv_dup2_2 hx hb hd (cat_j ρ hj) kk)
theorem sm_goto (C : Cx x cc own) {off : Int} {tgt : Nat} (hd : decode cc pc = .ok (.goto off, 3)) (ht : (pc : Int) + off = (tgt : Int)) (k : Sm x em F tgt lv st h) : Sm x em F pc lv st h :=
  sm_s C k (fun hs => hs) (fun p l e R s m args below meth c ρ H locs ls cells slots Q hx hb ho _ hs kk => lv_goto hx hb hd ht kk)

/-- a branch -/
theorem sm_br (C : Cx x cc own) {st' : List AV} {t f : Nat} {c : Prop} [Decidable c] (kt : Sm x em A t lv st' h) (kf : Sm x em B f lv st' h) (ho : (∀ v ∈ st, okv h v) → ∀ v ∈ st', okv h v)
    (hw : ∀ (p : Program) (l : Launch) (e : Env) (R : Room) (s : State) (m : MethodId) (args : Array Value) (below : List Frame) (meth : Method) (c0 : Code) (ρ : Nat → Nat) (H : Heap) (locs : List Loc) (ls : Array Slot) (cells slots : Nat) (Q : State → Prop), p.tables.exec = Jvm.exec → c0.code = cc → (∀ v ∈ st, okv h v) →
      (c → W p l e R s m args below meth c0 H locs cells slots Q (F0 m t ls (st'.map (rv ρ)))) → (¬ c → W p l e R s m args below meth c0 H locs cells slots Q (F0 m f ls (st'.map (rv ρ)))) → W p l e R s m args below meth c0 H locs cells slots Q (F0 m pc ls (st.map (rv ρ)))) : Sm x em (if c then A else B) pc lv st h := by
  intro o hF
  have kt := kt o
  have kf := kf o
  obtain ⟨p, l, e, R, s, m, args, below, meth, c0, nL, w, h0⟩ := x
  obtain ⟨hx, hb, -⟩ := C
  intro H locs ls hR hE hl hs hL hv
  refine hw p l e R s m args below meth c0 _ H locs ls _ _ _ hx hb hs (fun hc => ?_) (fun hc => ?_)
  · rw [if_pos hc] at hF; exact kt hF H locs ls hR hE hl (ho hs) hL hv
  · rw [if_neg hc] at hF; exact kf hF H locs ls hR hE hl (ho hs) hL hv
theorem imp_iff {P Q G : Prop} (h : P ↔ Q) (k : P → G) : Q → G := fun q => k (h.mpr q)
theorem nimp_iff {P Q G : Prop} (h : P ↔ Q) (k : ¬ P → G) : ¬ Q → G := fun q => k (fun z => q (h.mp z))

theorem sm_if_eq (C : Cx x cc own) {a : Int} {off : Int} {tgt : Nat} (hd : decode cc pc = .ok (.ifCond .eq off, 3)) (ht : (pc : Int) + off = (tgt : Int)) (kt : Sm x em A tgt lv st h) (kf : Sm x em B (pc + 3) lv st h) : Sm x em (if a = 0 then A else B) pc lv (vI a :: st) h :=
  sm_br C kt kf (fun hs => ok_t hs) (fun p l e R s m args below meth c0 ρ H locs ls cells slots Q hx hb hs k1 k2 => lv_if_eq hx hb hd ht (fun z => k1 ((of32_eq (ok_h hs) (by decide : c32 0)).mp z)) (fun z => k2 (fun y => z ((of32_eq (ok_h hs) (by decide : c32 0)).mpr y))))
theorem sm_icmp_eq (C : Cx x cc own) {a b : Int} {off : Int} {tgt : Nat} (hd : decode cc pc = .ok (.if_icmp .eq off, 3)) (ht : (pc : Int) + off = (tgt : Int)) (kt : Sm x em A tgt lv st h) (kf : Sm x em B (pc + 3) lv st h) : Sm x em (if a = b then A else B) pc lv (vI b :: vI a :: st) h :=
  sm_br C kt kf (fun hs => ok_t (ok_t hs)) (fun p l e R s m args below meth c0 ρ H locs ls cells slots Q hx hb hs k1 k2 => lv_icmp_eq hx hb hd ht (fun z => k1 ((of32_eq (ok_h (ok_t hs)) (ok_h hs)).mp z)) (fun z => k2 (fun y => z ((of32_eq (ok_h (ok_t hs)) (ok_h hs)).mpr y))))
theorem sm_if_ne (C : Cx x cc own) {a : Int} {off : Int} {tgt : Nat} (hd : decode cc pc = .ok (.ifCond .ne off, 3)) (ht : (pc : Int) + off = (tgt : Int)) (kt : Sm x em A tgt lv st h) (kf : Sm x em B (pc + 3) lv st h) : Sm x em (if a ≠ 0 then A else B) pc lv (vI a :: st) h :=
  sm_br C kt kf (fun hs => ok_t hs) (fun p l e R s m args below meth c0 ρ H locs ls cells slots Q hx hb hs k1 k2 => lv_if_ne hx hb hd ht (fun z => k1 ((not_congr (of32_eq (ok_h hs) (by decide : c32 0))).mp z)) (fun z => k2 (fun y => y (((of32_eq (ok_h hs) (by decide : c32 0))).mp z))))
theorem sm_icmp_ne (C : Cx x cc own) {a b : Int} {off : Int} {tgt : Nat} (hd : decode cc pc = .ok (.if_icmp .ne off, 3)) (ht : (pc : Int) + off = (tgt : Int)) (kt : Sm x em A tgt lv st h) (kf : Sm x em B (pc + 3) lv st h) : Sm x em (if a ≠ b then A else B) pc lv (vI b :: vI a :: st) h :=
  sm_br C kt kf (fun hs => ok_t (ok_t hs)) (fun p l e R s m args below meth c0 ρ H locs ls cells slots Q hx hb hs k1 k2 => lv_icmp_ne hx hb hd ht (fun z => k1 ((not_congr (of32_eq (ok_h (ok_t hs)) (ok_h hs))).mp z)) (fun z => k2 (fun y => y (((of32_eq (ok_h (ok_t hs)) (ok_h hs))).mp z))))
theorem sm_if_lt (C : Cx x cc own) {a : Int} {off : Int} {tgt : Nat} (hd : decode cc pc = .ok (.ifCond .lt off, 3)) (ht : (pc : Int) + off = (tgt : Int)) (kt : Sm x em A tgt lv st h) (kf : Sm x em B (pc + 3) lv st h) : Sm x em (if a < 0 then A else B) pc lv (vI a :: st) h :=
  sm_br C kt kf (fun hs => ok_t hs) (fun p l e R s m args below meth c0 ρ H locs ls cells slots Q hx hb hs k1 k2 => lv_if_lt hx hb hd ht (fun z => k1 ((of32_lt (ok_h hs) (by decide : c32 0)).mp z)) (fun z => k2 (fun y => z ((of32_lt (ok_h hs) (by decide : c32 0)).mpr y))))
theorem sm_icmp_lt (C : Cx x cc own) {a b : Int} {off : Int} {tgt : Nat} (hd : decode cc pc = .ok (.if_icmp .lt off, 3)) (ht : (pc : Int) + off = (tgt : Int)) (kt : Sm x em A tgt lv st h) (kf : Sm x em B (pc + 3) lv st h) : Sm x em (if a < b then A else B) pc lv (vI b :: vI a :: st) h :=
  sm_br C kt kf (fun hs => ok_t (ok_t hs)) (fun p l e R s m args below meth c0 ρ H locs ls cells slots Q hx hb hs k1 k2 => lv_icmp_lt hx hb hd ht (fun z => k1 ((of32_lt (ok_h (ok_t hs)) (ok_h hs)).mp z)) (fun z => k2 (fun y => z ((of32_lt (ok_h (ok_t hs)) (ok_h hs)).mpr y))))
theorem sm_if_ge (C : Cx x cc own) {a : Int} {off : Int} {tgt : Nat} (hd : decode cc pc = .ok (.ifCond .ge off, 3)) (ht : (pc : Int) + off = (tgt : Int)) (kt : Sm x em A tgt lv st h) (kf : Sm x em B (pc + 3) lv st h) : Sm x em (if 0 ≤ a then A else B) pc lv (vI a :: st) h :=
  sm_br C kt kf (fun hs => ok_t hs) (fun p l e R s m args below meth c0 ρ H locs ls cells slots Q hx hb hs k1 k2 => lv_if_ge hx hb hd ht (fun z => k1 ((of32_le (by decide : c32 0) (ok_h hs)).mp z)) (fun z => k2 (fun y => z ((of32_le (by decide : c32 0) (ok_h hs)).mpr y))))
theorem sm_icmp_ge (C : Cx x cc own) {a b : Int} {off : Int} {tgt : Nat} (hd : decode cc pc = .ok (.if_icmp .ge off, 3)) (ht : (pc : Int) + off = (tgt : Int)) (kt : Sm x em A tgt lv st h) (kf : Sm x em B (pc + 3) lv st h) : Sm x em (if b ≤ a then A else B) pc lv (vI b :: vI a :: st) h :=
  sm_br C kt kf (fun hs => ok_t (ok_t hs)) (fun p l e R s m args below meth c0 ρ H locs ls cells slots Q hx hb hs k1 k2 => lv_icmp_ge hx hb hd ht (fun z => k1 ((of32_le (ok_h hs) (ok_h (ok_t hs))).mp z)) (fun z => k2 (fun y => z ((of32_le (ok_h hs) (ok_h (ok_t hs))).mpr y))))
theorem sm_if_gt (C : Cx x cc own) {a : Int} {off : Int} {tgt : Nat} (hd : decode cc pc = .ok (.ifCond .gt off, 3)) (ht : (pc : Int) + off = (tgt : Int)) (kt : Sm x em A tgt lv st h) (kf : Sm x em B (pc + 3) lv st h) : Sm x em (if 0 < a then A else B) pc lv (vI a :: st) h :=
  sm_br C kt kf (fun hs => ok_t hs) (fun p l e R s m args below meth c0 ρ H locs ls cells slots Q hx hb hs k1 k2 => lv_if_gt hx hb hd ht (fun z => k1 ((of32_lt (by decide : c32 0) (ok_h hs)).mp z)) (fun z => k2 (fun y => z ((of32_lt (by decide : c32 0) (ok_h hs)).mpr y))))
theorem sm_icmp_gt (C : Cx x cc own) {a b : Int} {off : Int} {tgt : Nat} (hd : decode cc pc = .ok (.if_icmp .gt off, 3)) (ht : (pc : Int) + off = (tgt : Int)) (kt : Sm x em A tgt lv st h) (kf : Sm x em B (pc + 3) lv st h) : Sm x em (if b < a then A else B) pc lv (vI b :: vI a :: st) h :=
  sm_br C kt kf (fun hs => ok_t (ok_t hs)) (fun p l e R s m args below meth c0 ρ H locs ls cells slots Q hx hb hs k1 k2 => lv_icmp_gt hx hb hd ht (fun z => k1 ((of32_lt (ok_h hs) (ok_h (ok_t hs))).mp z)) (fun z => k2 (fun y => z ((of32_lt (ok_h hs) (ok_h (ok_t hs))).mpr y))))
theorem sm_if_le (C : Cx x cc own) {a : Int} {off : Int} {tgt : Nat} (hd : decode cc pc = .ok (.ifCond .le off, 3)) (ht : (pc : Int) + off = (tgt : Int)) (kt : Sm x em A tgt lv st h) (kf : Sm x em B (pc + 3) lv st h) : Sm x em (if a ≤ 0 then A else B) pc lv (vI a :: st) h :=
  sm_br C kt kf (fun hs => ok_t hs) (fun p l e R s m args below meth c0 ρ H locs ls cells slots Q hx hb hs k1 k2 => lv_if_le hx hb hd ht (fun z => k1 ((of32_le (ok_h hs) (by decide : c32 0)).mp z)) (fun z => k2 (fun y => z ((of32_le (ok_h hs) (by decide : c32 0)).mpr y))))
theorem sm_icmp_le (C : Cx x cc own) {a b : Int} {off : Int} {tgt : Nat} (hd : decode cc pc = .ok (.if_icmp .le off, 3)) (ht : (pc : Int) + off = (tgt : Int)) (kt : Sm x em A tgt lv st h) (kf : Sm x em B (pc + 3) lv st h) : Sm x em (if a ≤ b then A else B) pc lv (vI b :: vI a :: st) h :=
  sm_br C kt kf (fun hs => ok_t (ok_t hs)) (fun p l e R s m args below meth c0 ρ H locs ls cells slots Q hx hb hs k1 k2 => lv_icmp_le hx hb hd ht (fun z => k1 ((of32_le (ok_h (ok_t hs)) (ok_h hs)).mp z)) (fun z => k2 (fun y => z ((of32_le (ok_h (ok_t hs)) (ok_h hs)).mpr y))))
theorem lCmp_eq (a b : Int) : (lCmp a b = 0) ↔ (a = b) := by unfold lCmp; split; omega; split <;> omega
theorem sm_lcmp_eq (C : Cx x cc own) {a b : Int} {off : Int} {tgt : Nat} (hd : decode cc pc = .ok (.lcmp, 1)) (hd2 : decode cc (pc + 1) = .ok (.ifCond .eq off, 3)) (ht : ((pc + 1 : Nat) : Int) + off = (tgt : Int)) (kt : Sm x em A tgt lv st h) (kf : Sm x em B (pc + 1 + 3) lv st h) : Sm x em (if a = b then A else B) pc lv (vJ b :: vJ a :: st) h := by
  have e : (if a = b then A else B) = (if lCmp a b = 0 then A else B) := by
    by_cases z : a = b
    · rw [if_pos z, if_pos ((lCmp_eq a b).mpr z)]
    · rw [if_neg z, if_neg (fun y => z ((lCmp_eq a b).mp y))]
  rw [e]
  exact sm_lcmp C hd (sm_if_eq C hd2 ht kt kf)
theorem lCmp_ne (a b : Int) : (lCmp a b ≠ 0) ↔ (a ≠ b) := by unfold lCmp; split; omega; split <;> omega
theorem sm_lcmp_ne (C : Cx x cc own) {a b : Int} {off : Int} {tgt : Nat} (hd : decode cc pc = .ok (.lcmp, 1)) (hd2 : decode cc (pc + 1) = .ok (.ifCond .ne off, 3)) (ht : ((pc + 1 : Nat) : Int) + off = (tgt : Int)) (kt : Sm x em A tgt lv st h) (kf : Sm x em B (pc + 1 + 3) lv st h) : Sm x em (if a ≠ b then A else B) pc lv (vJ b :: vJ a :: st) h := by
  have e : (if a ≠ b then A else B) = (if lCmp a b ≠ 0 then A else B) := by
    by_cases z : a ≠ b
    · rw [if_pos z, if_pos ((lCmp_ne a b).mpr z)]
    · rw [if_neg z, if_neg (fun y => z ((lCmp_ne a b).mp y))]
  rw [e]
  exact sm_lcmp C hd (sm_if_ne C hd2 ht kt kf)
theorem lCmp_lt (a b : Int) : (lCmp a b < 0) ↔ (a < b) := by unfold lCmp; split; omega; split <;> omega
theorem sm_lcmp_lt (C : Cx x cc own) {a b : Int} {off : Int} {tgt : Nat} (hd : decode cc pc = .ok (.lcmp, 1)) (hd2 : decode cc (pc + 1) = .ok (.ifCond .lt off, 3)) (ht : ((pc + 1 : Nat) : Int) + off = (tgt : Int)) (kt : Sm x em A tgt lv st h) (kf : Sm x em B (pc + 1 + 3) lv st h) : Sm x em (if a < b then A else B) pc lv (vJ b :: vJ a :: st) h := by
  have e : (if a < b then A else B) = (if lCmp a b < 0 then A else B) := by
    by_cases z : a < b
    · rw [if_pos z, if_pos ((lCmp_lt a b).mpr z)]
    · rw [if_neg z, if_neg (fun y => z ((lCmp_lt a b).mp y))]
  rw [e]
  exact sm_lcmp C hd (sm_if_lt C hd2 ht kt kf)
theorem lCmp_ge (a b : Int) : (0 ≤ lCmp a b) ↔ (b ≤ a) := by unfold lCmp; split; omega; split <;> omega
theorem sm_lcmp_ge (C : Cx x cc own) {a b : Int} {off : Int} {tgt : Nat} (hd : decode cc pc = .ok (.lcmp, 1)) (hd2 : decode cc (pc + 1) = .ok (.ifCond .ge off, 3)) (ht : ((pc + 1 : Nat) : Int) + off = (tgt : Int)) (kt : Sm x em A tgt lv st h) (kf : Sm x em B (pc + 1 + 3) lv st h) : Sm x em (if b ≤ a then A else B) pc lv (vJ b :: vJ a :: st) h := by
  have e : (if b ≤ a then A else B) = (if 0 ≤ lCmp a b then A else B) := by
    by_cases z : b ≤ a
    · rw [if_pos z, if_pos ((lCmp_ge a b).mpr z)]
    · rw [if_neg z, if_neg (fun y => z ((lCmp_ge a b).mp y))]
  rw [e]
  exact sm_lcmp C hd (sm_if_ge C hd2 ht kt kf)
theorem lCmp_gt (a b : Int) : (0 < lCmp a b) ↔ (b < a) := by unfold lCmp; split; omega; split <;> omega
theorem sm_lcmp_gt (C : Cx x cc own) {a b : Int} {off : Int} {tgt : Nat} (hd : decode cc pc = .ok (.lcmp, 1)) (hd2 : decode cc (pc + 1) = .ok (.ifCond .gt off, 3)) (ht : ((pc + 1 : Nat) : Int) + off = (tgt : Int)) (kt : Sm x em A tgt lv st h) (kf : Sm x em B (pc + 1 + 3) lv st h) : Sm x em (if b < a then A else B) pc lv (vJ b :: vJ a :: st) h := by
  have e : (if b < a then A else B) = (if 0 < lCmp a b then A else B) := by
    by_cases z : b < a
    · rw [if_pos z, if_pos ((lCmp_gt a b).mpr z)]
    · rw [if_neg z, if_neg (fun y => z ((lCmp_gt a b).mp y))]
  rw [e]
  exact sm_lcmp C hd (sm_if_gt C hd2 ht kt kf)
theorem lCmp_le (a b : Int) : (lCmp a b ≤ 0) ↔ (a ≤ b) := by unfold lCmp; split; omega; split <;> omega
theorem sm_lcmp_le (C : Cx x cc own) {a b : Int} {off : Int} {tgt : Nat} (hd : decode cc pc = .ok (.lcmp, 1)) (hd2 : decode cc (pc + 1) = .ok (.ifCond .le off, 3)) (ht : ((pc + 1 : Nat) : Int) + off = (tgt : Int)) (kt : Sm x em A tgt lv st h) (kf : Sm x em B (pc + 1 + 3) lv st h) : Sm x em (if a ≤ b then A else B) pc lv (vJ b :: vJ a :: st) h := by
  have e : (if a ≤ b then A else B) = (if lCmp a b ≤ 0 then A else B) := by
    by_cases z : a ≤ b
    · rw [if_pos z, if_pos ((lCmp_le a b).mpr z)]
    · rw [if_neg z, if_neg (fun y => z ((lCmp_le a b).mp y))]
  rw [e]
  exact sm_lcmp C hd (sm_if_le C hd2 ht kt kf)
theorem sm_ifnull (C : Cx x cc own) {k r : Nat} {off : Int} {tgt : Nat} (hd : decode cc pc = .ok (.ifnull off, 3)) (ht : (pc : Int) + off = (tgt : Int)) (kt : Sm x em A tgt lv st h) (kf : Sm x em B (pc + 3) lv st h) : Sm x em (if r = 0 then A else B) pc lv (vR k r :: st) h :=
  sm_br C kt kf (fun hs => ok_t hs) (fun p l e R s m args below meth c0 ρ H locs ls cells slots Q hx hb hs k1 k2 => by
    by_cases hr : r = 0
    · show W p l e R s m args below meth c0 H locs cells slots Q (F0 m pc ls ((if r = 0 then Value.null else .ref (ρ r)) :: st.map (rv ρ)))
      rw [if_pos hr]; exact lv_ifnullN hx hb hd ht (k1 hr)
    · show W p l e R s m args below meth c0 H locs cells slots Q (F0 m pc ls ((if r = 0 then Value.null else .ref (ρ r)) :: st.map (rv ρ)))
      rw [if_neg hr]; exact lv_ifnull hx hb hd (k2 hr))
theorem sm_ifnonnull (C : Cx x cc own) {k r : Nat} {off : Int} {tgt : Nat} (hd : decode cc pc = .ok (.ifnonnull off, 3)) (ht : (pc : Int) + off = (tgt : Int)) (kt : Sm x em A tgt lv st h) (kf : Sm x em B (pc + 3) lv st h) : Sm x em (if r ≠ 0 then A else B) pc lv (vR k r :: st) h :=
  sm_br C kt kf (fun hs => ok_t hs) (fun p l e R s m args below meth c0 ρ H locs ls cells slots Q hx hb hs k1 k2 => by
    by_cases hr : r = 0
    · show W p l e R s m args below meth c0 H locs cells slots Q (F0 m pc ls ((if r = 0 then Value.null else .ref (ρ r)) :: st.map (rv ρ)))
      rw [if_pos hr]; exact lv_ifnonnullN hx hb hd (k2 (fun z => z hr))
    · show W p l e R s m args below meth c0 H locs cells slots Q (F0 m pc ls ((if r = 0 then Value.null else .ref (ρ r)) :: st.map (rv ρ)))
      rw [if_neg hr]; exact lv_ifnonnull hx hb hd ht (k1 hr))
theorem sm_tsIn (C : Cx x cc own) {a : Int} {dflt lo hi : Int} {offs : Array Int} {len : Nat} {off : Int} {tgt : Nat} (n : Int) (ha : a = n) (hd : decode cc pc = .ok (.tableswitch dflt lo hi offs, len)) (h1 : ¬ n < lo) (h2 : ¬ hi < n) (hof : offs[(n - lo).toNat]? = some off) (ht : (pc : Int) + off = (tgt : Int)) (k : Sm x em F tgt lv st h) : Sm x em F pc lv (vI a :: st) h :=
  sm_s C k (fun hs => ok_t hs) (fun p l e R s m args below meth c ρ H locs ls cells slots Q hx hb ho _ hs kk => by
    have e1 : (Int32.ofInt a).toInt = n := by rw [of32_id (ok_h hs), ha]
    exact lv_tableIn hx hb hd (by rw [e1]; exact h1) (by rw [e1]; exact h2) (by rw [e1]; exact hof) ht kk)
theorem sm_tsOut (C : Cx x cc own) {a : Int} {dflt lo hi : Int} {offs : Array Int} {len : Nat} {tgt : Nat} (ha : a < lo ∨ hi < a) (hd : decode cc pc = .ok (.tableswitch dflt lo hi offs, len)) (ht : (pc : Int) + dflt = (tgt : Int)) (k : Sm x em F tgt lv st h) : Sm x em F pc lv (vI a :: st) h :=
  sm_s C k (fun hs => ok_t hs) (fun p l e R s m args below meth c ρ H locs ls cells slots Q hx hb ho _ hs kk => by
    have e1 : (Int32.ofInt a).toInt = a := of32_id (ok_h hs)
    exact lv_tableOut hx hb hd (by rw [e1]; exact ha) ht kk)
theorem sm_lsw (C : Cx x cc own) {a : Int} {dflt : Int} {ps : Array (Int × Int)} {len : Nat} {off : Int} {tgt : Nat} (hd : decode cc pc = .ok (.lookupswitch dflt ps, len)) (hp : (ps.toList.zip (ps.toList.drop 1)).all (fun (a, next) => a.1 < next.1) = true) (hof : Op.lookupswitch.offset ps.toList dflt a = off) (ht : (pc : Int) + off = (tgt : Int)) (k : Sm x em F tgt lv st h) : Sm x em F pc lv (vI a :: st) h :=
  sm_s C k (fun hs => ok_t hs) (fun p l e R s m args below meth c ρ H locs ls cells slots Q hx hb ho _ hs kk => by
    have e1 : (Int32.ofInt a).toInt = a := of32_id (ok_h hs)
    exact lv_lookup hx hb hd hp (by rw [e1]; exact hof) ht kk)

theorem lvm_at {w : Wd} {ls : Array Slot} {nL : Nat} {lv : List (Nat × AV)} (hv : lv_has ls nL (lvm w lv)) {i : Nat} {v : AV} (hm : (i, v) ∈ lv) : ls[i]? = some (.val (rv (wM w) v)) := hv.2.2 _ (List.mem_map.mpr ⟨_, hm, rfl⟩)
theorem sm_ld (C : Cx x cc own) {pc' i : Nat} {v : AV} (n : Nat) (hk : lv[n]? = some (i, v))
    (hw : ∀ (p : Program) (l : Launch) (e : Env) (R : Room) (s : State) (m : MethodId) (args : Array Value) (below : List Frame) (meth : Method) (c : Code) (ρ : Nat → Nat) (H : Heap) (locs : List Loc) (ls : Array Slot) (cells slots : Nat) (Q : State → Prop) (rest : List Value), p.tables.exec = Jvm.exec → c.code = cc → ls[i]? = some (.val (rv ρ v)) →
      W p l e R s m args below meth c H locs cells slots Q (F0 m pc' ls (rv ρ v :: rest)) → W p l e R s m args below meth c H locs cells slots Q (F0 m pc ls rest))
    (k : Sm x em F pc' lv (v :: st) h) : Sm x em F pc lv st h := by
  intro o hF
  have k := k o hF
  obtain ⟨p, l, e, R, s, m, args, below, meth, c, nL, w, h0⟩ := x
  obtain ⟨hx, hb, -⟩ := C
  intro H locs ls hR hE hl hs hL hv
  have hm := List.mem_of_getElem? hk
  exact hw p l e R s m args below meth c _ H locs ls _ _ _ _ hx hb (lvm_at hv hm) (k H locs ls hR hE hl (ok_c (hl _ hm) hs) hL hv)
theorem sm_iload_n (C : Cx x cc own) {j : Fin 4} {i : Nat} {a : Int} (n : Nat) (hd : decode cc pc = .ok (.iload_n j, 1)) (hj : (j : Nat) = i) (hk : lv[n]? = some (i, vI a)) (k : Sm x em F (pc + 1) lv (vI a :: st) h) : Sm x em F pc lv st h :=
  sm_ld C n hk (fun p l e R s m args below meth c ρ H locs ls cells slots Q rest hx hb hi kk => lv_iload_n hx hb hd hj hi kk) k
theorem sm_iload (C : Cx x cc own) {i : Nat} {a : Int} (n : Nat) (hd : decode cc pc = .ok (.iload i, 2)) (hk : lv[n]? = some (i, vI a)) (k : Sm x em F (pc + 2) lv (vI a :: st) h) : Sm x em F pc lv st h :=
  sm_ld C n hk (fun p l e R s m args below meth c ρ H locs ls cells slots Q rest hx hb hi kk => lv_iload hx hb hd hi kk) k
theorem sm_lload_n (C : Cx x cc own) {j : Fin 4} {i : Nat} {a : Int} (n : Nat) (hd : decode cc pc = .ok (.lload_n j, 1)) (hj : (j : Nat) = i) (hk : lv[n]? = some (i, vJ a)) (k : Sm x em F (pc + 1) lv (vJ a :: st) h) : Sm x em F pc lv st h :=
  sm_ld C n hk (fun p l e R s m args below meth c ρ H locs ls cells slots Q rest hx hb hi kk => lv_lload_n hx hb hd hj hi kk) k
theorem sm_lload (C : Cx x cc own) {i : Nat} {a : Int} (n : Nat) (hd : decode cc pc = .ok (.lload i, 2)) (hk : lv[n]? = some (i, vJ a)) (k : Sm x em F (pc + 2) lv (vJ a :: st) h) : Sm x em F pc lv st h :=
  sm_ld C n hk (fun p l e R s m args below meth c ρ H locs ls cells slots Q rest hx hb hi kk => lv_lload hx hb hd hi kk) k
theorem rv_ref (ρ : Nat → Nat) (k r : Nat) : rv ρ (vR k r) = .null ∨ ∃ a, rv ρ (vR k r) = .ref a := by
  by_cases hr : r = 0
  · exact Or.inl (if_pos hr)
  · exact Or.inr ⟨_, if_neg hr⟩
theorem sm_aload_n (C : Cx x cc own) {j : Fin 4} {i kn r : Nat} (n : Nat) (hd : decode cc pc = .ok (.aload_n j, 1)) (hj : (j : Nat) = i) (hk : lv[n]? = some (i, vR kn r)) (k : Sm x em F (pc + 1) lv (vR kn r :: st) h) : Sm x em F pc lv st h :=
  sm_ld C n hk (fun p l e R s m args below meth c ρ H locs ls cells slots Q rest hx hb hi kk => by
    rcases rv_ref ρ kn r with q | ⟨a, q⟩
    · rw [q] at hi kk; exact lv_aload_nN hx hb hd hj hi kk
    · rw [q] at hi kk; exact lv_aload_n hx hb hd hj hi kk) k
theorem sm_aload (C : Cx x cc own) {i kn r : Nat} (n : Nat) (hd : decode cc pc = .ok (.aload i, 2)) (hk : lv[n]? = some (i, vR kn r)) (k : Sm x em F (pc + 2) lv (vR kn r :: st) h) : Sm x em F pc lv st h :=
  sm_ld C n hk (fun p l e R s m args below meth c ρ H locs ls cells slots Q rest hx hb hi kk => by
    rcases rv_ref ρ kn r with q | ⟨a, q⟩
    · rw [q] at hi kk; exact lv_aloadN hx hb hd hi kk
    · rw [q] at hi kk; exact lv_aload hx hb hd hi kk) k
/-- locals in the order of their numbers, with one set -/
def lfl (i : Nat) (j : Bool) (q : Nat × AV) : Bool := !(q.1 == i) && !(q.1 + 1 == i && isJ q.2) && !(j && q.1 == i + 1)
def lins (i : Nat) (v : AV) : List (Nat × AV) → List (Nat × AV)
  | [] => [(i, v)]
  | q :: t => match Nat.blt q.1 i with
    | true => q :: lins i v t
    | false => (i, v) :: q :: t
def lset (i : Nat) (v : AV) (lv : List (Nat × AV)) : List (Nat × AV) := lins i v (lv.filter (lfl i (isJ v)))
theorem lins_mem {i : Nat} {v : AV} {q : Nat × AV} : ∀ {l : List (Nat × AV)}, q ∈ lins i v l → q = (i, v) ∨ q ∈ l
  | [], hq => by simpa [lins] using hq
  | r :: t, hq => by
    unfold lins at hq
    split at hq
    · rcases List.mem_cons.mp hq with e | e
      · exact Or.inr (by rw [e]; exact List.mem_cons_self)
      · rcases lins_mem e with z | z
        · exact Or.inl z
        · exact Or.inr (List.mem_cons_of_mem _ z)
    · rcases List.mem_cons.mp hq with e | e
      · exact Or.inl e
      · exact Or.inr e
theorem lset_mem {i : Nat} {v : AV} {lv : List (Nat × AV)} {q : Nat × AV} (hq : q ∈ lset i v lv) : q = (i, v) ∨ (q ∈ lv ∧ lfl i (isJ v) q = true) := by
  rcases lins_mem hq with e | e
  · exact Or.inl e
  · exact Or.inr (List.mem_filter.mp e)
theorem lset_has {w : Wd} {i nL : Nat} {v : AV} {lv : List (Nat × AV)} {ls : Array Slot} {f : Nat × Value → Bool} (hf : ∀ q ∈ lv, lfl i (isJ v) q = true → f (q.1, rv (wM w) q.2) = true)
    (hv : lv_has ls nL ((i, rv (wM w) v) :: (lvm w lv).filter f)) : lv_has ls nL (lvm w (lset i v lv)) := by
  refine ⟨hv.1, hv.2.1, fun q hq => hv.2.2 q ?_⟩
  obtain ⟨r, hr, rfl⟩ := List.mem_map.mp hq
  rcases lset_mem hr with e | ⟨e1, e2⟩
  · rw [e]; exact List.mem_cons_self
  · exact List.mem_cons_of_mem _ (List.mem_filter.mpr ⟨List.mem_map.mpr ⟨r, e1, rfl⟩, hf r e1 e2⟩)
theorem lfl_1 {ρ : Nat → Nat} {i : Nat} {q : Nat × AV} (hq : lfl i false q = true) : (!((q.1 : Nat) == i) && !(q.1 + 1 == i && (rv ρ q.2).category == 2)) = true := by
  unfold lfl at hq
  simp only [Bool.and_eq_true, Bool.not_eq_true', Bool.false_and, Bool.not_false, and_true] at hq
  obtain ⟨h1, h2⟩ := hq
  have e1 : ((q.1 : Nat) == i) = false := h1
  have e2 : ((q.1 + 1 : Nat) == i && isJ q.2) = false := h2
  rw [e1]
  cases hj : isJ q.2 with
  | false => rw [cat_i ρ hj]; simp
  | true =>
    rw [hj] at e2
    rw [cat_j ρ hj]
    simp only [Bool.and_true] at e2
    rw [e2]
    rfl
theorem lfl_2 {ρ : Nat → Nat} {i : Nat} {q : Nat × AV} (hq : lfl i true q = true) : (!((q.1 : Nat) == i) && (!(q.1 == i + 1) && !(q.1 + 1 == i && (rv ρ q.2).category == 2))) = true := by
  unfold lfl at hq
  simp only [Bool.and_eq_true, Bool.not_eq_true', Bool.true_and] at hq
  obtain ⟨⟨h1, h2⟩, h3⟩ := hq
  have e1 : ((q.1 : Nat) == i) = false := h1
  have e2 : ((q.1 + 1 : Nat) == i && isJ q.2) = false := h2
  have e3 : ((q.1 : Nat) == i + 1) = false := h3
  rw [e1, e3]
  cases hj : isJ q.2 with
  | false => rw [cat_i ρ hj]; simp
  | true =>
    rw [hj] at e2
    rw [cat_j ρ hj]
    simp only [Bool.and_true] at e2
    rw [e2]
    rfl
theorem sm_st (C : Cx x cc own) {pc' i nL : Nat} {v : AV} {lv' : List (Nat × AV)} {g : Nat × Value → Bool} (hl' : lset i v lv = lv') (hg : ∀ (ρ : Nat → Nat) (q : Nat × AV), lfl i (isJ v) q = true → g (q.1, rv ρ q.2) = true) (hnL : x.2.2.2.2.2.2.2.2.2.2.1 = nL)
    (hw : ∀ (p : Program) (l : Launch) (e : Env) (R : Room) (s : State) (m : MethodId) (args : Array Value) (below : List Frame) (meth : Method) (c : Code) (w : Wd) (H : Heap) (locs : List Loc) (ls : Array Slot) (cells slots : Nat) (Q : State → Prop) (rest : List Value), p.tables.exec = Jvm.exec → c.code = cc → lv_has ls nL (lvm w lv) →
      (∀ ls' : Array Slot, lv_has ls' nL ((i, rv (wM w) v) :: (lvm w lv).filter g) → W p l e R s m args below meth c H locs cells slots Q (F0 m pc' ls' rest)) → W p l e R s m args below meth c H locs cells slots Q (F0 m pc ls (rv (wM w) v :: rest)))
    (k : Sm x em F pc' lv' st h) : Sm x em F pc lv (v :: st) h := by
  intro o hF
  have k := k o hF
  obtain ⟨p, l, e, R, s, m, args, below, meth, c, nL', w, h0⟩ := x
  obtain ⟨hx, hb, -⟩ := C
  have hnL : nL' = nL := hnL
  subst hnL; subst hl'
  intro H locs ls hR hE hl hs hL hv
  refine hw p l e R s m args below meth c w H locs ls _ _ _ _ hx hb hv (fun ls' hv' => ?_)
  refine k H locs ls' hR hE (fun q hq => ?_) (ok_t hs) hL (lset_has (fun q _ h2 => hg _ q h2) hv')
  rcases lset_mem hq with z | z
  · rw [z]; exact ok_h hs
  · exact hl q z.1
theorem sm_istore_n (C : Cx x cc own) {j : Fin 4} {i nL : Nat} {a : Int} (lv' : List (Nat × AV)) (hd : decode cc pc = .ok (.istore_n j, 1)) (hj : (j : Nat) = i) (hnL : x.2.2.2.2.2.2.2.2.2.2.1 = nL) (hn : i < nL) (hl' : lset i (vI a) lv = lv') (k : Sm x em F (pc + 1) lv' st h) : Sm x em F pc lv (vI a :: st) h :=
  sm_st C hl' (fun ρ q hq => lfl_1 hq) hnL (fun p l e R s m args below meth c w H locs ls cells slots Q rest hx hb hv kk => lv_istore_n hx hb hd hj hv hn rfl kk) k
theorem sm_istore (C : Cx x cc own) {i nL : Nat} {a : Int} (lv' : List (Nat × AV)) (hd : decode cc pc = .ok (.istore i, 2)) (hnL : x.2.2.2.2.2.2.2.2.2.2.1 = nL) (hn : i < nL) (hl' : lset i (vI a) lv = lv') (k : Sm x em F (pc + 2) lv' st h) : Sm x em F pc lv (vI a :: st) h :=
  sm_st C hl' (fun ρ q hq => lfl_1 hq) hnL (fun p l e R s m args below meth c w H locs ls cells slots Q rest hx hb hv kk => lv_istore hx hb hd hv hn rfl kk) k
theorem sm_lstore_n (C : Cx x cc own) {j : Fin 4} {i nL : Nat} {a : Int} (lv' : List (Nat × AV)) (hd : decode cc pc = .ok (.lstore_n j, 1)) (hj : (j : Nat) = i) (hnL : x.2.2.2.2.2.2.2.2.2.2.1 = nL) (hn : i + 1 < nL) (hl' : lset i (vJ a) lv = lv') (k : Sm x em F (pc + 1) lv' st h) : Sm x em F pc lv (vJ a :: st) h :=
  sm_st C hl' (fun ρ q hq => lfl_2 hq) hnL (fun p l e R s m args below meth c w H locs ls cells slots Q rest hx hb hv kk => lv_lstore_n hx hb hd hj hv hn rfl kk) k
theorem sm_lstore (C : Cx x cc own) {i nL : Nat} {a : Int} (lv' : List (Nat × AV)) (hd : decode cc pc = .ok (.lstore i, 2)) (hnL : x.2.2.2.2.2.2.2.2.2.2.1 = nL) (hn : i + 1 < nL) (hl' : lset i (vJ a) lv = lv') (k : Sm x em F (pc + 2) lv' st h) : Sm x em F pc lv (vJ a :: st) h :=
  sm_st C hl' (fun ρ q hq => lfl_2 hq) hnL (fun p l e R s m args below meth c w H locs ls cells slots Q rest hx hb hv kk => lv_lstore hx hb hd hv hn rfl kk) k
theorem sm_astore_n (C : Cx x cc own) {j : Fin 4} {i nL kn r : Nat} (lv' : List (Nat × AV)) (hd : decode cc pc = .ok (.astore_n j, 1)) (hj : (j : Nat) = i) (hnL : x.2.2.2.2.2.2.2.2.2.2.1 = nL) (hn : i < nL) (hl' : lset i (vR kn r) lv = lv') (k : Sm x em F (pc + 1) lv' st h) : Sm x em F pc lv (vR kn r :: st) h :=
  sm_st C hl' (fun ρ q hq => lfl_1 hq) hnL (fun p l e R s m args below meth c w H locs ls cells slots Q rest hx hb hv kk => by
    rcases rv_ref (wM w) kn r with q | ⟨a, q⟩
    · rw [q] at kk ⊢; exact lv_astore_nN hx hb hd hj hv hn rfl kk
    · rw [q] at kk ⊢; exact lv_astore_n hx hb hd hj hv hn rfl kk) k
theorem sm_astore (C : Cx x cc own) {i nL kn r : Nat} (lv' : List (Nat × AV)) (hd : decode cc pc = .ok (.astore i, 2)) (hnL : x.2.2.2.2.2.2.2.2.2.2.1 = nL) (hn : i < nL) (hl' : lset i (vR kn r) lv = lv') (k : Sm x em F (pc + 2) lv' st h) : Sm x em F pc lv (vR kn r :: st) h :=
  sm_st C hl' (fun ρ q hq => lfl_1 hq) hnL (fun p l e R s m args below meth c w H locs ls cells slots Q rest hx hb hv kk => by
    rcases rv_ref (wM w) kn r with q | ⟨a, q⟩
    · rw [q] at kk ⊢; exact lv_astoreN hx hb hd hv hn rfl kk
    · rw [q] at kk ⊢; exact lv_astore hx hb hd hv hn rfl kk) k
theorem sm_iinc (C : Cx x cc own) {i nL : Nat} {a n : Int} (j : Nat) (lv' : List (Nat × AV)) (hd : decode cc pc = .ok (.iinc i n, 3)) (hnL : x.2.2.2.2.2.2.2.2.2.2.1 = nL) (hn : i < nL) (hk : lv[j]? = some (i, vI a)) (hl' : lset i (vI (w32 (a + n))) lv = lv') (k : Sm x em F (pc + 3) lv' st h) : Sm x em F pc lv st h := by
  intro o hF
  have k := k o hF
  obtain ⟨p, l, e, R, s, m, args, below, meth, c, nL', w, h0⟩ := x
  obtain ⟨hx, hb, -⟩ := C
  have hnL : nL' = nL := hnL
  subst hnL; subst hl'
  intro H locs ls hR hE hl hs hL hv
  refine lv_iinc (v := Int32.ofInt (w32 (a + n))) hx hb hd hv (k := j) (show (lvm w lv)[j]? = some (i, .int (Int32.ofInt a)) by unfold lvm; rw [List.getElem?_map, hk]; rfl) (of32_add a n) hn rfl (fun ls' hv' => ?_)
  refine k H locs ls' hR hE (fun q hq => ?_) hs hL (lset_has (fun q _ h2 => lfl_1 h2) hv')
  rcases lset_mem hq with z | z
  · rw [z]; exact c32_w _
  · exact hl q z.1
end

