/-! ROWS: fields, arrays, new cells -/
theorem fv_congr {w : Wd} {h h' : Hp} {a k : Nat} (h1 : hI h' a k = hI h a k) (h2 : hJ h' a k = hJ h a k) (h3 : hR h' a k = hR h a k) (ty : FieldType) : fv w h' a ty k = fv w h a ty k := by
  cases ty <;> simp [fv, h1, h2, h3]
def fk (ty : FieldType) : Nat := match ty with
  | .long => 1
  | .object _ => 2
  | .array _ => 2
  | .float => 3
  | .double => 3
  | _ => 0
theorem fv_I {ty : FieldType} (hf : fk ty = 0) (w : Wd) (h : Hp) (a k : Nat) : fv w h a ty k = .int (Int32.ofInt (hI h a k)) := by cases ty <;> first | rfl | (simp [fk] at hf)
theorem fv_J {ty : FieldType} (hf : fk ty = 1) (w : Wd) (h : Hp) (a k : Nat) : fv w h a ty k = .long (Int64.ofInt (hJ h a k)) := by cases ty <;> first | rfl | (simp [fk] at hf)
theorem fv_R {ty : FieldType} (hf : fk ty = 2) (w : Wd) (h : Hp) (a k kn : Nat) : fv w h a ty k = rv (wM w) (vR kn (hR h a k)) := by cases ty <;> first | rfl | (simp [fk] at hf)
theorem Rp.low {w : Wd} {h : Hp} {H : Heap} (hW : Wok w) (rp : Rp w h H) {a k : Nat} (hk : kd h a = k) (h1 : 0 < k) (h2 : k ≤ 60 ∨ 100 < k) : PN1 ≤ a := by
  rcases Nat.lt_or_ge a PN1 with q | q
  · have e := (rp.2.2.2.2.2.1 a q).1
    have e2 : kd h a = kd (wP w) a := by unfold kd; rw [e]
    rcases hW.2.2.1 a q with z | z <;> omega
  · exact q
theorem Rp.obj {w : Wd} {h : Hp} {H : Heap} (hW : Wok w) (rp : Rp w h H) {a ci : Nat} (hk : kd h a = ci + 1) (hci : ci < 60) (hlt : a < hN h) : PN1 ≤ a ∧ oO w h H a ci := by
  have hp := rp.low hW hk (Nat.succ_pos _) (Or.inl (by omega))
  rcases rp.2.2.2.2.2.2.1 a hp hlt with ⟨c2, e1, -, e3⟩ | ⟨t, e1, -, -⟩
  · have : c2 = ci := by omega
    subst this
    exact ⟨hp, e3⟩
  · omega
theorem Rp.arr {w : Wd} {h : Hp} {H : Heap} (hW : Wok w) (rp : Rp w h H) {a ti : Nat} (hk : kd h a = ti + 101) (hlt : a < hN h) : PN1 ≤ a ∧ ti < 20 ∧ oA w h H a ti := by
  have hp := rp.low hW hk (Nat.succ_pos _) (Or.inr (by omega))
  rcases rp.2.2.2.2.2.2.1 a hp hlt with ⟨c2, e1, e2, -⟩ | ⟨t, e1, e2, e3⟩
  · omega
  · have : t = ti := by omega
    subst this
    exact ⟨hp, e2, e3⟩
theorem Wok.inj {w : Wd} (hW : Wok w) {a b : Nat} (ha : PN1 ≤ a) (hb : PN1 ≤ b) (h : wM w a = wM w b) : a = b := by
  have h1 := hW.1 a ha
  have h2 := hW.1 b hb
  omega
theorem cO.kept {w : Wd} {h h' : Hp} {H H' : Heap} {b : Nat} (hq : H'[wM w b]? = H[wM w b]?) (hm : h'.2.1 b = h.2.1 b) (hs : ∀ y, hI h' b y = hI h b y ∧ hJ h' b y = hJ h b y ∧ hR h' b y = hR h b y) (hc : cO w h H b) : cO w h' H' b := by
  have hk : kd h' b = kd h b := by unfold kd; rw [hm]
  have hl : ln h' b = ln h b := by unfold ln; rw [hm]
  rcases hc with ⟨ci, e1, e2, q, e3, e4⟩ | ⟨ti, e1, e2, e3⟩
  · refine Or.inl ⟨ci, by rw [hk]; exact e1, e2, q, e3, ?_⟩
    exact (e4.kept hq).to (fun k _ => (fv_congr (hs k).1 (hs k).2.1 (hs k).2.2 _).symm)
  · refine Or.inr ⟨ti, by rw [hk]; exact e1, e2, ?_⟩
    show H'[wM w b]? = some (arrV _ (ln h' b) _)
    rw [hq, hl]
    rw [show (fun k => fv w h' b (gTA ti) k) = (fun k => fv w h b (gTA ti) k) from funext fun k => fv_congr (hs k).1 (hs k).2.1 (hs k).2.2 _]
    exact e3
/-- one cell is changed, nothing else -/
theorem Rp.up {w : Wd} {h h' : Hp} {H H' : Heap} {a : Nat} (hW : Wok w) (rp : Rp w h H) (ha : PN1 ≤ a) (hlt : a < hN h) (e2 : H'.size = H.size) (e3 : ∀ q : Nat, q ≠ wM w a → H'[q]? = H[q]?)
    (ez : ∃ c c' : Cell, H[wM w a]? = some c ∧ H'[wM w a]? = some c' ∧ c'.slots.size = c.slots.size) (hc : cO w h' H' a) (s1 : h'.1 = h.1) (s2 : h'.2.1 = h.2.1) (s3 : ∀ x y, x ≠ a → hI h' x y = hI h x y ∧ hJ h' x y = hJ h x y ∧ hR h' x y = hR h x y)
    (s4 : ∀ y, cA (kd h a) (hI h' a y)) (s5 : ∀ y, c64 (hJ h' a y)) (s6 : ∀ y, hR h' a y = 0 ∨ (kd h (hR h' a y) = rk (kd h a) y ∧ hR h' a y < hN h)) : Rp w h' H' := by
  have hn : hN h' = hN h := by unfold hN; rw [s1]
  have hz : hZ h' = hZ h := by unfold hZ; rw [s1]
  have hk : ∀ b, kd h' b = kd h b := fun b => by unfold kd; rw [s2]
  obtain ⟨r1, r2, r3, r4, r5, r6, r7, r8, r9, r10, r11, r12, r13⟩ := rp
  have hge : wB w ≤ wM w a := by have := hW.1 a ha; omega
  refine ⟨by rw [hn]; exact r1, by rw [e2, hn]; exact r2, ?_, fun q hq => by rw [e3 q (by omega)]; exact r4 q hq, fun b hb => by rw [hk]; exact r5 b (by rw [← hn]; exact hb), fun b hb => ?_, fun b hb hb2 => ?_, fun b y => ?_, fun b y => ?_, fun b y hb => ?_, by rw [hn]; exact r11, by rw [hz]; exact r12, fun b hb => by unfold ln; rw [s2]; exact r13 b hb⟩
  · rw [hz, ← r3]
    refine slotSum_ext e2 fun q c hq => ?_
    by_cases hqa : q = wM w a
    · subst hqa
      obtain ⟨c1, c2, g1, g2, g3⟩ := ez
      cases hq.symm.trans g1
      exact ⟨c2, g2, g3⟩
    · exact ⟨c, by rw [e3 q hqa]; exact hq, rfl⟩
  · have hne : b ≠ a := by omega
    exact ⟨by rw [s2]; exact (r6 b hb).1, fun k => ⟨by rw [(s3 b k hne).1]; exact ((r6 b hb).2 k).1, by rw [(s3 b k hne).2.2]; exact ((r6 b hb).2 k).2⟩⟩
  · by_cases hba : b = a
    · rw [hba]; exact hc
    · refine cO.kept (e3 _ (fun z => hba (hW.inj hb ha z))) (by rw [s2]) (fun y => s3 b y hba) (r7 b hb (by rw [← hn]; exact hb2))
  · by_cases hba : b = a
    · rw [hk, hba]; exact s4 y
    · rw [hk, (s3 b y hba).1]; exact r8 b y
  · by_cases hba : b = a
    · rw [hba]; exact s5 y
    · rw [(s3 b y hba).2.1]; exact r9 b y
  · rw [hk, hn, hk]
    by_cases hba : b = a
    · rw [hba]; exact s6 y
    · rw [(s3 b y hba).2.2]; exact r10 b y hb
/-- a cell is made -/
theorem Rp.nw {w : Wd} {h : Hp} {H H' : Heap} {c : Cell} {k len z : Nat} (hW : Wok w) (rp : Rp w h H) (e1 : H'[H.size]? = some c) (e2 : H'.size = H.size + 1) (e3 : ∀ q : Nat, q < H.size → H'[q]? = H[q]?) (hz : c.slots.size = z)
    (hc : cO w (nwC h k len z) H' (hN h)) (hn : hN h + 1 ≤ CN) (hs : hZ h + z ≤ CZ) (hlz : len ≤ z) : Rp w (nwC h k len z) H' := by
  obtain ⟨r1, r2, r3, r4, r5, r6, r7, r8, r9, r10, r11, r12, r13⟩ := rp
  have k1 : ∀ b, b ≠ hN h → (nwC h k len z).2.1 b = h.2.1 b := fun b hb => if_neg hb
  have k2 : ∀ b y, b ≠ hN h → hI (nwC h k len z) b y = hI h b y ∧ hJ (nwC h k len z) b y = hJ h b y ∧ hR (nwC h k len z) b y = hR h b y := fun b y hb => ⟨if_neg hb, if_neg hb, if_neg hb⟩
  have k3 : ∀ y, hI (nwC h k len z) (hN h) y = 0 ∧ hJ (nwC h k len z) (hN h) y = 0 ∧ hR (nwC h k len z) (hN h) y = 0 := fun y => ⟨if_pos rfl, if_pos rfl, if_pos rfl⟩
  have k4 : ∀ b, b ≠ hN h → kd (nwC h k len z) b = kd h b := fun b hb => by unfold kd; rw [k1 b hb]
  have hN' : hN (nwC h k len z) = hN h + 1 := rfl
  have hZ' : hZ (nwC h k len z) = hZ h + z := rfl
  refine ⟨by rw [hN']; omega, by rw [e2, hN']; omega, ?_, fun q hq => ?_, fun b hb => ?_, fun b hb => ?_, fun b hb hb2 => ?_, fun b y => ?_, fun b y => ?_, fun b y hb => ?_, hn, hs, fun b hb => ?_⟩
  · rw [slotSum_new e1 e2 e3, hZ', r3, hz]; omega
  · rw [e3 q (by omega)]; exact r4 q hq
  · rw [hN'] at hb; rw [k4 b (by omega)]; exact r5 b (by omega)
  · have hne : b ≠ hN h := by omega
    exact ⟨by rw [k1 b hne]; exact (r6 b hb).1, fun y => ⟨by rw [(k2 b y hne).1]; exact ((r6 b hb).2 y).1, by rw [(k2 b y hne).2.2]; exact ((r6 b hb).2 y).2⟩⟩
  · by_cases hba : b = hN h
    · rw [hba]; exact hc
    · rw [hN'] at hb2
      have hb3 : b < hN h := by omega
      have := hW.1 b hb
      exact cO.kept (e3 _ (by omega)) (k1 b hba) (fun y => k2 b y hba) (r7 b hb hb3)
  · by_cases hba : b = hN h
    · rw [hba, (k3 y).1]; exact cA.z _
    · rw [(k2 b y hba).1, k4 b hba]; exact r8 b y
  · by_cases hba : b = hN h
    · rw [hba, (k3 y).2.1]; decide
    · rw [(k2 b y hba).2.1]; exact r9 b y
  · by_cases hba : b = hN h
    · rw [hba]; exact Or.inl (k3 y).2.2
    · rw [(k2 b y hba).2.2, k4 b hba, hN']
      rcases r10 b y hb with q | ⟨q1, q2⟩
      · exact Or.inl q
      · exact Or.inr ⟨by rw [k4 _ (by omega)]; exact q1, by omega⟩
  · by_cases hba : b = hN h
    · rw [hba]
      show ((nwC h k len z).2.1 (hN h)).2 ≤ CZ
      rw [show (nwC h k len z).2.1 (hN h) = (k, len) from if_pos rfl]
      show len ≤ CZ
      omega
    · unfold ln; rw [k1 b hba]; exact r13 b hb
theorem Ext.nw {h : Hp} (k len z : Nat) : Ext h (nwC h k len z) := ⟨Nat.le_succ _, Nat.le_add_right _ _, fun a ha => by
  show (if a = hN h then (k, len) else h.2.1 a).1 = kd h a
  rw [if_neg (by omega)]; rfl⟩
theorem Ext.of {h h' : Hp} (s1 : h'.1 = h.1) (s2 : h'.2.1 = h.2.1) : Ext h h' := ⟨by unfold hN; rw [s1]; exact Nat.le_refl _, by unfold hZ; rw [s1]; exact Nat.le_refl _, fun a _ => by unfold kd; rw [s2]⟩
def Lk (own : String) (idx : Nat) (q : vw_C) (k : Nat) : Prop := (Cond.fieldLink own idx q.1 (q.2.1 k).2.1 (q.2.1 k).2.2.1) ∈ lw_all ∨ ∃ host, (Cond.fieldLinkNest own idx q.1 (q.2.1 k).2.1 (q.2.1 k).2.2.1 host) ∈ lw_tbl
section
variable {p : Program} {l : Launch} {e : Env} {R : Room} {s : State} {m : MethodId} {args : Array Value} {below : List Frame} {meth : Method} {c : Code} {H : Heap} {locs : List Loc} {cells slots : Nat} {Q : State → Prop} {cc : ByteArray} {pc : Nat} {ls : Array Slot} {rest : List Value} {w : Wd} {h : Hp} {own : String}
theorem W.rdF (hx : p.tables.exec = Jvm.exec) (hb : c.code = cc) (hown : s.vm.findClass own = some m.cls) (hts : ∀ y ∈ lw_all, y.before args s = true) (hK : KW w s) (hW : Wok w) (rp : Rp w h H) {a ci k idx : Nat} {q : vw_C} (hka : kd h a = ci + 1) (hlt : a < hN h) (hci : ci < 60) (hq : gCL[ci]? = some q) (hk : k < q.2.2) (hl : Lk own idx q k) (hd : decode cc pc = .ok (.getfield idx, 3))
    (kk : W p l e R s m args below meth c H locs cells slots Q (F0 m (pc + 3) ls (fv w h a (gTy ci k) k :: rest))) : W p l e R s m args below meth c H locs cells slots Q (F0 m pc ls (.ref (wM w a) :: rest)) := by
  obtain ⟨hp, q', hq', cell, q1, q2, q3, q4⟩ := rp.obj hW hka hci hlt
  cases hq.symm.trans hq'
  obtain ⟨hS, hfc, kC, hkC, hkind⟩ := hK.1 ci _ hq
  obtain ⟨cf, kf, fi, f, hi, hsl⟩ := hS k hk
  have hi2 : s.fieldFound? q.1 (q.2.1 k).2.1 (q.2.1 k).2.2.1 = some (cf, kf, fi, f) := by rw [← gOw hq k hk]; exact hi
  rcases hl with hl | ⟨host, hl⟩
  · exact W.getf hx hb hown (hts _ hl) hi2 (u_facts hfc hkC (u_lays hts (gIn hq) hk) hi).1 q1 (by rw [q3]; exact fun z => by cases z) (v := fv w h a (gTy ci k) k) (by rw [hsl]; exact q4 k hk) rfl rfl hd kk
  · exact va_Wgetf hx hb hown (va_Nw.use rfl (hK.2.2.1 _ hl rfl)) hi2 (u_facts hfc hkC (u_lays hts (gIn hq) hk) hi).1 q1 (by rw [q3]; exact fun z => by cases z) (v := fv w h a (gTy ci k) k) (by rw [hsl]; exact q4 k hk) rfl rfl hd kk
/-- the value v is put into field k: the abstract heap becomes h' -/
theorem W.wrF (hx : p.tables.exec = Jvm.exec) (hb : c.code = cc) (hown : s.vm.findClass own = some m.cls) (hts : ∀ y ∈ lw_all, y.before args s = true) (hK : KW w s) (hW : Wok w) (rp : Rp w h H) {a ci k idx : Nat} {q : vw_C} {h' : Hp} {v : Value} (hka : kd h a = ci + 1) (hlt : a < hN h) (hci : ci < 60) (hq : gCL[ci]? = some q) (hk : k < q.2.2) (hl : Lk own idx q k)
    (hfin : (q.2.1 k).2.2.2 = false ∨ ((q.2.1 k).2.2.2 = true ∧ meth.name = "<init>" ∧ own = q.1 ∧ (Cond.fieldLink own idx q.1 (q.2.1 k).2.1 (q.2.1 k).2.2.1) ∈ lw_all)) (hn : narrow (gTy ci k) v = v) (hfit : fits (gTy ci k) v = true) (hv : fv w h' a (gTy ci k) k = v)
    (s1 : h'.1 = h.1) (s2 : h'.2.1 = h.2.1) (s3 : ∀ x y, ¬ (x = a ∧ y = k) → hI h' x y = hI h x y ∧ hJ h' x y = hJ h x y ∧ hR h' x y = hR h x y) (s4 : c32 (hI h' a k)) (s5 : c64 (hJ h' a k)) (s6 : hR h' a k = 0 ∨ (kd h (hR h' a k) = rk (kd h a) k ∧ hR h' a k < hN h))
    (hd : decode cc pc = .ok (.putfield idx, 3)) (kk : ∀ (H' : Heap) (lo : Loc), wB w ≤ lo.base → Rp w h' H' → W p l e R s m args below meth c H' (locs ++ [lo]) cells slots Q (F0 m (pc + 3) ls rest)) : W p l e R s m args below meth c H locs cells slots Q (F0 m pc ls (v :: .ref (wM w a) :: rest)) := by
  have hty := gTk hq k hk
  have hap : ∀ x y, x < q.2.2 → y < q.2.2 → x ≠ y → ((wD w).2 ci) x ≠ ((wD w).2 ci) y := by
    intro x y hx1 hy1 hne
    obtain ⟨hS, -⟩ := hK.1 ci _ hq
    obtain ⟨_, _, _, fa, hia, ea⟩ := hS x hx1
    obtain ⟨_, _, _, fb, hib, eb⟩ := hS y hy1
    rw [← ea, ← eb]
    refine u_apart (u_lays hts (gIn hq) hx1) (u_lays hts (gIn hq) hy1) hia hib ?_
    rw [(State.fieldFound?_type hia (gTk hq x hx1)).1, (State.fieldFound?_type hib (gTk hq y hy1)).1]
    exact gNm hq x hx1 y hy1 hne
  obtain ⟨hp, q', hq', cell, q1, q2, q3, q4⟩ := rp.obj hW hka hci hlt
  cases hq.symm.trans hq'
  obtain ⟨hS, hfc, kC, hkC, hkind⟩ := hK.1 ci _ hq
  obtain ⟨cf, kf, fi, f, hi, hsl⟩ := hS k hk
  have hi2 : s.fieldFound? q.1 (q.2.1 k).2.1 (q.2.1 k).2.2.1 = some (cf, kf, fi, f) := by rw [← gOw hq k hk]; exact hi
  have hst := (u_facts hfc hkC (u_lays hts (gIn hq) hk) hi).1
  have hlen : f.slot < cell.slots.size := by rw [hsl]; exact k2_hasslot (q4 k hk)
  have hge : wB w ≤ wM w a := by have := hW.1 a hp; omega
  have fin : ∀ H' : Heap, H'[wM w a]? = some (cell.setSlot f.slot v) → H'.size = H.size → (∀ z, z ≠ wM w a → H'[z]? = H[z]?) → Rp w h' H' := by
    intro H' e1 e2 e3
    have hkk : kd h' a = ci + 1 := by unfold kd; rw [s2]; exact hka
    refine rp.up hW hp hlt e2 e3 ⟨cell, _, q1, e1, by simp [Cell.setSlot]⟩ (Or.inl ⟨ci, hkk, hci, q, hq, ?_⟩) s1 s2 (fun x y hxa => s3 x y (fun z => hxa z.1)) (fun y => ?_) (fun y => ?_) (fun y => ?_)
    · rw [hsl] at e1
      refine t_OB.to (V := updV (fun j => fv w h a (gTy ci j) j) k v) ⟨_, e1, q2, q3, t_set q4 hap hk v⟩ (fun j _ => ?_)
      by_cases hj : j = k
      · subst hj; simp [updV, hv]
      · simp only [updV, if_neg hj]
        exact (fv_congr (s3 a j (fun z => hj z.2)).1 (s3 a j (fun z => hj z.2)).2.1 (s3 a j (fun z => hj z.2)).2.2 _).symm
    · by_cases hy : y = k
      · rw [hy]; exact cA.o s4 (by omega) (by omega) (by omega)
      · rw [(s3 a y (fun z => hy z.2)).1]; exact rp.2.2.2.2.2.2.2.1 a y
    · by_cases hy : y = k
      · rw [hy]; exact s5
      · rw [(s3 a y (fun z => hy z.2)).2.1]; exact rp.2.2.2.2.2.2.2.2.1 a y
    · by_cases hy : y = k
      · rw [hy]; exact s6
      · rw [(s3 a y (fun z => hy z.2)).2.2]; exact rp.2.2.2.2.2.2.2.2.2.1 a y hp
  rcases hfin with hfin | ⟨hfin, hin, hoq, hl2⟩
  · have hlay := hts _ (gIn hq _ (u_in_lay hk))
    unfold u_lay at hlay
    rw [if_neg (by rw [hfin]; decide)] at hlay
    have h6 := u_store hfc hkC hkind hlay hi hty hn hfit
    rcases hl with hl | ⟨host, hl⟩
    · exact W.putK hx hb (f := f) ⟨hown, hts _ hl, ⟨_, _, _, hi2⟩, hst⟩ (by rw [q2]; exact h6) q1 q3 hlen rfl rfl hd fun H' e1 e2 e3 => kk H' ⟨wM w a, f.slot⟩ hge (fin H' e1 e2 e3)
    · exact va_WputK hx hb (f := f) hown (va_Nw.use rfl (hK.2.2.1 _ hl rfl)) hi2 hst (by rw [q2]; exact h6) q1 q3 hlen rfl rfl hd fun H' e1 e2 e3 => kk H' ⟨wM w a, f.slot⟩ hge (fin H' e1 e2 e3)
  · have h6 := u_fits hfc hkC hkind (u_lays hts (gIn hq) hk) hi hty hn hfit
    have hlay := hts _ (gIn hq _ (u_in_lay hk))
    unfold u_lay at hlay
    rw [if_pos hfin] at hlay
    have hcf : m.cls = cf := by
      obtain ⟨_, _, c', _, _, _, -, -, hf', -, -, -, hown2, -⟩ := Cond.laysFinal_spec hlay
      have e1 : c' = cf := by have := hi.symm.trans hf'; simp at this; exact this.1.symm
      rw [gOw hq k hk, ← hoq] at hown2
      rw [← e1]; exact Option.some.inj (hown.symm.trans hown2)
    exact W.putFinK hx hb hown (hts _ hl2) hi2 hst hcf hin (by rw [q2]; exact h6) q1 q3 hlen rfl rfl hd fun H' e1 e2 e3 => kk H' ⟨wM w a, f.slot⟩ hge (fin H' e1 e2 e3)
end
