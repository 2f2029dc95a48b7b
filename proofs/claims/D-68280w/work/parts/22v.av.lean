/-! FRAMES: a set C of cells, closed under references, to which every fresh cell belongs (gen/av.py) -/
def Cl (C : Nat → Prop) (h : Hp) : Prop := C 0 ∧ (∀ x k, C x → C (hR h x k)) ∧ ∀ x, hN h ≤ x → C x
def Av (C : Nat → Prop) (h h' : Hp) : Prop := (hN h ≤ hN h' ∧ Cl C h') ∧ ∀ x, ¬ C x → hI h' x = hI h x ∧ hJ h' x = hJ h x ∧ hR h' x = hR h x ∧ h'.2.1 x = h.2.1 x
def Ao {β : Type} (Q : β → Prop) (X : Option β) : Prop := ∀ o, X = some o → Q o
def qV (C : Nat → Prop) (h : Hp) (o : Hp) : Prop := Av C h o
def qI (C : Nat → Prop) (h : Hp) (o : Int × Hp) : Prop := Av C h o.2
def qR (C : Nat → Prop) (h : Hp) (o : Nat × Hp) : Prop := Av C h o.2 ∧ C o.1
def qTV (C : Nat → Prop) (h : Hp) : Hp ⊕ (Nat × Hp) → Prop
  | .inl o => Av C h o
  | .inr o => Av C h o.2
def qTI (C : Nat → Prop) (h : Hp) : (Int × Hp) ⊕ (Nat × Hp) → Prop
  | .inl o => Av C h o.2
  | .inr o => Av C h o.2
def qTR (C : Nat → Prop) (h : Hp) : (Nat × Hp) ⊕ (Nat × Hp) → Prop
  | .inl o => Av C h o.2 ∧ C o.1
  | .inr o => Av C h o.2
section
variable {C : Nat → Prop} {h h' hc : Hp}
theorem Cl.r (c : Cl C h) {x k : Nat} (hx : C x) : C (hR h x k) := c.2.1 x k hx
theorem Cl.n (c : Cl C h) : C (hN h) := c.2.2 _ (Nat.le_refl _)
theorem Av.cl (F : Av C h h') : Cl C h' := F.1.2
theorem Av.rf (c : Cl C h) : Av C h h := ⟨⟨Nat.le_refl _, c⟩, fun _ _ => ⟨rfl, rfl, rfl, rfl⟩⟩
theorem Av.tr (F : Av C h hc) (G : Av C hc h') : Av C h h' := ⟨⟨Nat.le_trans F.1.1 G.1.1, G.1.2⟩, fun x hx => ⟨(G.2 x hx).1.trans (F.2 x hx).1, (G.2 x hx).2.1.trans (F.2 x hx).2.1, (G.2 x hx).2.2.1.trans (F.2 x hx).2.2.1, (G.2 x hx).2.2.2.trans (F.2 x hx).2.2.2⟩⟩
theorem Av.I (F : Av C h h') {x : Nat} (hx : ¬ C x) (k : Nat) : hI h' x k = hI h x k := by rw [(F.2 x hx).1]
theorem Av.J (F : Av C h h') {x : Nat} (hx : ¬ C x) (k : Nat) : hJ h' x k = hJ h x k := by rw [(F.2 x hx).2.1]
theorem Av.R (F : Av C h h') {x : Nat} (hx : ¬ C x) (k : Nat) : hR h' x k = hR h x k := by rw [(F.2 x hx).2.2.1]
theorem Av.L (F : Av C h h') {x : Nat} (hx : ¬ C x) : ln h' x = ln h x := by unfold ln; rw [(F.2 x hx).2.2.2]
theorem Av.K (F : Av C h h') {x : Nat} (hx : ¬ C x) : kd h' x = kd h x := by unfold kd; rw [(F.2 x hx).2.2.2]
variable {α β : Type} {Q : β → Prop} {X Y : Option β}
theorem ao_no : Ao Q none := fun _ e => by cases e
theorem ao_so {o : β} (F : Q o) : Ao Q (some o) := fun _ e => by cases e; exact F
theorem ao_it {c : Prop} [Decidable c] (k1 : Ao Q X) (k2 : Ao Q Y) : Ao Q (if c then X else Y) := by split; exact k1; exact k2
theorem ao_v {e : α} {f : α → Option β} (k : ∀ y, Ao Q (f y)) : Ao Q (lt1 e f) := k e
theorem ao_m {e : Nat} {f : Nat → Option β} (m : C e) (k : ∀ y, C y → Ao Q (f y)) : Ao Q (lt1 e f) := k e m
theorem ao_I {a k : Nat} {v : Int} {f : Hp → Option β} (F : Av C h hc) (m : C a) (kk : ∀ h1, Av C h h1 → Ao Q (f h1)) : Ao Q (lt1 (sI hc a k v) f) :=
  kk _ (F.tr ⟨⟨Nat.le_refl _, F.cl⟩, fun x hx => ⟨funext fun y => up2_ne (fun z => hx (by rw [z.1]; exact m)), rfl, rfl, rfl⟩⟩)
theorem ao_J {a k : Nat} {v : Int} {f : Hp → Option β} (F : Av C h hc) (m : C a) (kk : ∀ h1, Av C h h1 → Ao Q (f h1)) : Ao Q (lt1 (sJ hc a k v) f) :=
  kk _ (F.tr ⟨⟨Nat.le_refl _, F.cl⟩, fun x hx => ⟨rfl, funext fun y => up2_ne (fun z => hx (by rw [z.1]; exact m)), rfl, rfl⟩⟩)
theorem ao_R {a k v : Nat} {f : Hp → Option β} (F : Av C h hc) (m : C a) (mv : C v) (kk : ∀ h1, Av C h h1 → Ao Q (f h1)) : Ao Q (lt1 (sR hc a k v) f) :=
  kk _ (F.tr ⟨⟨Nat.le_refl _, F.cl.1, fun x y hx => by rw [hR_sR]; split; exact mv; exact F.cl.r hx, F.cl.2.2⟩, fun x hx => ⟨rfl, rfl, funext fun y => up2_ne (fun z => hx (by rw [z.1]; exact m)), rfl⟩⟩)
theorem ao_cI {s sp d dp n : Nat} {f : Hp → Option β} (F : Av C h hc) (m : C d) (kk : ∀ h1, Av C h h1 → Ao Q (f h1)) : Ao Q (lt1 (cpI hc s sp d dp n) f) :=
  kk _ (F.tr ⟨⟨Nat.le_refl _, F.cl⟩, fun x hx => ⟨funext fun y => cpy_ne (fun z => hx (by rw [z]; exact m)), rfl, rfl, rfl⟩⟩)
theorem ao_cJ {s sp d dp n : Nat} {f : Hp → Option β} (F : Av C h hc) (m : C d) (kk : ∀ h1, Av C h h1 → Ao Q (f h1)) : Ao Q (lt1 (cpJ hc s sp d dp n) f) :=
  kk _ (F.tr ⟨⟨Nat.le_refl _, F.cl⟩, fun x hx => ⟨rfl, funext fun y => cpy_ne (fun z => hx (by rw [z]; exact m)), rfl, rfl⟩⟩)
theorem Av.nw {k l z : Nat} (F : Av C h hc) : Av C h (nwC hc k l z) := F.tr ⟨⟨Nat.le_succ _, F.cl.1, fun x y hx => by rw [hR_nw]; split; exact F.cl.1; exact F.cl.r hx, fun x hx => F.cl.2.2 x (Nat.le_trans (Nat.le_succ _) hx)⟩, fun x hx => by
    have hn : x ≠ hN hc := fun z => hx (by rw [z]; exact F.cl.n)
    refine ⟨funext fun y => ?_, funext fun y => ?_, funext fun y => ?_, if_neg hn⟩
    · rw [hI_nw, if_neg hn]
    · rw [hJ_nw, if_neg hn]
    · rw [hR_nw, if_neg hn]⟩
theorem ao_nw {k l z : Nat} {f : Hp → Option β} (F : Av C h hc) (kk : ∀ h1, Av C h h1 → Ao Q (f h1)) : Ao Q (lt1 (nwC hc k l z) f) := kk _ F.nw
theorem Av.nm {a b c d : Nat} (F : Av C h hc) : ∀ i, Av C h (nwM hc a b c d i)
  | 0 => F.nw
  | i + 1 => by
    have G : Av C h (nwC (nwM hc a b c d i) b d d) := (Av.nm F i).nw
    exact ao_R (Q := fun o => Av C h o) (f := fun o => some o) G (F.cl.n) (F.cl.2.2 _ (by omega)) (fun h1 F1 => ao_so F1) _ rfl
theorem ao_nm {a b c d i : Nat} {f : Hp → Option β} (F : Av C h hc) (kk : ∀ h1, Av C h h1 → Ao Q (f h1)) : Ao Q (lt1 (nwM hc a b c d i) f) := kk _ (F.nm i)
theorem ao_b1 {X : Option Hp} {f : Hp → Option β} (F : Av C h hc) (e : Ao (qV C hc) X) (kk : ∀ h1, Av C h h1 → Ao Q (f h1)) : Ao Q (b1 X f) := by
  cases hX : X with
  | none => exact ao_no
  | some o => exact kk o (F.tr (e o hX))
theorem ao_b2 {X : Option (Int × Hp)} {f : Int → Hp → Option β} (F : Av C h hc) (e : Ao (qI C hc) X) (kk : ∀ r h1, Av C h h1 → Ao Q (f r h1)) : Ao Q (b2 X f) := by
  cases hX : X with
  | none => exact ao_no
  | some o => exact kk o.1 o.2 (F.tr (e o hX))
theorem ao_b2R {X : Option (Nat × Hp)} {f : Nat → Hp → Option β} (F : Av C h hc) (e : Ao (qR C hc) X) (kk : ∀ r h1, Av C h h1 → C r → Ao Q (f r h1)) : Ao Q (b2 X f) := by
  cases hX : X with
  | none => exact ao_no
  | some o => exact kk o.1 o.2 (F.tr (e o hX).1) (e o hX).2
theorem ao_bt {X : Option (Hp ⊕ (Nat × Hp))} {g : Nat → Hp → Option β} {f : Hp → Option β} (F : Av C h hc) (e : Ao (qTV C hc) X) (k2 : ∀ a h1, Av C h h1 → Ao Q (g a h1)) (kk : ∀ h1, Av C h h1 → Ao Q (f h1)) : Ao Q (bt X g f) := by
  cases hX : X with
  | none => exact ao_no
  | some o => cases o with
    | inl o => exact kk o (F.tr (e _ hX))
    | inr o => exact k2 o.1 o.2 (F.tr (e _ hX))
theorem ao_bt2 {X : Option ((Int × Hp) ⊕ (Nat × Hp))} {g : Nat → Hp → Option β} {f : Int → Hp → Option β} (F : Av C h hc) (e : Ao (qTI C hc) X) (k2 : ∀ a h1, Av C h h1 → Ao Q (g a h1)) (kk : ∀ r h1, Av C h h1 → Ao Q (f r h1)) : Ao Q (bt2 X g f) := by
  cases hX : X with
  | none => exact ao_no
  | some o => cases o with
    | inl o => exact kk o.1 o.2 (F.tr (e _ hX))
    | inr o => exact k2 o.1 o.2 (F.tr (e _ hX))
theorem ao_bt2R {X : Option ((Nat × Hp) ⊕ (Nat × Hp))} {g : Nat → Hp → Option β} {f : Nat → Hp → Option β} (F : Av C h hc) (e : Ao (qTR C hc) X) (k2 : ∀ a h1, Av C h h1 → Ao Q (g a h1)) (kk : ∀ r h1, Av C h h1 → C r → Ao Q (f r h1)) : Ao Q (bt2 X g f) := by
  cases hX : X with
  | none => exact ao_no
  | some o => cases o with
    | inl o => exact kk o.1 o.2 (F.tr (e _ hX).1) (e _ hX).2
    | inr o => exact k2 o.1 o.2 (F.tr (e _ hX))
theorem ao_jV {X : Option Hp} (F : Av C h hc) (e : Ao (qV C hc) X) : Ao (qV C h) X := fun o hX => F.tr (e o hX)
theorem ao_jI {X : Option (Int × Hp)} (F : Av C h hc) (e : Ao (qI C hc) X) : Ao (qI C h) X := fun o hX => F.tr (e o hX)
theorem ao_jR {X : Option (Nat × Hp)} (F : Av C h hc) (e : Ao (qR C hc) X) : Ao (qR C h) X := fun o hX => ⟨F.tr (e o hX).1, (e o hX).2⟩
theorem ao_jTV {X : Option (Hp ⊕ (Nat × Hp))} (F : Av C h hc) (e : Ao (qTV C hc) X) : Ao (qTV C h) X := fun o hX => by
  have := e o hX
  cases o with
  | inl o => exact F.tr this
  | inr o => exact F.tr this
theorem ao_jTI {X : Option ((Int × Hp) ⊕ (Nat × Hp))} (F : Av C h hc) (e : Ao (qTI C hc) X) : Ao (qTI C h) X := fun o hX => by
  have := e o hX
  cases o with
  | inl o => exact F.tr this
  | inr o => exact F.tr this
theorem ao_jTR {X : Option ((Nat × Hp) ⊕ (Nat × Hp))} (F : Av C h hc) (e : Ao (qTR C hc) X) : Ao (qTR C h) X := fun o hX => by
  have := e o hX
  cases o with
  | inl o => exact ⟨F.tr this.1, this.2⟩
  | inr o => exact F.tr this
theorem av_guard {k : Nat} {v : Int} (c : Cl C h) : Ao (qTV C h) (fGuard k v h) := by
  unfold fGuard
  split
  · exact ao_so (Av.rf c)
  · split
    · exact ao_so (Av.rf c).nw
    · exact ao_no
end
