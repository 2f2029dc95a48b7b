/-! EFFECTS: a function that makes no cell and writes no reference changes only the slots that its words wI_.., wJ_.. name -/
def Fe (A B : Nat → Nat → Prop) (h h' : Hp) : Prop := (h'.1 = h.1 ∧ h'.2.1 = h.2.1 ∧ h'.2.2.2.2 = h.2.2.2.2) ∧ (∀ x k, ¬ A x k → hI h' x k = hI h x k) ∧ (∀ x k, ¬ B x k → hJ h' x k = hJ h x k)
section
variable {A B A' B' : Nat → Nat → Prop} {h h' hc : Hp}
theorem Fe.rf : Fe A B h h := ⟨⟨rfl, rfl, rfl⟩, fun _ _ _ => rfl, fun _ _ _ => rfl⟩
theorem Fe.r (F : Fe A B h h') : hR h' = hR h := by funext a k; unfold hR; rw [F.1.2.2]
theorem Fe.l (F : Fe A B h h') : ln h' = ln h := by funext a; unfold ln; rw [F.1.2.1]
theorem Fe.k (F : Fe A B h h') : kd h' = kd h := by funext a; unfold kd; rw [F.1.2.1]
theorem Fe.n (F : Fe A B h h') : hN h' = hN h := by unfold hN; rw [F.1.1]
theorem Fe.z (F : Fe A B h h') : hZ h' = hZ h := by unfold hZ; rw [F.1.1]
theorem Fe.I (F : Fe A B h h') {x k : Nat} (hx : ¬ A x k) : hI h' x k = hI h x k := F.2.1 x k hx
theorem Fe.J (F : Fe A B h h') {x k : Nat} (hx : ¬ B x k) : hJ h' x k = hJ h x k := F.2.2 x k hx
theorem Fe.mono (F : Fe A B h h') (iA : ∀ x k, A x k → A' x k) (iB : ∀ x k, B x k → B' x k) : Fe A' B' h h' := ⟨F.1, fun x k hx => F.2.1 x k (fun z => hx (iA x k z)), fun x k hx => F.2.2 x k (fun z => hx (iB x k z))⟩
theorem Fe.tr (F : Fe A B h hc) (G : Fe A B hc h') : Fe A B h h' := ⟨⟨G.1.1.trans F.1.1, G.1.2.1.trans F.1.2.1, G.1.2.2.trans F.1.2.2⟩, fun x k hx => (G.2.1 x k hx).trans (F.2.1 x k hx), fun x k hx => (G.2.2 x k hx).trans (F.2.2 x k hx)⟩
def Feo (A B : Nat → Nat → Prop) (h : Hp) {β : Type} (π : β → Hp) (X : Option β) : Prop := ∀ o, X = some o → Fe A B h (π o)
variable {α β : Type} {π : β → Hp} {X Y : Option β}
theorem fe_no : Feo A B h π none := fun _ e => by cases e
theorem fe_so {o : β} (F : Fe A B h (π o)) : Feo A B h π (some o) := fun _ e => by cases e; exact F
theorem fe_it {c : Prop} [Decidable c] (k1 : Feo A B h π X) (k2 : Feo A B h π Y) : Feo A B h π (if c then X else Y) := by split; exact k1; exact k2
theorem fe_v {e : α} {f : α → Option β} (k : ∀ y, Feo A B h π (f y)) : Feo A B h π (lt1 e f) := k e
theorem fe_l {e : α} {f : α → Option β} (k : Feo A B h π (f e)) : Feo A B h π (lt1 e f) := k
theorem up2_ne {γ : Type} {f : Nat → Nat → γ} {a k x y : Nat} {v : γ} (hn : ¬ (x = a ∧ y = k)) : up2 f a k v x y = f x y := if_neg hn
theorem fe_I {a k : Nat} {v : Int} {f : Hp → Option β} (F : Fe A B h hc) (hA : A a k) (kk : ∀ h1, Fe A B h h1 → Feo A B h π (f h1)) : Feo A B h π (lt1 (sI hc a k v) f) :=
  kk _ (F.tr ⟨⟨rfl, rfl, rfl⟩, fun x y hx => up2_ne (fun z => hx (by rw [z.1, z.2]; exact hA)), fun _ _ _ => rfl⟩)
theorem fe_J {a k : Nat} {v : Int} {f : Hp → Option β} (F : Fe A B h hc) (hA : B a k) (kk : ∀ h1, Fe A B h h1 → Feo A B h π (f h1)) : Feo A B h π (lt1 (sJ hc a k v) f) :=
  kk _ (F.tr ⟨⟨rfl, rfl, rfl⟩, fun _ _ _ => rfl, fun x y hx => up2_ne (fun z => hx (by rw [z.1, z.2]; exact hA))⟩)
theorem cpy_ne {γ : Type} {f : Nat → Nat → γ} {s sp d dp n x y : Nat} (hn : x ≠ d) : cpy f s sp d dp n x y = f x y := if_neg (fun z => hn z.1)
theorem fe_cI {s sp d dp n : Nat} {f : Hp → Option β} (F : Fe A B h hc) (hA : ∀ y, A d y) (kk : ∀ h1, Fe A B h h1 → Feo A B h π (f h1)) : Feo A B h π (lt1 (cpI hc s sp d dp n) f) :=
  kk _ (F.tr ⟨⟨rfl, rfl, rfl⟩, fun x y hx => cpy_ne (fun z => hx (by rw [z]; exact hA y)), fun _ _ _ => rfl⟩)
theorem fe_cJ {s sp d dp n : Nat} {f : Hp → Option β} (F : Fe A B h hc) (hA : ∀ y, B d y) (kk : ∀ h1, Fe A B h h1 → Feo A B h π (f h1)) : Feo A B h π (lt1 (cpJ hc s sp d dp n) f) :=
  kk _ (F.tr ⟨⟨rfl, rfl, rfl⟩, fun _ _ _ => rfl, fun x y hx => cpy_ne (fun z => hx (by rw [z]; exact hA y))⟩)
theorem fe_b1 {X : Option Hp} {f : Hp → Option β} (F : Fe A B h hc) (e : Feo A' B' hc id X) (iA : ∀ x k, A' x k → A x k) (iB : ∀ x k, B' x k → B x k) (kk : ∀ h1, Fe A B h h1 → Feo A B h π (f h1)) : Feo A B h π (b1 X f) := by
  cases hX : X with
  | none => exact fe_no
  | some o => exact kk o (F.tr ((e o hX).mono iA iB))
theorem fe_b2 {X : Option (α × Hp)} {f : α → Hp → Option β} (F : Fe A B h hc) (e : Feo A' B' hc Prod.snd X) (iA : ∀ x k, A' x k → A x k) (iB : ∀ x k, B' x k → B x k) (kk : ∀ r h1, Fe A B h h1 → Feo A B h π (f r h1)) : Feo A B h π (b2 X f) := by
  cases hX : X with
  | none => exact fe_no
  | some o => exact kk o.1 o.2 (F.tr ((e o hX).mono iA iB))
theorem fe_j (F : Fe A B h hc) (e : Feo A' B' hc π X) (iA : ∀ x k, A' x k → A x k) (iB : ∀ x k, B' x k → B x k) : Feo A B h π X := fun o hX => F.tr ((e o hX).mono iA iB)
end
