/-! WEAKEST PRECONDITIONS of pure expressions, reads over writes -/
def wp {α : Type} (x : Option α) (Q : α → Prop) : Prop := ∃ a, x = some a ∧ Q a
section
variable {α β : Type} {Q : α → Prop} {x y : Option α} {c : Prop}
theorem wp_none : wp (none : Option α) Q ↔ False := ⟨fun ⟨_, h, _⟩ => (by cases h), fun h => h.elim⟩
theorem wp_some {a : α} : wp (some a) Q ↔ Q a := ⟨fun ⟨_, h, q⟩ => (by cases h; exact q), fun q => ⟨a, rfl, q⟩⟩
theorem wp_lt1 {e : β} {f : β → Option α} : wp (lt1 e f) Q ↔ wp (f e) Q := Iff.rfl
theorem wp_b1 {x : Option β} {f : β → Option α} : wp (b1 x f) Q ↔ wp x (fun a => wp (f a) Q) := by
  cases x with
  | none => exact ⟨fun ⟨_, h, _⟩ => (by cases h), fun ⟨_, h, _⟩ => (by cases h)⟩
  | some a => exact (wp_some (Q := fun a => wp (f a) Q)).symm
theorem wp_b2 {x : Option (β × Hp)} {f : β → Hp → Option α} : wp (b2 x f) Q ↔ wp x (fun a => wp (f a.1 a.2) Q) := by
  cases x with
  | none => exact ⟨fun ⟨_, h, _⟩ => (by cases h), fun ⟨_, h, _⟩ => (by cases h)⟩
  | some a => exact (wp_some (Q := fun a : β × Hp => wp (f a.1 a.2) Q)).symm
theorem wp_if [Decidable c] : wp (if c then x else y) Q ↔ (c → wp x Q) ∧ (¬ c → wp y Q) := by
  by_cases h : c
  · rw [if_pos h]; exact ⟨fun q => ⟨fun _ => q, fun z => absurd h z⟩, fun q => q.1 h⟩
  · rw [if_neg h]; exact ⟨fun q => ⟨fun z => absurd z h, fun _ => q⟩, fun q => q.2 h⟩
theorem wp_ck [Decidable c] : wp (if c then x else none) Q ↔ c ∧ wp x Q := by
  by_cases h : c
  · rw [if_pos h]; exact ⟨fun q => ⟨h, q⟩, fun q => q.2⟩
  · rw [if_neg h]; exact ⟨fun ⟨_, h, _⟩ => (by cases h), fun q => absurd q.1 h⟩
theorem wp_cn [Decidable c] : wp (if c then none else x) Q ↔ ¬ c ∧ wp x Q := by
  by_cases h : c
  · rw [if_pos h]; exact ⟨fun ⟨_, h, _⟩ => (by cases h), fun q => absurd h q.1⟩
  · rw [if_neg h]; exact ⟨fun q => ⟨h, q⟩, fun q => q.2⟩
theorem wp_of {Q' : α → Prop} (h : wp x Q') (k : ∀ a, x = some a → Q' a → Q a) : wp x Q := by
  obtain ⟨a, h1, h2⟩ := h; exact ⟨a, h1, k a h1 h2⟩
/-- a call: what is known of it, then the rest -/
theorem wp_b1o {x : Option β} {f : β → Option α} {Q' : β → Prop} (h : wp x Q') (k : ∀ a, x = some a → Q' a → wp (f a) Q) : wp (b1 x f) Q := wp_b1.mpr (wp_of h k)
theorem wp_b2o {x : Option (β × Hp)} {f : β → Hp → Option α} {Q' : β × Hp → Prop} (h : wp x Q') (k : ∀ r h1, x = some (r, h1) → Q' (r, h1) → wp (f r h1) Q) : wp (b2 x f) Q := wp_b2.mpr (wp_of h fun a e q => k a.1 a.2 e q)
end
section
variable {h : Hp} {a k x y l z s sp d dp n : Nat} {v : Int} {r : Nat}
theorem hI_sI : hI (sI h a k v) x y = if x = a ∧ y = k then v else hI h x y := rfl
theorem hJ_sJ : hJ (sJ h a k v) x y = if x = a ∧ y = k then v else hJ h x y := rfl
theorem hR_sR : hR (sR h a k r) x y = if x = a ∧ y = k then r else hR h x y := rfl
theorem hI_sJ : hI (sJ h a k v) x y = hI h x y := rfl
theorem hI_sR : hI (sR h a k r) x y = hI h x y := rfl
theorem hJ_sI : hJ (sI h a k v) x y = hJ h x y := rfl
theorem hJ_sR : hJ (sR h a k r) x y = hJ h x y := rfl
theorem hR_sI : hR (sI h a k v) x y = hR h x y := rfl
theorem hR_sJ : hR (sJ h a k v) x y = hR h x y := rfl
theorem ln_sI : ln (sI h a k v) x = ln h x := rfl
theorem ln_sJ : ln (sJ h a k v) x = ln h x := rfl
theorem ln_sR : ln (sR h a k r) x = ln h x := rfl
theorem kd_sI : kd (sI h a k v) x = kd h x := rfl
theorem kd_sJ : kd (sJ h a k v) x = kd h x := rfl
theorem kd_sR : kd (sR h a k r) x = kd h x := rfl
theorem hN_sI : hN (sI h a k v) = hN h := rfl
theorem hN_sJ : hN (sJ h a k v) = hN h := rfl
theorem hN_sR : hN (sR h a k r) = hN h := rfl
theorem hZ_sI : hZ (sI h a k v) = hZ h := rfl
theorem hZ_sJ : hZ (sJ h a k v) = hZ h := rfl
theorem hZ_sR : hZ (sR h a k r) = hZ h := rfl
theorem hI_nw : hI (nwC h k l z) x y = if x = hN h then 0 else hI h x y := rfl
theorem hJ_nw : hJ (nwC h k l z) x y = if x = hN h then 0 else hJ h x y := rfl
theorem hR_nw : hR (nwC h k l z) x y = if x = hN h then 0 else hR h x y := rfl
theorem hN_nw : hN (nwC h k l z) = hN h + 1 := rfl
theorem hZ_nw : hZ (nwC h k l z) = hZ h + z := rfl
theorem ln_nw' : ln (nwC h k l z) x = if x = hN h then l else ln h x := by unfold ln nwC; simp only []; split <;> rfl
theorem kd_nw' : kd (nwC h k l z) x = if x = hN h then k else kd h x := by unfold kd nwC; simp only []; split <;> rfl
theorem hI_cI : hI (cpI h s sp d dp n) x y = if x = d ∧ dp ≤ y ∧ y < dp + n then hI h s (sp + (y - dp)) else hI h x y := rfl
theorem hJ_cJ : hJ (cpJ h s sp d dp n) x y = if x = d ∧ dp ≤ y ∧ y < dp + n then hJ h s (sp + (y - dp)) else hJ h x y := rfl
theorem hJ_cI : hJ (cpI h s sp d dp n) x y = hJ h x y := rfl
theorem hI_cJ : hI (cpJ h s sp d dp n) x y = hI h x y := rfl
theorem hR_cI : hR (cpI h s sp d dp n) x y = hR h x y := rfl
theorem hR_cJ : hR (cpJ h s sp d dp n) x y = hR h x y := rfl
theorem ln_cI : ln (cpI h s sp d dp n) x = ln h x := rfl
theorem ln_cJ : ln (cpJ h s sp d dp n) x = ln h x := rfl
theorem kd_cI : kd (cpI h s sp d dp n) x = kd h x := rfl
theorem kd_cJ : kd (cpJ h s sp d dp n) x = kd h x := rfl
theorem hN_cI : hN (cpI h s sp d dp n) = hN h := rfl
theorem hN_cJ : hN (cpJ h s sp d dp n) = hN h := rfl
theorem hZ_cI : hZ (cpI h s sp d dp n) = hZ h := rfl
theorem hZ_cJ : hZ (cpJ h s sp d dp n) = hZ h := rfl
end
