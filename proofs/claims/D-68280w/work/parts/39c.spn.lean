/-! spans: chains of ranges as lists of nodes -/
/-- from c along l to the end; from c along l to c' -/
def ChP (X : Nat → Int) : Int → List Nat → Int → Prop
  | c, [], c' => c = c'
  | c, k :: l, c' => c = (k : Int) ∧ ChP X (X k) l c'
abbrev ChX (X : Nat → Int) (c : Int) (l : List Nat) : Prop := ChP X c l (-1)
/-- ranges by rising places, with gaps between, the first behind lo -/
def RnL (F T : Nat → Int) : Int → List Nat → Prop
  | _, [] => True
  | lo, k :: l => lo < F k ∧ F k < T k ∧ RnL F T (T k) l
def inS (F T : Nat → Int) (l : List Nat) (j : Int) : Prop := ∃ k, k ∈ l ∧ F k ≤ j ∧ j < T k
/-- where the last range ends -/
def enR (T : Nat → Int) : Int → List Nat → Int
  | lo, [] => lo
  | _, k :: l => enR T (T k) l
section
variable {F T X F' T' X' : Nat → Int} {c c' c'' lo a b v : Int} {l l1 l2 : List Nat} {k n : Nat}
theorem ChP.app (A : ChP X c l1 c') (B : ChP X c' l2 c'') : ChP X c (l1 ++ l2) c'' := by
  induction l1 generalizing c with
  | nil => rw [show c = c' from A]; exact B
  | cons k l ih => exact ⟨A.1, ih A.2⟩
theorem ChP.cg (A : ChP X c l c') (e : ∀ k, k ∈ l → X' k = X k) : ChP X' c l c' := by
  induction l generalizing c with
  | nil => exact A
  | cons k l ih =>
    refine ⟨A.1, ?_⟩
    rw [e k (List.mem_cons_self)]
    exact ih A.2 (fun j hj => e j (List.mem_cons_of_mem _ hj))
theorem ChP.up (A : ChP X c l c') (h : k ∉ l) : ChP (up1 X k v) c l c' := A.cg (fun j hj => up1_ne (fun z => h (by rw [← z]; exact hj)))
/-- the last node is led elsewhere -/
theorem ChP.set (A : ChP X c (l ++ [k]) c') (h : k ∉ l) : ChP (up1 X k v) c (l ++ [k]) v := by
  induction l generalizing c with
  | nil => exact ⟨A.1, by show up1 X k v k = v; exact up1_eq⟩
  | cons j l ih =>
    have hj : j ≠ k := fun z => h (by rw [z]; exact List.mem_cons_self)
    refine ⟨A.1, ?_⟩
    rw [up1_ne hj]
    exact ih A.2 (fun z => h (List.mem_cons_of_mem _ z))
theorem RnL.cg (R : RnL F T lo l) (e : ∀ k, k ∈ l → F' k = F k ∧ T' k = T k) : RnL F' T' lo l := by
  induction l generalizing lo with
  | nil => trivial
  | cons k l ih =>
    obtain ⟨r1, r2, r3⟩ := R
    have ek := e k List.mem_cons_self
    refine ⟨by rw [ek.1]; exact r1, by rw [ek.1, ek.2]; exact r2, ?_⟩
    rw [ek.2]
    exact ih r3 (fun j hj => e j (List.mem_cons_of_mem _ hj))
theorem RnL.dn {lo' : Int} (R : RnL F T lo l) (h : lo' ≤ lo) : RnL F T lo' l := by
  cases l with
  | nil => trivial
  | cons k l => exact ⟨by have := R.1; omega, R.2⟩
theorem RnL.app : RnL F T lo (l1 ++ l2) ↔ RnL F T lo l1 ∧ RnL F T (enR T lo l1) l2 := by
  induction l1 generalizing lo with
  | nil => exact ⟨fun z => ⟨trivial, z⟩, fun z => z.2⟩
  | cons k l ih =>
    show (lo < F k ∧ F k < T k ∧ RnL F T (T k) (l ++ l2)) ↔ (lo < F k ∧ F k < T k ∧ RnL F T (T k) l) ∧ RnL F T (enR T (T k) l) l2
    rw [ih]
    exact ⟨fun ⟨a, b, c, d⟩ => ⟨⟨a, b, c⟩, d⟩, fun ⟨⟨a, b, c⟩, d⟩ => ⟨a, b, c, d⟩⟩
theorem RnL.le (R : RnL F T lo l) : ∀ k, k ∈ l → lo < F k ∧ F k < T k ∧ T k ≤ enR T lo l := by
  induction l generalizing lo with
  | nil => intro k h; cases h
  | cons j l ih =>
    obtain ⟨r1, r2, r3⟩ := R
    have q : T j ≤ enR T (T j) l := by
      cases hl : l with
      | nil => exact Int.le_refl _
      | cons i l' =>
        rw [hl] at ih r3
        have := ih r3 i List.mem_cons_self
        show T j ≤ enR T (T j) (i :: l')
        omega
    intro k h
    rcases List.mem_cons.1 h with z | z
    · rw [z]; exact ⟨r1, r2, q⟩
    · have := ih r3 k z
      exact ⟨by omega, this.2.1, this.2.2⟩
theorem enR_ge (R : RnL F T lo l) : lo ≤ enR T lo l := by
  cases hl : l with
  | nil => exact Int.le_refl _
  | cons k l' =>
    rw [hl] at R
    have := R.le k List.mem_cons_self
    omega
theorem enR_cg (e : ∀ k, k ∈ l → T' k = T k) : enR T' lo l = enR T lo l := by
  induction l generalizing lo with
  | nil => rfl
  | cons k l ih =>
    show enR T' (T' k) l = enR T (T k) l
    rw [e k List.mem_cons_self]
    exact ih (fun j hj => e j (List.mem_cons_of_mem _ hj))
theorem inS_app {j : Int} : inS F T (l1 ++ l2) j ↔ inS F T l1 j ∨ inS F T l2 j := by
  constructor
  · rintro ⟨k, h, q⟩
    rcases List.mem_append.1 h with z | z
    · exact Or.inl ⟨k, z, q⟩
    · exact Or.inr ⟨k, z, q⟩
  · rintro (⟨k, h, q⟩ | ⟨k, h, q⟩)
    · exact ⟨k, List.mem_append.2 (Or.inl h), q⟩
    · exact ⟨k, List.mem_append.2 (Or.inr h), q⟩
theorem inS_cons {j : Int} : inS F T (k :: l) j ↔ (F k ≤ j ∧ j < T k) ∨ inS F T l j := by
  constructor
  · rintro ⟨i, h, q⟩
    rcases List.mem_cons.1 h with z | z
    · rw [z] at q; exact Or.inl q
    · exact Or.inr ⟨i, z, q⟩
  · rintro (q | ⟨i, h, q⟩)
    · exact ⟨k, List.mem_cons_self, q⟩
    · exact ⟨i, List.mem_cons_of_mem _ h, q⟩
theorem inS_nil {j : Int} : ¬ inS F T [] j := by rintro ⟨k, h, _⟩; cases h
theorem inS_cg {j : Int} (e : ∀ k, k ∈ l → F' k = F k ∧ T' k = T k) : inS F' T' l j ↔ inS F T l j := by
  constructor
  · rintro ⟨k, h, q⟩; rw [(e k h).1, (e k h).2] at q; exact ⟨k, h, q⟩
  · rintro ⟨k, h, q⟩; rw [← (e k h).1, ← (e k h).2] at q; exact ⟨k, h, q⟩
/-- how many ranges there can be below w -/
theorem RnL.len {w : Int} (R : RnL F T lo l) (h : ∀ k, k ∈ l → T k ≤ w) (h0 : lo ≤ w) : 2 * (l.length : Int) ≤ w - lo := by
  induction l generalizing lo with
  | nil => show 2 * ((0 : Nat) : Int) ≤ w - lo; omega
  | cons k l ih =>
    obtain ⟨r1, r2, r3⟩ := R
    have hk := h k List.mem_cons_self
    have := ih r3 (fun j hj => h j (List.mem_cons_of_mem _ hj)) hk
    rw [List.length_cons]; omega
theorem ch_nil (C : ChX X c l) (h : c = -1) : l = [] := by
  cases l with
  | nil => rfl
  | cons k l => have := C.1; omega
end
