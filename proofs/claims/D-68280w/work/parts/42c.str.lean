/-! streams: what always holds of their numbers -/
abbrev MST : Int := 4611686018427387903
def zCo (x : HSt) (i : Nat) : Int := if zP x 10 i = 4 then zP x 14 i else zP x 11 i
/-- how many streams of a stream's kind are there -/
def zOT (s : Nat) (x : HSt) (i : Nat) : Int := if i % 2 = s then zQ x (10 + 10 * (i / 2 % 2)) else zQ x (11 + 10 * (i / 2 % 2))
/-- of one stream: its numbers, marks, places, what came; how many of its kind are there, how much is written in all -/
def SVx (s : Nat) (x : HSt) (i : Nat) : Prop :=
  ((zP x 0 i = 0 ∨ zP x 0 i = 1) ∧ (zP x 0 i = 1 ↔ ((i / 4 : Nat) : Int) < zOT s x i)) ∧
  (¬ (zP x 0 i = 1 ∧ zSd s i) → (zP x 1 i = 0 ∧ zP x 2 i = 0 ∧ zP x 3 i = 0 ∧ zP x 4 i = 0 ∧ zP x 6 i = 0 ∧ zP x 7 i = -1 ∧ zP x 8 i = 0)) ∧
  (¬ (zP x 0 i = 1 ∧ zRc s i) → (zP x 10 i = 0 ∧ zP x 11 i = 0 ∧ zP x 12 i = 0 ∧ zP x 13 i = 0 ∧ zP x 14 i = -1 ∧ zP x 16 i = 0 ∧ zP x 17 i = 0 ∧ zP x 18 i = 0 ∧ zP x 19 i = 0 ∧ zP x 20 i = 0)) ∧
  ((0 ≤ zP x 3 i ∧ zP x 3 i ≤ zP x 2 i ∧ zP x 2 i ≤ 65536) ∧ (0 ≤ zP x 1 i ∧ zP x 1 i ≤ 4) ∧ (0 ≤ zP x 4 i ∧ zP x 4 i ≤ 4) ∧ (0 ≤ zP x 5 i ∧ zP x 5 i ≤ MST) ∧ (0 ≤ zP x 6 i ∧ zP x 6 i ≤ MST) ∧ -1 ≤ zP x 7 i ∧ (zP x 8 i = 0 ∨ zP x 8 i = 1)) ∧
  ((zP x 1 i = 0 → zP x 4 i = 0) ∧ (zP x 1 i = 1 → zP x 4 i ≠ 0 ∧ ¬ (zP x 4 i = 4 ∧ ctV (zM x i) 3 (zP x 2 i).toNat = zP x 2 i)) ∧ (zP x 1 i = 2 → zP x 4 i = 4 ∧ ctV (zM x i) 3 (zP x 2 i).toNat = zP x 2 i) ∧ (zP x 1 i < 3 → zP x 6 i = 0)) ∧
  (∀ j : Nat, 0 ≤ zM x i j ∧ zM x i j ≤ 3 ∧ (zM x i j = 0 ↔ zP x 3 i ≤ j)) ∧
  ((0 ≤ zP x 11 i ∧ zP x 11 i ≤ zP x 12 i ∧ zP x 12 i ≤ zP x 13 i ∧ zP x 13 i ≤ 65536) ∧ (0 ≤ zP x 15 i ∧ zP x 15 i ≤ 65536) ∧ (zP x 0 i = 1 ∧ zRc s i → zP x 13 i ≤ zP x 15 i) ∧ (-1 ≤ zP x 14 i ∧ zP x 14 i ≤ 65536 ∧ (0 ≤ zP x 14 i → zP x 13 i ≤ zP x 14 i)) ∧ (0 ≤ zP x 16 i ∧ zP x 16 i ≤ MST) ∧ (0 ≤ zP x 17 i ∧ zP x 17 i ≤ MST) ∧ (zP x 18 i = 0 ∨ zP x 18 i = 1) ∧ (zP x 19 i = 0 ∨ zP x 19 i = 1) ∧ (zP x 20 i = 0 ∨ zP x 20 i = 1)) ∧
  ((zP x 10 i = 4 → zP x 14 i = zP x 13 i) ∧ (zP x 10 i ≠ 4 → zP x 10 i = zRs (zP x 14 i) (zP x 11 i) (zP x 12 i) ∧ zP x 16 i = 0)) ∧
  ((∀ q, q < (zP x 12 i).toNat → zH x i q) ∧ ¬ zH x i (zP x 12 i).toNat ∧ ∀ q : Nat, zH x i q → (q : Int) < zP x 13 i) ∧
  ∀ j, j < (zP x 2 i).toNat → zE x i j < (zQ x 9).toNat
/-- of streams of both ways, of one way -/
def HVw (x : HSt) (w : Nat) : Prop := (0 ≤ zQ x (10 + 10 * w) ∧ zQ x (10 + 10 * w) ≤ zQ x (13 + 10 * w) ∧ zQ x (13 + 10 * w) ≤ 64) ∧ (0 ≤ zQ x (11 + 10 * w) ∧ zQ x (11 + 10 * w) ≤ zQ x (12 + 10 * w) ∧ zQ x (12 + 10 * w) ≤ 64) ∧ ((zQ x (14 + 10 * w) = 0 ∨ zQ x (14 + 10 * w) = 1) ∧ (zQ x (14 + 10 * w) = 1 → zQ x (13 + 10 * w) ≤ zQ x (10 + 10 * w))) ∧ -1 ≤ zQ x (15 + 10 * w) ∧ (zQ x (16 + 10 * w) = 0 ∨ zQ x (16 + 10 * w) = 1)
def HVq (x : HSt) : Prop :=
  ((0 ≤ zQ x 1 ∧ zQ x 1 ≤ MST) ∧ -1 ≤ zQ x 2 ∧ zQ x 3 = sm (zP x 3) 256 ∧ (zQ x 4 = sm (zP x 13) 256 ∧ zQ x 4 ≤ zQ x 6 ∧ zQ x 6 ≤ 65536) ∧ zQ x 5 = sm (zCo x) 256 ∧ (0 ≤ zQ x 7 ∧ zQ x 7 < 256) ∧ (zQ x 8 = 0 ∨ zQ x 8 = 1) ∧ (zQ x 9 = sm (zP x 2) 256 ∧ zQ x 9 ≤ 65536) ∧ 0 ≤ zQ x 50) ∧
  ((0 ≤ zQ x 30 ∧ zQ x 30 ≤ 65536) ∧ (0 ≤ zQ x 31 ∧ zQ x 31 ≤ 65536) ∧ (0 ≤ zQ x 32 ∧ zQ x 32 ≤ 65536) ∧ (0 ≤ zQ x 33 ∧ zQ x 33 ≤ 65536) ∧ (0 ≤ zQ x 34 ∧ zQ x 34 ≤ 64) ∧ (0 ≤ zQ x 35 ∧ zQ x 35 ≤ 64)) ∧
  ((0 ≤ zQ x 41 ∧ zQ x 41 ≤ MST) ∧ (0 ≤ zQ x 42 ∧ zQ x 42 ≤ MST) ∧ (0 ≤ zQ x 43 ∧ zQ x 43 ≤ MST)) ∧ HVw x 0 ∧ HVw x 1
/-- bytes of two places do not lie at one -/
def HVe (x : HSt) : Prop := ∀ i i' j j', i < 256 → i' < 256 → j < (zP x 2 i).toNat → j' < (zP x 2 i').toNat → zE x i j = zE x i' j' → i = i' ∧ j = j'
def HV (s : Nat) (x : HSt) : Prop := s < 2 ∧ HVq x ∧ (∀ i, i < 256 → SVx s x i) ∧ HVe x
section
variable {s i : Nat} {x y : HSt}
theorem HV.S (V : HV s x) (hi : i < 256) : SVx s x i := V.2.2.1 i hi
theorem HV.sent (V : HV s x) : 0 ≤ zQ x 3 ∧ zQ x 3 ≤ 65536 := by
  rw [V.2.1.1.2.2.1]
  refine ⟨sm_0 (fun i hi => (V.S hi).2.2.2.1.1.1), ?_⟩
  have h1 := sm_le (f := zP x 3) (g := zP x 2) (n := 256) (fun i hi => (V.S hi).2.2.2.1.1.2.1)
  have h2 := V.2.1.1.2.2.2.2.2.2.2.1
  omega
theorem HV.rec (V : HV s x) : 0 ≤ zQ x 4 ∧ zQ x 4 ≤ 65536 := by
  have h2 := V.2.1.1.2.2.2.1
  have h3 := sm_0 (f := zP x 13) (n := 256) (fun i hi => by have := (V.S hi).2.2.2.2.2.2.1.1; omega)
  omega
theorem HV.used (V : HV s x) : 0 ≤ zQ x 9 ∧ zQ x 9 ≤ 65536 := by
  have h2 := V.2.1.1.2.2.2.2.2.2.2.1
  have h3 := sm_0 (f := zP x 2) (n := 256) (fun i hi => by have := (V.S hi).2.2.2.1.1; omega)
  omega
theorem SV.co (V : HV s x) (hi : i < 256) : 0 ≤ zCo x i ∧ zCo x i ≤ zP x 13 i := by
  obtain ⟨_, _, _, _, _, _, v6, v7, _, _⟩ := V.S hi
  unfold zCo
  by_cases c : zP x 10 i = 4
  · rw [if_pos c]
    have := v7.1 c
    omega
  · rw [if_neg c]
    omega
theorem HV.con (V : HV s x) : 0 ≤ zQ x 5 ∧ zQ x 5 ≤ 65536 := by
  have h2 := V.2.1.1.2.2.2.2.1
  have h3 := sm_0 (f := zCo x) (n := 256) (fun i hi => (SV.co V hi).1)
  have h4 := sm_le (f := zCo x) (g := zP x 13) (n := 256) (fun i hi => (SV.co V hi).2)
  have h5 := V.2.1.1.2.2.2.1
  have := V.rec
  omega
theorem HV.w (V : HV s x) (i : Nat) : HVw x (i / 2 % 2) := by
  obtain ⟨_, _, _, w0, w1⟩ := V.2.1
  rcases (show i / 2 % 2 = 0 ∨ i / 2 % 2 = 1 by omega) with e | e
  · rw [e]; exact w0
  · rw [e]; exact w1
theorem HV.gr (V : HV s x) (i : Nat) : 0 ≤ zGr s x i ∧ zGr s x i ≤ 65536 := by
  obtain ⟨_, ⟨_, g1, g2, g3, _⟩, _⟩ := V.2.1
  unfold zGr
  split
  · exact g3
  · split
    · exact g1
    · exact g2
theorem HV.li (V : HV s x) (i : Nat) : 0 ≤ zLi s x i ∧ zLi s x i ≤ MST := by
  obtain ⟨_, _, ⟨g1, g2, g3⟩, _⟩ := V.2.1
  unfold zLi
  split
  · exact g3
  · split
    · exact g2
    · exact g1
/-- one stream is another -/
theorem HV.one (V : HV s x) (hi : i < 256) (q : HVq y) (ot : ∀ j, j < 256 → j ≠ i → zOT s y j = zOT s x j) (u : zQ x 9 ≤ zQ y 9) (e : ∀ j, j < 256 → j ≠ i → (∀ f, zP y f j = zP x f j) ∧ zM y j = zM x j ∧ zE y j = zE x j ∧ zH y j = zH x j) (v : SVx s y i) (ve : HVe y) : HV s y := by
  refine ⟨V.1, q, fun j hj => ?_, ve⟩
  by_cases c : j = i
  · rw [c]; exact v
  · obtain ⟨e1, e2, e3, e4⟩ := e j hj c
    unfold SVx
    simp only [e1, e2, e3, e4, ot j hj c]
    obtain ⟨v1, v2, v3, v4, v5, v6, v7, v8, v9, v10⟩ := V.S hj
    exact ⟨v1, v2, v3, v4, v5, v6, v7, v8, v9, fun k hk => by have := v10 k hk; omega⟩
theorem HVe.cg (E : HVe x) (e : ∀ j, j < 256 → zP y 2 j = zP x 2 j ∧ zE y j = zE x j) : HVe y := fun i i' j j' hi hi' hj hj' z => by
  rw [(e i hi).1] at hj
  rw [(e i' hi').1] at hj'
  rw [(e i hi).2, (e i' hi').2] at z
  exact E i i' j j' hi hi' hj hj' z
end
