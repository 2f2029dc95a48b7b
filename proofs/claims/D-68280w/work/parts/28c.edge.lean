-- uses: 28b
/-! reading: the ranges of an acknowledgement, the model's edge -/
/-- range i: its greatest number, its least, and where the next number stands -/
def eS (B : Nat → Int) (A : Int) (p0 : Nat) : Nat → Int × Int × Nat
  | 0 => (A, A - nvl B p0, p0 + nsz B p0)
  | i + 1 => ((eS B A p0 i).2.1 - nvl B (eS B A p0 i).2.2 - 2, (eS B A p0 i).2.1 - nvl B (eS B A p0 i).2.2 - 2 - nvl B ((eS B A p0 i).2.2 + nsz B (eS B A p0 i).2.2), (eS B A p0 i).2.2 + nsz B (eS B A p0 i).2.2 + nsz B ((eS B A p0 i).2.2 + nsz B (eS B A p0 i).2.2))
def eTop (B : Nat → Int) (A : Int) (p0 i : Nat) : Int := (eS B A p0 i).1
def eBot (B : Nat → Int) (A : Int) (p0 i : Nat) : Int := (eS B A p0 i).2.1
def ePos (B : Nat → Int) (A : Int) (p0 i : Nat) : Nat := (eS B A p0 i).2.2
def eOk (B : Nat → Int) (A : Int) (p0 : Nat) : Nat → Bool
  | 0 => decide (0 ≤ eBot B A p0 0)
  | i + 1 => eOk B A p0 i && decide (0 ≤ eBot B A p0 (i + 1))
section
variable {B : Nat → Int} {A : Int} {p0 : Nat}
theorem eTop_s (i : Nat) : eTop B A p0 (i + 1) = eBot B A p0 i - nvl B (ePos B A p0 i) - 2 := rfl
theorem eBot_s (i : Nat) : eBot B A p0 (i + 1) = eTop B A p0 (i + 1) - nvl B (ePos B A p0 i + nsz B (ePos B A p0 i)) := rfl
theorem ePos_s (i : Nat) : ePos B A p0 (i + 1) = ePos B A p0 i + nsz B (ePos B A p0 i) + nsz B (ePos B A p0 i + nsz B (ePos B A p0 i)) := rfl
theorem eTop_0 : eTop B A p0 0 = A := rfl
theorem eBot_0 : eBot B A p0 0 = A - nvl B p0 := rfl
theorem ePos_0 : ePos B A p0 0 = p0 + nsz B p0 := rfl
theorem nvl_lt (B : Nat → Int) (p : Nat) : 0 ≤ nvl B p ∧ nvl B p < 4611686018427387904 := by
  unfold nvl
  generalize w64 (be B p (nsz B p)) = x
  split
  · omega
  · split
    · omega
    · split <;> omega
theorem ePos_mono {i j : Nat} (h : i ≤ j) : ePos B A p0 i ≤ ePos B A p0 j := by
  induction j with
  | zero => rw [Nat.le_zero.mp h]; exact Nat.le_refl _
  | succ j ih =>
    by_cases g : i = j + 1
    · rw [g]; exact Nat.le_refl _
    · have := ih (by omega)
      rw [ePos_s]; omega
theorem eOk_le {i j : Nat} (h : i ≤ j) (k : eOk B A p0 j = true) : eOk B A p0 i = true := by
  induction j with
  | zero => rw [Nat.le_zero.mp h]; exact k
  | succ j ih =>
    by_cases g : i = j + 1
    · rw [g]; exact k
    · refine ih (by omega) ?_
      unfold eOk at k
      simp only [Bool.and_eq_true] at k
      exact k.1
theorem eOk_bot {i : Nat} (k : eOk B A p0 i = true) : 0 ≤ eBot B A p0 i := by
  cases i with
  | zero => simpa [eOk] using k
  | succ i => unfold eOk at k; simp only [Bool.and_eq_true, decide_eq_true_eq] at k; exact k.2
theorem eTop_lt (hA : 0 ≤ A ∧ A < 4611686018427387904) : ∀ i : Nat, eTop B A p0 i < 4611686018427387904 ∧ (0 ≤ eBot B A p0 i → eBot B A p0 i ≤ eTop B A p0 i ∧ eBot B A p0 i < 4611686018427387904)
  | 0 => by rw [eTop_0, eBot_0]; have := nvl_lt B p0; omega
  | i + 1 => by
    have h1 := eTop_lt hA i
    have n1 := nvl_lt B (ePos B A p0 i)
    have n2 := nvl_lt B (ePos B A p0 i + nsz B (ePos B A p0 i))
    rw [eBot_s, eTop_s]
    have hb : eBot B A p0 i ≤ eTop B A p0 i := by cases i with
      | zero => rw [eTop_0, eBot_0]; have := nvl_lt B p0; omega
      | succ i => rw [eBot_s]; have := nvl_lt B (ePos B A p0 i + nsz B (ePos B A p0 i)); omega
    omega
theorem eBot_le (i : Nat) : eBot B A p0 i ≤ eTop B A p0 i := by
  cases i with
  | zero => rw [eTop_0, eBot_0]; have := nvl_lt B p0; omega
  | succ i => rw [eBot_s]; have := nvl_lt B (ePos B A p0 i + nsz B (ePos B A p0 i)); omega
end
section
variable {h : Hp} {w r at_ e : Nat} {b : Bool} {B : Nat → Int}
theorem nB_f {p : Nat} (hp : p + nsz B p ≤ e) : nB B p e false = false := by
  have := nsz_pos B p
  unfold nB; simp; omega
theorem nA_f {p : Nat} (hp : p + nsz B p ≤ e) : nA B p e false = p + nsz B p := by unfold nA; rw [nB_f hp]; rfl
theorem nV_f {p : Nat} (hp : p + nsz B p ≤ e) : nV B p e false = nvl B p := by unfold nV; rw [nB_f hp]; rfl
theorem BRm.adv (hB : BRm h r e B) (hr : w ≠ r) {x : Nat} : BRm (adv h w x b) r e B := fun j hj => ⟨(hB j hj).1, by rw [hI_adv, if_neg (by omega), if_neg (by omega)]; exact (hB j hj).2⟩
theorem BRc.adv (hB : BRc h r e B) (hr : w ≠ r) {x : Nat} : BRc (adv h w x b) r e B := fun j hj => by rw [hI_adv, if_neg (by omega), if_neg (by omega)]; exact hB j hj
theorem m_edgeL (R : RD h w r at_ e b) (hB : BRm h r e B) {A : Int} {p0 k : Nat} (hA : 0 ≤ A ∧ A < 4611686018427387904) (hk : k < 1000000) (hp : ePos B A p0 k ≤ e) {g : Int} {bk : Nat} (f : Nat) : ∀ (i : Nat) (bot : Int) (q : Nat), i ≤ k → k - i < f → (0 ≤ bot → eOk B A p0 i = true ∧ bot = eBot B A p0 i ∧ q = ePos B A p0 i) → (bot < 0 → eOk B A p0 i = false) → f_mWire_edge_b33_lp f w (k : Int) g (bk : Int) (eTop B A p0 i) bot (i : Int) (adv h w q false) = some (if eOk B A p0 k then (if g = 0 then eBot B A p0 k else eTop B A p0 k) else -1, adv h w bk false) := by
  induction f with
  | zero => intro i _ _ _ hf; lia
  | succ f ih =>
    intro i bot q hi hf h1 h2
    have hr := R.1.2.2
    show f_mWire_edge_b33 (f_mWire_edge_b33_lp f) w (k : Int) g (bk : Int) (eTop B A p0 i) bot (i : Int) (adv h w q false) = _
    unfold f_mWire_edge_b33 f_mWire_edge_b87 f_mWire_edge_b79
    simp only [lt1_eq, adv_at]
    by_cases c0 : bot < 0
    · have n1 : eOk B A p0 k ≠ true := fun z => by rw [eOk_le hi z] at h2; exact absurd (h2 c0) (by decide)
      have e1 : ¬ (0 ≤ bot) := by lia
      rw [if_neg n1, if_neg e1, if_pos c0]
      split <;> rfl
    · obtain ⟨o1, rfl, rfl⟩ := h1 (by lia)
      by_cases c1 : (k : Int) ≤ i
      · have : i = k := by lia
        subst this
        rw [if_pos c1, if_pos o1, if_pos (by lia)]
        by_cases c2 : g = 0
        · rw [if_pos c2, if_pos c2]
        · rw [if_neg c2, if_neg c2]
      · rw [if_neg c1, if_neg c0]
        have pm : ePos B A p0 (i + 1) ≤ e := Nat.le_trans (ePos_mono (by lia)) hp
        rw [ePos_s] at pm
        have s1 := nsz_pos B (ePos B A p0 i)
        have s2 := nsz_pos B (ePos B A p0 i + nsz B (ePos B A p0 i))
        have R1 := R.adv (at' := ePos B A p0 i) (b' := false) (by lia)
        have B1 := hB.adv (b := false) hr (x := ePos B A p0 i)
        rw [m_number R1 B1, b2_some, nA_f (by lia), nB_f (by lia), nV_f (by lia), adv_adv]
        have tl := eTop_lt (B := B) (p0 := p0) hA i
        have bt := eOk_bot o1
        have tl2 := tl.2 bt
        have v1 := nvl_lt B (ePos B A p0 i)
        have v2 := nvl_lt B (ePos B A p0 i + nsz B (ePos B A p0 i))
        have w1 : w64 (eBot B A p0 i - nvl B (ePos B A p0 i)) = eBot B A p0 i - nvl B (ePos B A p0 i) := w64_id ⟨by lia, by lia⟩
        have w2 : w64 (eBot B A p0 i - nvl B (ePos B A p0 i) - 2) = eTop B A p0 (i + 1) := by rw [eTop_s]; exact w64_id ⟨by lia, by lia⟩
        have k1 : w32 ((i : Int) + 1) = ((i + 1 : Nat) : Int) := w_k1 (by lia)
        rw [w1, w2, k1]
        by_cases c3 : 0 ≤ eTop B A p0 (i + 1)
        · have R2 := R.adv (at' := ePos B A p0 i + nsz B (ePos B A p0 i)) (b' := false) (by lia)
          have B2 := hB.adv (b := false) hr (x := ePos B A p0 i + nsz B (ePos B A p0 i))
          rw [if_pos c3, m_number R2 B2, b2_some, nA_f (by lia), nB_f (by lia), nV_f (by lia), adv_adv]
          have w3 : w64 (eTop B A p0 (i + 1) - nvl B (ePos B A p0 i + nsz B (ePos B A p0 i))) = eBot B A p0 (i + 1) := by rw [eBot_s]; refine w64_id ⟨by lia, ?_⟩; have := (eTop_lt (B := B) (p0 := p0) hA (i + 1)).1; lia
          rw [w3, ← ePos_s]
          refine ih (i + 1) _ _ (by lia) (by lia) (fun z => ⟨?_, rfl, rfl⟩) (fun z => ?_)
          · unfold eOk; simp only [Bool.and_eq_true, decide_eq_true_eq]; exact ⟨o1, z⟩
          · unfold eOk; simp only [Bool.and_eq_false_iff, decide_eq_false_iff_not]; right; lia
        · rw [if_neg c3]
          refine ih (i + 1) _ _ (by lia) (by lia) (fun z => absurd z (by decide)) (fun z => ?_)
          unfold eOk; simp only [Bool.and_eq_false_iff, decide_eq_false_iff_not]; right
          have := eBot_le (B := B) (A := A) (p0 := p0) (i + 1); lia
theorem m_edge (R : RD h w r at_ e false) (hB : BRm h r e B) {A : Int} {p0 k : Nat} (hf : hR h w 5 = w + 1) (hl : ln h (w + 1) = 4) (hA : 0 ≤ A ∧ A < 4611686018427387904) (h9 : hI h w 9 = (p0 : Int)) (hj : hJ h (w + 1) 0 = A) (hk : k < 1000000) (hp : ePos B A p0 k ≤ e) (g : Int) : f_mWire_edge w (k : Int) g h = some (if eOk B A p0 k then (if g = 0 then eBot B A p0 k else eTop B A p0 k) else -1, h) := by
  unfold f_mWire_edge
  have hr := R.1.2.2
  have p1 : p0 + nsz B p0 ≤ e := Nat.le_trans (by rw [← ePos_0 (A := A)]; exact ePos_mono (Nat.zero_le _)) hp
  have sz := nsz_pos B p0
  have e0 : sI h w 1 (p0 : Int) = adv h w p0 false := by unfold adv; rw [sI_id R.2.2.2.2.1]
  have t0 : Int.toNat 0 = 0 := rfl
  have R1 := R.adv (at' := p0) (b' := false) (by lia)
  have B1 := hB.adv (b := false) hr (x := p0)
  rw [lt1_eq, lt1_eq, h9, e0, hR_adv, hf, if_neg (by lia), ln_adv, hl, if_pos (by decide), lt1_eq, hJ_adv, t0, hj, m_number R1 B1, b2_some, nA_f p1, nB_f p1, nV_f p1, adv_adv, lt1_eq, R.2.2.1]
  have v1 := nvl_lt B p0
  have w1 : w64 (A - nvl B p0) = eBot B A p0 0 := w64_id ⟨by lia, by lia⟩
  rw [w1]
  have := m_edgeL R hB hA hk hp (g := g) (bk := at_) FU 0 (eBot B A p0 0) (ePos B A p0 0) (by lia) (by unfold FU; lia) (fun z => ⟨by unfold eOk; simpa using z, rfl, rfl⟩) (fun z => by unfold eOk; simpa using z)
  rw [adv_id' R] at this
  exact this
end
