/-! reading: acknowledgements of the model -/
def AKm (ho h : Hp) (w r e : Nat) (B : Nat → Int) (kind A D p0 c8 : Int) (at_ : Nat) (b : Bool) : Prop := (w + 1 ≠ r ∧ FxE ho h) ∧ (RD h w r at_ e b ∧ BRm h r e B) ∧ (hI h w 4 = kind ∧ hJ h (w + 1) 0 = A ∧ hJ h (w + 1) 1 = D ∧ hI h w 9 = p0 ∧ hI h w 8 = c8) ∧ hR h w 5 = w + 1 ∧ ln h (w + 1) = 4
section
variable {ho h : Hp} {w r e : Nat} {B : Nat → Int} {kind A D p0 c8 : Int} {at_ : Nat} {b : Bool}
theorem AKm.R (L : AKm ho h w r e B kind A D p0 c8 at_ b) : RD h w r at_ e b := L.2.1.1
theorem AKm.BR (L : AKm ho h w r e B kind A D p0 c8 at_ b) : BRm h r e B := L.2.1.2
theorem AKm.adv (L : AKm ho h w r e B kind A D p0 c8 at_ b) {p : Nat} {b' : Bool} (hp : p ≤ e) : AKm ho (adv h w p b') w r e B kind A D p0 c8 p b' := by
  obtain ⟨⟨z1, z2⟩, ⟨R, BR⟩, ⟨k0, k1, k2, k3, k4⟩, t⟩ := L
  exact ⟨⟨z1, z2⟩, ⟨R.adv hp, BR.adv R.ne⟩, ⟨by grind [hI_sI, hI_sJ, hI_sR, hI_adv, hJ_sI, hJ_sJ, hJ_sR, hJ_adv, hR_sI, hR_sJ, hR_sR, hR_adv, ln_sI, ln_sJ, ln_sR, ln_adv, bi], k1, k2, by grind [hI_sI, hI_sJ, hI_sR, hI_adv, hJ_sI, hJ_sJ, hJ_sR, hJ_adv, hR_sI, hR_sJ, hR_sR, hR_adv, ln_sI, ln_sJ, ln_sR, ln_adv, bi], by grind [hI_sI, hI_sJ, hI_sR, hI_adv, hJ_sI, hJ_sJ, hJ_sR, hJ_adv, hR_sI, hR_sJ, hR_sR, hR_adv, ln_sI, ln_sJ, ln_sR, ln_adv, bi]⟩, t⟩
theorem m_ak96 (f : Nat) : ∀ (k : Nat) (h : Hp) (s : Nat × Bool), k ≤ 3 → 3 - k < f → AKm ho h w r e B 3 A D p0 c8 s.1 s.2 → wp (f_mWire_takeAck_b96_lp f w 3 (k : Int) h) (fun h' => AKm ho h' w r e B 3 A D p0 c8 (nIt B e s (3 - k)).1 (nIt B e s (3 - k)).2) := by
  induction f with
  | zero => intro k h s _ hf; lia
  | succ f ih =>
    intro k h s hk hf L
    show wp (f_mWire_takeAck_b96 (f_mWire_takeAck_b96_lp f) w 3 (k : Int) h) _
    unfold f_mWire_takeAck_b96
    by_cases c : (3 : Int) ≤ k
    · have : k = 3 := by lia
      subst this
      rw [if_pos c, wp_some]
      exact L
    · rw [if_neg c, if_neg (by decide)]
      refine wp_b2e (m_number L.R L.BR) ?_
      rw [w_k1 (by lia)]
      have L1 := L.adv (p := nA B s.1 e s.2) (b' := nB B s.1 e s.2) (nA_le L.R.le)
      have := ih (k + 1) _ (nS B e s) (by lia) (by lia) L1
      have e1 : nIt B e s (3 - k) = nIt B e (nS B e s) (3 - (k + 1)) := by
        have : 3 - k = (3 - (k + 1)) + 1 := by lia
        rw [this]
        generalize 3 - (k + 1) = m
        induction m with
        | zero => rfl
        | succ m im => show nS B e (nIt B e s (m + 1)) = nS B e (nIt B e (nS B e s) m); rw [im]
      rw [e1]
      exact this
theorem m_ak74 {R : Nat} (L : AKm ho h w r e B kind A D p0 c8 at_ b) (hR : R < 1000000 ∨ b = true) : wp (f_mWire_takeAck_b74 w kind (R : Int) h) (fun h' => AKm ho h' w r e B kind A D p0 (if b then 0 else ((R + 1 : Nat) : Int)) (nIt B e (at_, b) (if kind = 3 then 3 else 0)).1 (nIt B e (at_, b) (if kind = 3 then 3 else 0)).2) := by
  have nz := L.R.nz
  unfold f_mWire_takeAck_b74 f_mWire_takeAck_b90
  rw [L.R.i3]
  have go : ∀ v : Int, wp (if w = 0 then none else lt1 (sI h w 8 v) fun h28 => f_mWire_takeAck_b96_lp FU w kind 0 h28) (fun h' => AKm ho h' w r e B kind A D p0 v (nIt B e (at_, b) (if kind = 3 then 3 else 0)).1 (nIt B e (at_, b) (if kind = 3 then 3 else 0)).2) := fun v => by
    rw [wp_cn]
    refine ⟨nz, ?_⟩
    rw [wp_lt1]
    have L1 : AKm ho (sI h w 8 v) w r e B kind A D p0 v at_ b := by
      obtain ⟨⟨z1, z2⟩, ⟨R, BR⟩, ⟨k0, k1, k2, k3, k4⟩, t⟩ := L
      have rn := R.rn
      exact ⟨⟨z1, z2⟩, ⟨R.sI (Or.inr (by decide)), BR.of (fun k => by grind [hI_sI, hI_sJ, hI_sR, hI_adv, hJ_sI, hJ_sJ, hJ_sR, hJ_adv, hR_sI, hR_sJ, hR_sR, hR_adv, ln_sI, ln_sJ, ln_sR, ln_adv, bi])⟩, ⟨by grind [hI_sI, hI_sJ, hI_sR, hI_adv, hJ_sI, hJ_sJ, hJ_sR, hJ_adv, hR_sI, hR_sJ, hR_sR, hR_adv, ln_sI, ln_sJ, ln_sR, ln_adv, bi], k1, k2, by grind [hI_sI, hI_sJ, hI_sR, hI_adv, hJ_sI, hJ_sJ, hJ_sR, hJ_adv, hR_sI, hR_sJ, hR_sR, hR_adv, ln_sI, ln_sJ, ln_sR, ln_adv, bi], by grind [hI_sI, hI_sJ, hI_sR, hI_adv, hJ_sI, hJ_sJ, hJ_sR, hJ_adv, hR_sI, hR_sJ, hR_sR, hR_adv, ln_sI, ln_sJ, ln_sR, ln_adv, bi]⟩, t⟩
    by_cases k3 : kind = 3
    · rw [k3] at L1 ⊢
      rw [if_pos rfl]
      exact m_ak96 FU 0 _ (at_, b) (by lia) (by unfold FU; lia) L1
    · rw [if_neg k3]
      obtain ⟨f, hf⟩ : ∃ f, FU = f + 1 := ⟨999999999, rfl⟩
      rw [hf]
      show wp (f_mWire_takeAck_b96 (f_mWire_takeAck_b96_lp f) w kind 0 (sI h w 8 v)) _
      unfold f_mWire_takeAck_b96
      rw [if_neg (by decide), if_pos k3, wp_some]
      exact L1
  cases b with
  | true =>
    rw [if_neg (by decide)]
    exact go 0
  | false =>
    have hr : R < 1000000 := by rcases hR with h | h; exact h; exact absurd h (by decide)
    have w1 : w32 (1 + w32 (R : Int)) = ((R + 1 : Nat) : Int) := by rw [w32_id (x := (R : Int)) ⟨by lia, by lia⟩, w32_id ⟨by lia, by lia⟩]; lia
    rw [if_pos (show bi false = 0 from rfl), w1]
    exact go _
theorem m_akL {q R : Nat} {zz : Prop} {Q : Hp → Prop} (he : e ≤ 1400) (hR : (R : Int) < 4611686018427387904) (kk : ∀ h' at' b', AKm ho h' w r e B kind A D p0 c8 at' b' → (b' = true → zz ∨ e < ePos B A q R) → (b' = false → ¬ zz ∧ at' = ePos B A q R) → wp (f_mWire_takeAck_b74 w kind (R : Int) h') Q) (f : Nat) : ∀ (k : Nat) (h : Hp) (at_ : Nat) (b : Bool), k ≤ R → k ≤ 1000 → 1000 - k < f → AKm ho h w r e B kind A D p0 c8 at_ b → (b = true → zz ∨ e < ePos B A q k) → (b = false → ¬ zz ∧ at_ = ePos B A q k) → wp (f_mWire_takeAck_b41_lp f w kind (R : Int) (k : Int) h) Q := by
  induction f with
  | zero => intro k h _ _ _ _ hf; lia
  | succ f ih =>
    intro k h at_ b hk hk2 hf L v2 v3
    show wp (f_mWire_takeAck_b41 (f_mWire_takeAck_b41_lp f) w kind (R : Int) (k : Int) h) Q
    unfold f_mWire_takeAck_b41
    by_cases c1 : (R : Int) ≤ k
    · have : k = R := by lia
      subst this
      rw [if_pos c1]
      exact kk h at_ b L v2 v3
    · rw [if_neg c1, L.R.i3]
      cases b with
      | true =>
        rw [if_pos (by decide)]
        exact kk h at_ true L (fun _ => (v2 rfl).imp id (fun q => Nat.lt_of_lt_of_le q (ePos_mono hk))) (fun z => absurd z (by decide))
      | false =>
        obtain ⟨a0, a1⟩ := v3 rfl
        rw [if_neg (by decide)]
        have le := L.R.le
        refine wp_b2e (m_number L.R L.BR) ?_
        have L1 := L.adv (p := nA B at_ e false) (b' := nB B at_ e false) (nA_le le)
        refine wp_b2e (m_number L1.R L1.BR) ?_
        rw [wp_lt1]
        have L2 := L1.adv (p := nA B (nA B at_ e false) e (nB B at_ e false)) (b' := nB B (nA B at_ e false) e (nB B at_ e false)) (nA_le L1.R.le)
        have w1 : w64 ((k : Int) + 1) = ((k + 1 : Nat) : Int) := by rw [w64_id ⟨by lia, by lia⟩]; lia
        rw [w1]
        have ge := ePos_ge (B := B) (A := A) (p0 := q) k
        refine ih (k + 1) _ _ _ (by lia) (by lia) (by lia) L2 (fun z => Or.inr ?_) (fun z => ⟨a0, ?_⟩)
        · rw [ePos_s, ← a1]
          rcases nB_cases (B := B) (e := e) (p := at_) le with ⟨g1, g2⟩ | ⟨g1, g2⟩
          · lia
          · rw [g1, nA_f g2] at z
            rcases nB_cases (B := B) (e := e) (p := at_ + nsz B at_) g2 with ⟨g3, g4⟩ | ⟨g3, g4⟩
            · lia
            · rw [g3] at z; exact absurd z (by decide)
        · rw [ePos_s, ← a1]
          rcases nB_cases (B := B) (e := e) (p := at_) le with ⟨g1, g2⟩ | ⟨g1, g2⟩
          · rw [g1] at z; simp [nB] at z
          · rw [g1, nA_f g2] at z
            rcases nB_cases (B := B) (e := e) (p := at_ + nsz B at_) g2 with ⟨g3, g4⟩ | ⟨g3, g4⟩
            · rw [g3] at z; exact absurd z (by decide)
            · rw [g1, nA_f g2, nA_f g4]
theorem m_ack {p : Nat} (L : AKm ho h w r e B kind 0 0 p0 c8 p false) (he : e ≤ 1400) : wp (f_mWire_takeAck w kind h) (fun h' => ∃ at_ c8', AKm ho h' w r e B kind (akA B e p) (akD B e p) ((akP B e p : Nat) : Int) c8' at_ (akT B e p kind).2 ∧ ((akT B e p kind).2 = false → at_ = (akT B e p kind).1 ∧ c8' = ((akR B e p + 1 : Nat) : Int) ∧ ePos B (akA B e p) (akP B e p) (akR B e p) ≤ e)) := by
  have nz := L.R.nz
  unfold f_mWire_takeAck
  refine wp_b2e (m_number L.R L.BR) ?_
  have r5 := L.2.2.2.1
  have l5 := L.2.2.2.2
  rw [r5, wp_cn]
  refine ⟨by lia, ?_⟩
  rw [ln_adv, l5, wp_ck]
  refine ⟨by decide, ?_⟩
  rw [wp_lt1, tn0]
  have ja : ∀ {h : Hp} {at_ : Nat} {b : Bool} {A D A' p9 c : Int}, AKm ho h w r e B kind A D p9 c at_ b → AKm ho (sJ h (w + 1) 0 A') w r e B kind A' D p9 c at_ b := fun L => by
    obtain ⟨z, ⟨R, BR⟩, ⟨k0, k1, k2, k3, k4⟩, t⟩ := L
    exact ⟨z, ⟨R, BR⟩, ⟨k0, by rw [hJ_sJ, if_pos ⟨rfl, rfl⟩], by rw [hJ_sJ, if_neg (by lia)]; exact k2, k3, k4⟩, t⟩
  have jd : ∀ {h : Hp} {at_ : Nat} {b : Bool} {A D D' p9 c : Int}, AKm ho h w r e B kind A D p9 c at_ b → AKm ho (sJ h (w + 1) 1 D') w r e B kind A D' p9 c at_ b := fun L => by
    obtain ⟨z, ⟨R, BR⟩, ⟨k0, k1, k2, k3, k4⟩, t⟩ := L
    exact ⟨z, ⟨R, BR⟩, ⟨k0, by rw [hJ_sJ, if_neg (by lia)]; exact k1, by rw [hJ_sJ, if_pos ⟨rfl, rfl⟩], k3, k4⟩, t⟩
  have L1 := ja (A' := akA B e p) (L.adv (p := (nIt B e (p, false) 1).1) (b' := (nIt B e (p, false) 1).2) (nIt_le L.R.le 1))
  have p1a : nA B p e false = (nIt B e (p, false) 1).1 := rfl
  have p1b : nB B p e false = (nIt B e (p, false) 1).2 := rfl
  have ea : nV B p e false = akA B e p := rfl
  rw [ea, p1a, p1b]
  generalize sJ (adv h w (nIt B e (p, false) 1).1 (nIt B e (p, false) 1).2) (w + 1) 0 (akA B e p) = h1 at *
  refine wp_b2e (m_number L1.R L1.BR) ?_
  rw [L1.2.2.2.1, wp_cn]
  refine ⟨by lia, ?_⟩
  rw [ln_adv, L1.2.2.2.2, wp_ck]
  refine ⟨by decide, ?_⟩
  rw [wp_lt1, tn1]
  have L2 := jd (D' := akD B e p) (L1.adv (p := (nIt B e (p, false) 2).1) (b' := (nIt B e (p, false) 2).2) (nIt_le L.R.le 2))
  have p2a : nA B (nIt B e (p, false) 1).1 e (nIt B e (p, false) 1).2 = (nIt B e (p, false) 2).1 := rfl
  have p2b : nB B (nIt B e (p, false) 1).1 e (nIt B e (p, false) 1).2 = (nIt B e (p, false) 2).2 := rfl
  have ed : nV B (nIt B e (p, false) 1).1 e (nIt B e (p, false) 1).2 = akD B e p := rfl
  rw [p2a, p2b, ed]
  generalize sJ (adv h1 w (nIt B e (p, false) 2).1 (nIt B e (p, false) 2).2) (w + 1) 1 (akD B e p) = h2 at *
  refine wp_b2e (m_number L2.R L2.BR) ?_
  have L3 := L2.adv (p := (nIt B e (p, false) 3).1) (b' := (nIt B e (p, false) 3).2) (nIt_le L.R.le 3)
  have p3a : nA B (nIt B e (p, false) 2).1 e (nIt B e (p, false) 2).2 = (nIt B e (p, false) 3).1 := rfl
  have p3b : nB B (nIt B e (p, false) 2).1 e (nIt B e (p, false) 2).2 = (nIt B e (p, false) 3).2 := rfl
  have vr := nV_lt B (nIt B e (p, false) 2).1 e (nIt B e (p, false) 2).2
  have er : nV B (nIt B e (p, false) 2).1 e (nIt B e (p, false) 2).2 = ((akR B e p : Nat) : Int) := by unfold akR; lia
  rw [p3a, p3b, er]
  have rl : ((akR B e p : Nat) : Int) < 4611686018427387904 := by lia
  have pz : (nIt B e (p, false) 3).1 = akP B e p := rfl
  rw [pz] at L3 ⊢
  generalize hz : (nIt B e (p, false) 3).2 = z3 at *
  rw [wp_lt1, L3.R.i1]
  have L4 : AKm ho (sI (adv h2 w (akP B e p) z3) w 9 ((akP B e p : Nat) : Int)) w r e B kind (akA B e p) (akD B e p) ((akP B e p : Nat) : Int) c8 (akP B e p) z3 := by
    obtain ⟨z, ⟨R, BR⟩, ⟨k0, k1, k2, k3, k4⟩, t⟩ := L3
    have rn := R.rn
    exact ⟨z, ⟨R.sI (Or.inr (by decide)), BR.of (fun k => by grind [hI_sI, hI_sJ, hI_sR, hI_adv, hJ_sI, hJ_sJ, hJ_sR, hJ_adv, hR_sI, hR_sJ, hR_sR, hR_adv, ln_sI, ln_sJ, ln_sR, ln_adv, bi])⟩, ⟨by grind [hI_sI, hI_sJ, hI_sR, hI_adv, hJ_sI, hJ_sJ, hJ_sR, hJ_adv, hR_sI, hR_sJ, hR_sR, hR_adv, ln_sI, ln_sJ, ln_sR, ln_adv, bi], k1, k2, by grind [hI_sI, hI_sJ, hI_sR, hI_adv, hJ_sI, hJ_sJ, hJ_sR, hJ_adv, hR_sI, hR_sJ, hR_sR, hR_adv, ln_sI, ln_sJ, ln_sR, ln_adv, bi], by grind [hI_sI, hI_sJ, hI_sR, hI_adv, hJ_sI, hJ_sJ, hJ_sR, hJ_adv, hR_sI, hR_sJ, hR_sR, hR_adv, ln_sI, ln_sJ, ln_sR, ln_adv, bi]⟩, t⟩
  generalize sI (adv h2 w (akP B e p) z3) w 9 ((akP B e p : Nat) : Int) = h3 at *
  refine wp_b2e (m_number L4.R L4.BR) ?_
  have L5 := L4.adv (p := nA B (akP B e p) e z3) (b' := nB B (akP B e p) e z3) (nA_le L4.R.le)
  have ov : nB B (akP B e p) e z3 = true → z3 = true ∨ e < ePos B (akA B e p) (akP B e p) 0 := fun z => by
    cases hz3 : z3 with
    | true => exact Or.inl rfl
    | false =>
      rw [hz3] at z
      rcases nB_cases (B := B) (e := e) L4.R.le with ⟨g1, g2⟩ | ⟨g1, g2⟩
      · right; rw [ePos_0]; exact g2
      · rw [g1] at z; exact absurd z (by decide)
  have okk : nB B (akP B e p) e z3 = false → z3 = false ∧ akP B e p + nsz B (akP B e p) ≤ e := fun z => by
    cases hz3 : z3 with
    | true => rw [hz3] at z; simp [nB] at z
    | false =>
      rw [hz3] at z
      rcases nB_cases (B := B) (e := e) L4.R.le with ⟨g1, g2⟩ | ⟨g1, g2⟩
      · rw [g1] at z; exact absurd z (by decide)
      · exact ⟨rfl, g2⟩
  refine m_akL (zz := z3 = true) (q := akP B e p) he rl (fun h' at' b' L' u1 u2 => ?_) FU 0 _ _ _ (by lia) (by lia) (by unfold FU; lia) L5 ov (fun z => ?_)
  · have rb : akR B e p < 1000000 ∨ b' = true := by
      cases b' with
      | true => exact Or.inr rfl
      | false =>
        have a1 := (u2 rfl).2
        have ge := ePos_ge (B := B) (A := akA B e p) (p0 := akP B e p) (akR B e p)
        have le := L'.R.le
        left; lia
    refine wp_of (m_ak74 L' rb) (fun h6 _ q => ?_)
    unfold akT
    rw [hz]
    cases b' with
    | true =>
      rw [nIt_t] at q
      rw [if_pos (u1 rfl)]
      exact ⟨_, _, q, fun z => absurd (show true = false from z) (by decide)⟩
    | false =>
      obtain ⟨a0, a1⟩ := u2 rfl
      have le := L'.R.le
      rw [if_neg (fun z => z.elim a0 (fun z => by lia))]
      rw [a1] at q
      exact ⟨_, _, q, fun _ => ⟨rfl, rfl, by lia⟩⟩
  · obtain ⟨z1, z2⟩ := okk z
    rw [z1]
    exact ⟨by decide, by rw [nA_f z2, ePos_0]⟩
end
