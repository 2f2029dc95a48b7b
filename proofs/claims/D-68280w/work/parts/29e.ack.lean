/-! reading: acknowledgements of the class, whole -/
def nS (B : Nat → Int) (e : Nat) (s : Nat × Bool) : Nat × Bool := (nA B s.1 e s.2, nB B s.1 e s.2)
def nIt (B : Nat → Int) (e : Nat) (s : Nat × Bool) : Nat → Nat × Bool
  | 0 => s
  | i + 1 => nS B e (nIt B e s i)
theorem nIt_t {B : Nat → Int} {e p : Nat} : ∀ i : Nat, nIt B e (p, true) i = (p, true)
  | 0 => rfl
  | i + 1 => by
    show nS B e (nIt B e (p, true) i) = _
    rw [nIt_t i]
    have : nB B p e true = true := by simp [nB]
    unfold nS
    rw [nA_t this, this]
theorem nIt_le {B : Nat → Int} {e : Nat} {s : Nat × Bool} (h : s.1 ≤ e) : ∀ i : Nat, (nIt B e s i).1 ≤ e
  | 0 => h
  | i + 1 => nA_le (nIt_le h i)
/-- an acknowledgement that begins at p: its greatest number, its delay, how many further ranges, where the ranges begin; whether it is over; where it ends -/
def akA (B : Nat → Int) (e p : Nat) : Int := nV B p e false
def akD (B : Nat → Int) (e p : Nat) : Int := nV B (nIt B e (p, false) 1).1 e (nIt B e (p, false) 1).2
def akR (B : Nat → Int) (e p : Nat) : Nat := (nV B (nIt B e (p, false) 2).1 e (nIt B e (p, false) 2).2).toNat
def akP (B : Nat → Int) (e p : Nat) : Nat := (nIt B e (p, false) 3).1
def akT (B : Nat → Int) (e p : Nat) (kind : Int) : Nat × Bool :=
  if (nIt B e (p, false) 3).2 = true ∨ e < ePos B (akA B e p) (akP B e p) (akR B e p) then (p, true) else nIt B e (ePos B (akA B e p) (akP B e p) (akR B e p), false) (if kind = 3 then 3 else 0)
section
variable {F I r e : Nat} {B : Nat → Int} {kind A D : Int} {X Y : Nat}
theorem AKc.sJ {h : Hp} {lo hi N n at_ : Nat} {b : Bool} (L : AKc h F I r e B kind A D lo hi N n at_ b) {k : Nat} {v : Int} : AKc (sJ h (F + 1) k v) F I r e B kind A D lo hi N n at_ b := by
  obtain ⟨z, ⟨R, BR, S⟩, ⟨k0, k1, k2, k3, k4, k5⟩, t⟩ := L
  exact ⟨z, ⟨R, BR, S⟩, ⟨k0, by rw [hJ_sJ, if_neg (by lia)]; exact k1, by rw [hJ_sJ, if_neg (by lia)]; exact k2, by rw [hJ_sJ, if_neg (by lia)]; exact k3, k4, k5⟩, t⟩
def akQ (X Y F I r e : Nat) (B : Nat → Int) (kind A D : Int) (p0 R : Nat) (T : Nat × Bool) (o : Int × Hp) : Prop := (o.1 = 0 ∨ o.1 = 1) ∧ ∃ lo hi N n at_, AKc o.2 F I r e B kind A D lo hi N n at_ T.2 ∧ hN o.2 + (2048 - N) ≤ X ∧ hZ o.2 + 4 * (2048 - N) ≤ Y ∧ (T.2 = false → at_ = T.1 ∧ ePos B A p0 R ≤ e ∧ (o.1 = 1 ↔ eOk B A p0 R = true) ∧ (o.1 = 1 → n = R + 1 ∧ ∀ j, j ≤ R → hJ o.2 lo j = eBot B A p0 j ∧ hJ o.2 hi j = eTop B A p0 j))
theorem c_ak150 {p0 R : Nat} {good : Int} {lo hi N n : Nat} {P : Prop} (hg : good = 0 ∨ good = 1) (f : Nat) : ∀ (k : Nat) (h : Hp) (s : Nat × Bool), k ≤ 3 → 3 - k < f → kind = 3 → AKc h F I r e B kind A D lo hi N n s.1 s.2 → hN h + (2048 - N) ≤ X → hZ h + 4 * (2048 - N) ≤ Y → (s.2 = false → ePos B A p0 R ≤ e ∧ (good = 1 ↔ eOk B A p0 R = true) ∧ (good = 1 → n = R + 1 ∧ ∀ j, j ≤ R → hJ h lo j = eBot B A p0 j ∧ hJ h hi j = eTop B A p0 j)) → wp (f_cFrame_acknowledges_b150_lp f F I good (k : Int) h) (akQ X Y F I r e B kind A D p0 R (nIt B e s (3 - k))) := by
  induction f with
  | zero => intro k h s _ hf; lia
  | succ f ih =>
    intro k h s hk hf k3 L rX rY V
    show wp (f_cFrame_acknowledges_b150 (f_cFrame_acknowledges_b150_lp f) F I good (k : Int) h) _
    unfold f_cFrame_acknowledges_b150
    by_cases c : (3 : Int) ≤ k
    · have : k = 3 := by lia
      subst this
      rw [if_pos c]
      refine wp_01 hg ⟨hg, lo, hi, N, n, s.1, L, rX, rY, fun z => ⟨rfl, V z⟩⟩
    · have ⟨⟨z1, z2, z3, z4, z5⟩, ⟨R0, BR, S⟩, ⟨k0, _⟩, t1, t2, t3⟩ := L
      rw [if_neg c, k0, if_neg (fun z => z k3), wp_cn]
      refine ⟨R0.nz, wp_b2e (c_number R0 BR) ?_⟩
      rw [t1.1, ln_adv, t2, wp_cn]
      refine ⟨by lia, ?_⟩
      rw [wp_ck]
      refine ⟨⟨by lia, by lia⟩, ?_⟩
      rw [wp_lt1, Int.toNat_natCast, w_k1 (by lia)]
      have L1 := (L.adv (p := nA B s.1 e s.2) (b' := nB B s.1 e s.2) (nA_le R0.le)).sJ (k := k) (v := nV B s.1 e s.2)
      have := ih (k + 1) _ (nS B e s) (by lia) (by lia) k3 L1 rX rY (fun z => ?_)
      · have e1 : nIt B e s (3 - k) = nIt B e (nS B e s) (3 - (k + 1)) := by
          have : 3 - k = (3 - (k + 1)) + 1 := by lia
          rw [this]
          generalize 3 - (k + 1) = m
          induction m with
          | zero => rfl
          | succ m im => show nS B e (nIt B e s (m + 1)) = nS B e (nIt B e (nS B e s) m); rw [im]
        rw [e1]
        exact this
      · have sb : s.2 = false := by unfold nS nB at z; cases hb : s.2 <;> simp [hb] at z ⊢
        have v := V sb
        refine ⟨v.1, v.2.1, fun g => ⟨(v.2.2 g).1, fun j hj => ?_⟩⟩
        rw [hJ_sJ, if_neg (by lia), hJ_adv, hJ_sJ, if_neg (by lia), hJ_adv]
        exact (v.2.2 g).2 j hj
theorem c_ak147 {h : Hp} {p0 R : Nat} {good : Int} {lo hi N n at_ : Nat} {b : Bool} (L : AKc h F I r e B kind A D lo hi N n at_ b) (rX : hN h + (2048 - N) ≤ X) (rY : hZ h + 4 * (2048 - N) ≤ Y) {zz : Prop} (V : akV h B A p0 e lo hi n R at_ b good zz) : wp (f_cFrame_acknowledges_b147 F I good h) (akQ X Y F I r e B kind A D p0 R (nIt B e (at_, b) (if kind = 3 then 3 else 0))) := by
  unfold f_cFrame_acknowledges_b147
  have le := L.R.le
  have V2 : b = false → ePos B A p0 R ≤ e ∧ (good = 1 ↔ eOk B A p0 R = true) ∧ (good = 1 → n = R + 1 ∧ ∀ j, j ≤ R → hJ h lo j = eBot B A p0 j ∧ hJ h hi j = eTop B A p0 j) := fun z => by
    obtain ⟨_, a1, a2⟩ := V.2.2 z
    exact ⟨by lia, a2⟩
  by_cases k3 : kind = 3
  · rw [if_pos k3]
    exact c_ak150 (P := True) V.1 FU 0 h (at_, b) (by lia) (by unfold FU; lia) k3 L rX rY V2
  · rw [if_neg k3]
    obtain ⟨f, hf⟩ : ∃ f, FU = f + 1 := ⟨999999999, rfl⟩
    rw [hf]
    show wp (f_cFrame_acknowledges_b150 (f_cFrame_acknowledges_b150_lp f) F I good 0 h) _
    unfold f_cFrame_acknowledges_b150
    have k0 := L.2.2.1.1
    rw [if_neg (by decide), k0, if_pos k3]
    exact wp_01 V.1 ⟨V.1, lo, hi, N, n, at_, L, rX, rY, fun z => ⟨rfl, V2 z⟩⟩
theorem c_ack {h : Hp} {lo hi N p : Nat} (L : AKc h F I r e B kind 0 0 lo hi N 0 p false) (hX : hN h + (2048 - N) ≤ CN) (hY : hZ h + 4 * (2048 - N) ≤ CZ) (he : e ≤ 1400) : wp (f_cFrame_acknowledges F I h) (akQ (hN h + (2048 - N)) (hZ h + 4 * (2048 - N)) F I r e B kind (akA B e p) (akD B e p) (akP B e p) (akR B e p) (akT B e p kind)) := by
  have nz := L.R.nz
  unfold f_cFrame_acknowledges
  rw [wp_cn]
  refine ⟨nz, wp_b2e (c_number L.R L.BR) ?_⟩
  rw [wp_lt1]
  have ja : ∀ {h : Hp} {lo hi N n at_ : Nat} {b : Bool} {A D A' : Int}, AKc h F I r e B kind A D lo hi N n at_ b → AKc (sJ h F 2 A') F I r e B kind A' D lo hi N n at_ b := fun L => by
    obtain ⟨z, ⟨R, BR, S⟩, ⟨k0, k1, k2, k3, k4, k5⟩, t⟩ := L
    exact ⟨z, ⟨R, BR, S⟩, ⟨k0, by rw [hJ_sJ, if_pos ⟨rfl, rfl⟩], by rw [hJ_sJ, if_neg (by lia)]; exact k2, by rw [hJ_sJ, if_neg (by lia)]; exact k3, k4, k5⟩, t⟩
  have jd : ∀ {h : Hp} {lo hi N n at_ : Nat} {b : Bool} {A D D' : Int}, AKc h F I r e B kind A D lo hi N n at_ b → AKc (sJ h F 3 D') F I r e B kind A D' lo hi N n at_ b := fun L => by
    obtain ⟨z, ⟨R, BR, S⟩, ⟨k0, k1, k2, k3, k4, k5⟩, t⟩ := L
    exact ⟨z, ⟨R, BR, S⟩, ⟨k0, by rw [hJ_sJ, if_neg (by lia)]; exact k1, by rw [hJ_sJ, if_pos ⟨rfl, rfl⟩], by rw [hJ_sJ, if_neg (by lia)]; exact k3, k4, k5⟩, t⟩
  have L1 := ja (A' := akA B e p) (L.adv (p := nA B p e false) (b' := nB B p e false) (nA_le L.R.le))
  have p1 : (nA B p e false, nB B p e false) = nIt B e (p, false) 1 := rfl
  have p1a : nA B p e false = (nIt B e (p, false) 1).1 := rfl
  have p1b : nB B p e false = (nIt B e (p, false) 1).2 := rfl
  have ea : nV B p e false = akA B e p := rfl
  rw [ea]
  rw [p1a, p1b] at L1 ⊢
  generalize hg1 : sJ (adv h I (nIt B e (p, false) 1).1 (nIt B e (p, false) 1).2) F 2 (akA B e p) = h1 at *
  have m1 : hN h1 = hN h := by rw [← hg1]; rfl
  have m2 : hZ h1 = hZ h := by rw [← hg1]; rfl
  refine wp_b2e (c_number L1.R L1.BR) ?_
  rw [wp_lt1]
  have L2 := jd (D' := akD B e p) (L1.adv (p := (nIt B e (p, false) 2).1) (b' := (nIt B e (p, false) 2).2) (nIt_le L.R.le 2))
  have p2a : nA B (nIt B e (p, false) 1).1 e (nIt B e (p, false) 1).2 = (nIt B e (p, false) 2).1 := rfl
  have p2b : nB B (nIt B e (p, false) 1).1 e (nIt B e (p, false) 1).2 = (nIt B e (p, false) 2).2 := rfl
  have ed : nV B (nIt B e (p, false) 1).1 e (nIt B e (p, false) 1).2 = akD B e p := rfl
  rw [p2a, p2b, ed]
  generalize hg2 : sJ (adv h1 I (nIt B e (p, false) 2).1 (nIt B e (p, false) 2).2) F 3 (akD B e p) = h2 at *
  refine wp_b2e (c_number L2.R L2.BR) ?_
  have L3 := L2.adv (p := (nIt B e (p, false) 3).1) (b' := (nIt B e (p, false) 3).2) (nIt_le L.R.le 3)
  have p3a : nA B (nIt B e (p, false) 2).1 e (nIt B e (p, false) 2).2 = (nIt B e (p, false) 3).1 := rfl
  have p3b : nB B (nIt B e (p, false) 2).1 e (nIt B e (p, false) 2).2 = (nIt B e (p, false) 3).2 := rfl
  have vr := nV_lt B (nIt B e (p, false) 2).1 e (nIt B e (p, false) 2).2
  have er : nV B (nIt B e (p, false) 2).1 e (nIt B e (p, false) 2).2 = ((akR B e p : Nat) : Int) := by unfold akR; lia
  rw [p3a, p3b, er]
  have rl : ((akR B e p : Nat) : Int) < 4611686018427387904 := by lia
  have pz : (nIt B e (p, false) 3).1 = akP B e p := rfl
  rw [pz] at L3 ⊢
  generalize hz : (nIt B e (p, false) 3).2 = z3 at *
  have va : 0 ≤ akA B e p ∧ akA B e p < 4611686018427387904 := nV_lt B p e false
  have rn1 : hN h2 = hN h := by rw [← hg2, hN_sJ, hN_adv]; exact m1
  have rn2 : hZ h2 = hZ h := by rw [← hg2, hZ_sJ, hZ_adv]; exact m2
  clear hg1 hg2
  refine wp_b2e (c_number L3.R L3.BR) ?_
  have L4 := L3.adv (p := nA B (akP B e p) e z3) (b' := nB B (akP B e p) e z3) (nA_le L3.R.le)
  rw [wp_lt1, L3.2.2.1.2.1]
  rw [adv_adv] at L4 ⊢
  have v4 := nV_lt B (akP B e p) e z3
  have w4 : w64 (akA B e p - nV B (akP B e p) e z3) = akA B e p - nV B (akP B e p) e z3 := w64_id ⟨by lia, by lia⟩
  rw [w4]
  have kk : ∀ h' lo' hi' N' n' at' b' good', AKc h' F I r e B kind (akA B e p) (akD B e p) lo' hi' N' n' at' b' → hN h' + (2048 - N') ≤ hN h + (2048 - N) → hZ h' + 4 * (2048 - N') ≤ hZ h + 4 * (2048 - N) → akV h' B (akA B e p) (akP B e p) e lo' hi' n' (akR B e p) at' b' good' (z3 = true) → wp (f_cFrame_acknowledges_b147 F I good' h') (akQ (hN h + (2048 - N)) (hZ h + 4 * (2048 - N)) F I r e B kind (akA B e p) (akD B e p) (akP B e p) (akR B e p) (akT B e p kind)) := fun h' lo' hi' N' n' at' b' good' L' x y V' => by
    refine wp_of (c_ak147 L' x y V') (fun o _ q => ?_)
    unfold akT
    rw [hz]
    cases b' with
    | true =>
      rw [nIt_t] at q
      rw [if_pos (V'.2.1 rfl)]
      obtain ⟨q1, lo, hi, N, n, at_, l1, l2, l3, l4⟩ := q
      exact ⟨q1, lo, hi, N, n, at_, l1, l2, l3, fun z => absurd (show true = false from z) (by decide)⟩
    | false =>
      obtain ⟨a0, a1, _⟩ := V'.2.2 rfl
      have le := L'.R.le
      rw [if_neg (fun z => z.elim a0 (fun z => by lia))]
      rw [a1] at q
      exact q
  have hZ0 : ∀ x, hZ (adv h2 I x (nB B (akP B e p) e z3)) = hZ h := fun x => rn2
  have hN0 : ∀ x, hN (adv h2 I x (nB B (akP B e p) e z3)) = hN h := fun x => rn1
  have ov : nB B (akP B e p) e z3 = true → z3 = true ∨ e < ePos B (akA B e p) (akP B e p) 0 := fun z => by
    cases hz3 : z3 with
    | true => exact Or.inl rfl
    | false =>
      rw [hz3] at z
      rcases nB_cases (B := B) (e := e) L3.R.le with ⟨g1, g2⟩ | ⟨g1, g2⟩
      · right; rw [ePos_0]; exact g2
      · rw [g1] at z; exact absurd z (by decide)
  have okk : nB B (akP B e p) e z3 = false → z3 = false ∧ akP B e p + nsz B (akP B e p) ≤ e := fun z => by
    cases hz3 : z3 with
    | true => rw [hz3] at z; simp [nB] at z
    | false =>
      rw [hz3] at z
      rcases nB_cases (B := B) (e := e) L3.R.le with ⟨g1, g2⟩ | ⟨g1, g2⟩
      · rw [g1] at z; exact absurd z (by decide)
      · exact ⟨rfl, g2⟩
  unfold f_cFrame_acknowledges_b44 f_cFrame_acknowledges_b61
  by_cases c : akA B e p - nV B (akP B e p) e z3 < 0
  · rw [if_pos c, if_pos rfl]
    refine c_akL (X := hN h + (2048 - N)) (Y := hZ h + 4 * (2048 - N)) (zz := z3 = true) hX hY he va rl kk FU 0 _ lo hi N 0 _ _ _ 0 (by lia) (by lia) (by unfold FU; lia) L4 (by rw [hN0]; lia) (by rw [hZ0]; lia) ⟨Or.inl rfl, ov, fun z => ?_⟩ (by lia) (fun _ z => absurd z (by decide))
    obtain ⟨z1, z2⟩ := okk z
    rw [z1]
    have e1 : nV B (akP B e p) e false = nvl B (akP B e p) := nV_f z2
    rw [z1, e1] at c
    refine ⟨by decide, by rw [nA_f z2, ePos_0], ⟨fun z => absurd z (by decide), fun z => ?_⟩, fun z => absurd z (by decide)⟩
    have := eOk_bot z
    rw [eBot_0] at this
    lia
  · rw [if_neg c, if_neg (by decide)]
    refine wp_b1o (c_span L4.S (by lia) (by rw [hN0]; lia) (by rw [hZ0]; lia)) (fun h5 _ q => ?_)
    obtain ⟨lo', hi', N', S', vs, u1, u2, X', rX', rY', cc⟩ := q
    rw [hN0] at rX'
    rw [hZ0] at rY'
    refine c_akL (X := hN h + (2048 - N)) (Y := hZ h + 4 * (2048 - N)) (zz := z3 = true) hX hY he va rl kk FU 0 h5 lo' hi' N' 1 _ _ _ 1 (by lia) (by lia) (by unfold FU; lia) (L4.sp S' X' cc) rX' rY' ⟨Or.inr rfl, ov, fun z => ?_⟩ (by lia) (fun z _ => ?_)
    · obtain ⟨z1, z2⟩ := okk z
      have e1 : nV B (akP B e p) e false = nvl B (akP B e p) := nV_f z2
      rw [z1, e1] at c u1
      rw [z1]
      refine ⟨by decide, by rw [nA_f z2, ePos_0], ⟨fun _ => ?_, fun _ => rfl⟩, fun _ => ⟨rfl, fun j hj => ?_⟩⟩
      · unfold eOk; rw [eBot_0]; simp; lia
      · have : j = 0 := by lia
        subst this
        rw [eBot_0, eTop_0]
        refine ⟨u1, ?_⟩
        rw [u2]
        have := L4.2.2.1.2.1
        rw [z1] at this
        exact this
    · obtain ⟨z1, z2⟩ := okk z
      rw [z1, nV_f z2, eBot_0]
end
