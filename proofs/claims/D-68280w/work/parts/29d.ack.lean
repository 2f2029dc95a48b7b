/-! reading: acknowledgements of the class, the loop -/
def AKc (h : Hp) (F I r e : Nat) (B : Nat → Int) (kind A D : Int) (lo hi N n at_ : Nat) (b : Bool) : Prop := (F ≠ 0 ∧ F ≠ I ∧ F ≠ r ∧ F + 1 ≠ lo ∧ F + 1 ≠ hi) ∧ (RD h I r at_ e b ∧ BRc h r e B ∧ SPf h F lo hi N n) ∧ (hI h F 0 = kind ∧ hJ h F 2 = A ∧ hJ h F 3 = D ∧ hJ h F 4 = 0 ∧ hI h F 8 = 0 ∧ hI h F 9 = 0) ∧ (hR h F 6 = F + 1 ∧ hR h F 7 = r) ∧ ln h (F + 1) = 3 ∧ I < hN h ∧ r < hN h ∧ F + 1 < hN h
section
variable {h : Hp} {F I r e : Nat} {B : Nat → Int} {kind A D : Int} {lo hi N n at_ : Nat} {b : Bool}
theorem AKc.R (L : AKc h F I r e B kind A D lo hi N n at_ b) : RD h I r at_ e b := L.2.1.1
theorem AKc.BR (L : AKc h F I r e B kind A D lo hi N n at_ b) : BRc h r e B := L.2.1.2.1
theorem AKc.S (L : AKc h F I r e B kind A D lo hi N n at_ b) : SPf h F lo hi N n := L.2.1.2.2
theorem SPf.adv (S : SPf h F lo hi N n) (hx : F ≠ I) {p : Nat} {b : Bool} : SPf (adv h I p b) F lo hi N n := by
  unfold SPf at *
  obtain ⟨z, e1, e2, l1, l2, m, s⟩ := S
  exact ⟨z, e1, e2, l1, l2, by rw [hI_adv, if_neg (by lia), if_neg (by lia)]; exact m, s⟩
theorem AKc.adv (L : AKc h F I r e B kind A D lo hi N n at_ b) {p : Nat} {b' : Bool} (hp : p ≤ e) : AKc (adv h I p b') F I r e B kind A D lo hi N n p b' := by
  obtain ⟨⟨z1, z2, z3, z4, z5⟩, ⟨R, BR, S⟩, ⟨k0, k1, k2, k3, k4, k5⟩, t⟩ := L
  exact ⟨⟨z1, z2, z3, z4, z5⟩, ⟨R.adv hp, BR.adv R.ne, S.adv z2⟩, ⟨by grind [hI_sI, hI_sJ, hI_sR, hI_adv, hJ_sI, hJ_sJ, hJ_sR, hJ_adv, hR_sI, hR_sJ, hR_sR, hR_adv, ln_sI, ln_sJ, ln_sR, ln_adv, bi], k1, k2, k3, by grind [hI_sI, hI_sJ, hI_sR, hI_adv, hJ_sI, hJ_sJ, hJ_sR, hJ_adv, hR_sI, hR_sJ, hR_sR, hR_adv, ln_sI, ln_sJ, ln_sR, ln_adv, bi], by grind [hI_sI, hI_sJ, hI_sR, hI_adv, hJ_sI, hJ_sJ, hJ_sR, hJ_adv, hR_sI, hR_sJ, hR_sR, hR_adv, ln_sI, ln_sJ, ln_sR, ln_adv, bi]⟩, t⟩
theorem AKc.sp {h' : Hp} {lo' hi' N' n' : Nat} (L : AKc h F I r e B kind A D lo hi N n at_ b) (S : SPf h' F lo' hi' N' n') (X : SPx F lo hi h h') (c : (lo' = lo ∧ hi' = hi) ∨ (hN h ≤ lo' ∧ hN h ≤ hi')) : AKc h' F I r e B kind A D lo' hi' N' n' at_ b := by
  obtain ⟨⟨z1, z2, z3, z4, z5⟩, ⟨R, BR, S0⟩, ⟨k0, k1, k2, k3, k4, k5⟩, t1, t2, t3, t4, t5⟩ := L
  obtain ⟨x0, x1, x2, x3, x4⟩ := X
  have ⟨⟨_, _, _, y4, y5, _⟩, _⟩ := S0
  refine ⟨⟨z1, z2, z3, by lia, by lia⟩, ⟨R.of (fun k => x1 _ _ t3 (by lia)) (x3 _ _ t3 (by lia)) (x4 _ t4), BR.of (fun k => x1 _ _ t4 (by lia)), S⟩, ⟨?_, ?_, ?_, ?_, ?_, ?_⟩, ?_, ?_, by lia, by lia, by lia⟩
  · rw [x1 _ _ (by lia) (by lia)]; exact k0
  · rw [x2 _ _ (by lia) y4 y5]; exact k1
  · rw [x2 _ _ (by lia) y4 y5]; exact k2
  · rw [x2 _ _ (by lia) y4 y5]; exact k3
  · rw [x1 _ _ (by lia) (by lia)]; exact k4
  · rw [x1 _ _ (by lia) (by lia)]; exact k5
  · rw [x3 _ _ (by lia) (by lia), x3 _ _ (by lia) (by lia)]; exact t1
  · rw [x4 _ (by lia)]; exact t2
theorem ePos_ge {p0 : Nat} : ∀ i : Nat, p0 + 1 + 2 * i ≤ ePos B A p0 i
  | 0 => by rw [ePos_0]; have := nsz_pos B p0; lia
  | i + 1 => by
    have h1 := ePos_ge (p0 := p0) i
    rw [ePos_s]
    have s1 := nsz_pos B (ePos B A p0 i)
    have s2 := nsz_pos B (ePos B A p0 i + nsz B (ePos B A p0 i))
    lia
theorem nB_cases {p : Nat} (hp : p ≤ e) : (nB B p e false = true ∧ e < p + nsz B p) ∨ (nB B p e false = false ∧ p + nsz B p ≤ e) := by
  have := nsz_pos B p
  by_cases g : p + nsz B p ≤ e
  · exact Or.inr ⟨nB_f g, g⟩
  · refine Or.inl ⟨?_, by lia⟩
    unfold nB; simp; right; lia
/-- what is known behind k of the further ranges -/
def akV (h : Hp) (B : Nat → Int) (A : Int) (p0 e lo hi n k at_ : Nat) (b : Bool) (good : Int) (z : Prop) : Prop := (good = 0 ∨ good = 1) ∧ (b = true → z ∨ e < ePos B A p0 k) ∧ (b = false → ¬ z ∧ at_ = ePos B A p0 k ∧ (good = 1 ↔ eOk B A p0 k = true) ∧ (good = 1 → n = k + 1 ∧ ∀ j, j ≤ k → hJ h lo j = eBot B A p0 j ∧ hJ h hi j = eTop B A p0 j))
theorem c_akL {X Y p0 R : Nat} {zz : Prop} {Q : Int × Hp → Prop} (hX : X ≤ CN) (hY : Y ≤ CZ) (he : e ≤ 1400) (hA : 0 ≤ A ∧ A < 4611686018427387904) (hR : (R : Int) < 4611686018427387904) (kk : ∀ h' lo' hi' N' n' at' b' good', AKc h' F I r e B kind A D lo' hi' N' n' at' b' → hN h' + (2048 - N') ≤ X → hZ h' + 4 * (2048 - N') ≤ Y → akV h' B A p0 e lo' hi' n' R at' b' good' zz → wp (f_cFrame_acknowledges_b147 F I good' h') Q) (f : Nat) : ∀ (k : Nat) (h : Hp) (lo hi N n at_ : Nat) (b : Bool) (low good : Int), k ≤ R → k ≤ 1000 → 1000 - k < f → AKc h F I r e B kind A D lo hi N n at_ b → hN h + (2048 - N) ≤ X → hZ h + 4 * (2048 - N) ≤ Y → akV h B A p0 e lo hi n k at_ b good zz → n ≤ k + 1 → (b = false → good = 1 → low = eBot B A p0 k) → wp (f_cFrame_acknowledges_b64_lp f F I (R : Int) low good (k : Int) h) Q := by
  induction f with
  | zero => intro k h _ _ _ _ _ _ _ _ _ _ hf; lia
  | succ f ih =>
    intro k h lo hi N n at_ b low good hk hk2 hf L rX rY V hn hlow
    show wp (f_cFrame_acknowledges_b64 (f_cFrame_acknowledges_b64_lp f) F I (R : Int) low good (k : Int) h) Q
    unfold f_cFrame_acknowledges_b64
    obtain ⟨v1, v2, v3⟩ := V
    by_cases c1 : (R : Int) ≤ k
    · have : k = R := by lia
      subst this
      rw [if_pos c1]
      exact kk h lo hi N n at_ b good L rX rY ⟨v1, v2, v3⟩
    · rw [if_neg c1, wp_cn]
      refine ⟨L.R.nz, ?_⟩
      rw [L.R.i3]
      cases b with
      | true =>
        rw [if_pos (by decide)]
        refine kk h lo hi N n at_ true good L rX rY ⟨v1, fun _ => (v2 rfl).imp id (fun q => Nat.lt_of_lt_of_le q (ePos_mono hk)), fun z => absurd z (by decide)⟩
      | false =>
        obtain ⟨a0, a1, a2, a3⟩ := v3 rfl
        rw [if_neg (by decide)]
        have le := L.R.le
        have ge := ePos_ge (B := B) (A := A) (p0 := p0) k
        refine wp_b2e (c_number L.R L.BR) ?_
        rw [wp_lt1]
        have L1 := L.adv (p := nA B at_ e false) (b' := nB B at_ e false) (nA_le le)
        refine wp_b2e (c_number L1.R L1.BR) ?_
        rw [wp_lt1]
        have L2 := L1.adv (p := nA B (nA B at_ e false) e (nB B at_ e false)) (b' := nB B (nA B at_ e false) e (nB B at_ e false)) (nA_le L1.R.le)
        have w1 : w64 ((k : Int) + 1) = ((k + 1 : Nat) : Int) := by rw [w64_id ⟨by lia, by lia⟩]; lia
        have eP : e < ePos B A p0 (k + 1) → nB B (nA B at_ e false) e (nB B at_ e false) = true := fun z => by
          rw [ePos_s, ← a1] at z
          rcases nB_cases (B := B) (e := e) (p := at_) le with ⟨g1, g2⟩ | ⟨g1, g2⟩
          · rw [g1]; simp [nB]
          · rw [g1, nA_f g2]
            rcases nB_cases (B := B) (e := e) (p := at_ + nsz B at_) g2 with ⟨g3, g4⟩ | ⟨g3, g4⟩
            · exact g3
            · lia
        have eQ : nB B (nA B at_ e false) e (nB B at_ e false) = true → e < ePos B A p0 (k + 1) := fun z => by
          rw [ePos_s, ← a1]
          rcases nB_cases (B := B) (e := e) (p := at_) le with ⟨g1, g2⟩ | ⟨g1, g2⟩
          · lia
          · rw [g1, nA_f g2] at z
            rcases nB_cases (B := B) (e := e) (p := at_ + nsz B at_) g2 with ⟨g3, g4⟩ | ⟨g3, g4⟩
            · lia
            · rw [g3] at z; exact absurd z (by decide)
        by_cases ok : nB B (nA B at_ e false) e (nB B at_ e false) = false
        · -- both numbers are there
          have le2 : ePos B A p0 (k + 1) ≤ e := by
            by_cases z : e < ePos B A p0 (k + 1)
            · rw [eP z] at ok; exact absurd ok (by decide)
            · lia
          have le2' := le2
          rw [ePos_s, ← a1] at le2'
          have g1 := nB_f (B := B) (e := e) (p := at_) (by lia)
          have g2 := nA_f (B := B) (e := e) (p := at_) (by lia)
          rw [g1, g2] at L1 L2 ok ⊢
          rw [nB_f (by lia), nA_f (by lia)] at L2
          rw [nB_f (by lia), nA_f (by lia), nV_f (by lia), nV_f (by lia)]
          have ge2 := ePos_ge (B := B) (A := A) (p0 := p0) (k + 1)
          have p2 : at_ + nsz B at_ + nsz B (at_ + nsz B at_) = ePos B A p0 (k + 1) := by rw [ePos_s, ← a1]
          rw [p2] at L2 ⊢
          rw [adv_adv] at L2 ⊢
          have bad : ∀ lw : Int, eOk B A p0 (k + 1) = false → wp (f_cFrame_acknowledges_b138 (f_cFrame_acknowledges_b64_lp f) F I (R : Int) lw 0 (k : Int) (adv h I (ePos B A p0 (k + 1)) false)) Q := fun lw nok => by
            unfold f_cFrame_acknowledges_b138
            rw [wp_lt1, w1]
            exact ih (k + 1) _ lo hi N n _ false lw 0 (by lia) (by lia) (by lia) L2 rX rY ⟨Or.inl rfl, fun z => absurd z (by decide), fun _ => ⟨a0, rfl, ⟨fun z => absurd z (by decide), fun z => by rw [nok] at z; exact absurd z (by decide)⟩, fun z => absurd z (by decide)⟩⟩ (by lia) (fun _ z => absurd z (by decide))
          unfold f_cFrame_acknowledges_b116 f_cFrame_acknowledges_b117
          by_cases g0 : good = 0
          · rw [if_pos g0, if_pos rfl]
            refine bad _ ?_
            have : eOk B A p0 k ≠ true := fun z => by have := a2.mpr z; lia
            unfold eOk; simp [this]
          · have g1' : good = 1 := by lia
            have ok1 := a2.mp g1'
            rw [if_neg g0, hlow rfl g1']
            have tl := eTop_lt (B := B) (p0 := p0) hA k
            have bt := eOk_bot ok1
            have tl2 := tl.2 bt
            have tl3 := eTop_lt (B := B) (p0 := p0) hA (k + 1)
            have nv1 := nvl_lt B at_
            have nv2 := nvl_lt B (at_ + nsz B at_)
            have e1 : eTop B A p0 (k + 1) = eBot B A p0 k - nvl B at_ - 2 := by rw [eTop_s, ← a1]
            have e2 : eBot B A p0 (k + 1) = eTop B A p0 (k + 1) - nvl B (at_ + nsz B at_) := by rw [eBot_s, ← a1]
            have q1 : w64 (eBot B A p0 k - nvl B at_) = eBot B A p0 k - nvl B at_ := w64_id ⟨by lia, by lia⟩
            have q2 : w64 (eBot B A p0 k - nvl B at_ - 2) = eTop B A p0 (k + 1) := by rw [w64_id ⟨by lia, by lia⟩]; lia
            have q3 : w64 (eTop B A p0 (k + 1) - nvl B (at_ + nsz B at_)) = eBot B A p0 (k + 1) := by rw [w64_id ⟨by lia, by lia⟩]; lia
            rw [q1, q2, q3]
            by_cases c2 : eBot B A p0 (k + 1) < 0
            · rw [if_pos c2, if_pos rfl]
              refine bad _ ?_
              unfold eOk; simp only [Bool.and_eq_false_iff, decide_eq_false_iff_not]; right; lia
            · rw [if_neg c2, if_neg (by decide)]
              have ok2 : eOk B A p0 (k + 1) = true := by unfold eOk; simp only [Bool.and_eq_true, decide_eq_true_eq]; exact ⟨ok1, by lia⟩
              obtain ⟨n1, vals⟩ := a3 g1'
              refine wp_b1o (c_span L2.S (by lia) (by rw [hN_adv]; lia) (by rw [hZ_adv]; lia)) (fun h3 _ q => ?_)
              obtain ⟨lo', hi', N', S', vs, u1, u2, X', rX', rY', cc⟩ := q
              unfold f_cFrame_acknowledges_b138
              rw [wp_lt1, w1]
              refine ih (k + 1) h3 lo' hi' N' (n + 1) _ false _ 1 (by lia) (by lia) (by lia) (L2.sp S' X' cc) (by rw [hN_adv] at rX'; lia) (by rw [hZ_adv] at rY'; lia) ⟨Or.inr rfl, fun z => absurd z (by decide), fun _ => ⟨a0, rfl, ⟨fun _ => ok2, fun _ => rfl⟩, fun _ => ⟨by lia, fun j hj => ?_⟩⟩⟩ (by lia) (fun _ _ => rfl)
              by_cases jj : j = k + 1
              · subst jj
                rw [← n1]
                rw [← n1] at u1 u2
                exact ⟨u1, u2⟩
              · have := vs j (by lia)
                rw [this.1, this.2, hJ_adv, hJ_adv]
                exact vals j (by lia)
        · have ok' : nB B (nA B at_ e false) e (nB B at_ e false) = true := by simpa using ok
          have lt := eQ ok'
          rw [ok'] at L2 ⊢
          have fin : ∀ (h' : Hp) (lo' hi' N' n' : Nat) (lw gd : Int), AKc h' F I r e B kind A D lo' hi' N' n' (nA B (nA B at_ e false) e (nB B at_ e false)) true → hN h' + (2048 - N') ≤ X → hZ h' + 4 * (2048 - N') ≤ Y → (gd = 0 ∨ gd = 1) → n' ≤ k + 2 → wp (f_cFrame_acknowledges_b138 (f_cFrame_acknowledges_b64_lp f) F I (R : Int) lw gd (k : Int) h') Q := fun h' lo' hi' N' n' lw gd L' x y hg hn' => by
            unfold f_cFrame_acknowledges_b138
            rw [wp_lt1, w1]
            exact ih (k + 1) h' lo' hi' N' n' _ true lw gd (by lia) (by lia) (by lia) L' x y ⟨hg, fun _ => Or.inr lt, fun z => absurd z (by decide)⟩ (by lia) (fun z => absurd z (by decide))
          unfold f_cFrame_acknowledges_b116 f_cFrame_acknowledges_b117
          by_cases g0 : good = 0
          · rw [if_pos g0, if_pos rfl]
            exact fin _ lo hi N n _ _ L2 rX rY (Or.inl rfl) (by lia)
          · rw [if_neg g0]
            split
            · rw [if_pos rfl]
              exact fin _ lo hi N n _ _ L2 rX rY (Or.inl rfl) (by lia)
            · rw [if_neg (by decide)]
              refine wp_b1o (c_span L2.S (by lia) (by rw [hN_adv, hN_adv]; lia) (by rw [hZ_adv, hZ_adv]; lia)) (fun h3 _ q => ?_)
              obtain ⟨lo', hi', N', S', vs, u1, u2, X', rX', rY', cc⟩ := q
              exact fin h3 lo' hi' N' (n + 1) _ _ (L2.sp S' X' cc) (by rw [hN_adv, hN_adv] at rX'; lia) (by rw [hZ_adv, hZ_adv] at rY'; lia) (Or.inr rfl) (by lia)
end
