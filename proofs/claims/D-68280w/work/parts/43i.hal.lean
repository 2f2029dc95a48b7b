/-! streams, class: bytes are written -/
section
variable {h h' h'' : Hp} {a s i j k x y m np np' : Nat} {w w' w'' : Nat → Nat} {z z' z'' : HSt} {v b was c la : Int} {A Z X A' Z' X' : Nat → Int} {n : Nat} {e : Nat → Nat} {l : List Nat}
theorem StS.cg (S : StS A Z X np c la n e l) (hn : np ≤ np') (q : ∀ k, k ∈ l → A' k = A k ∧ Z' k = Z k ∧ X' k = X k) : StS A' Z' X' np' c la n e l := by
  obtain ⟨a1, a2, a3, a4, a5, a6, a7⟩ := S
  refine ⟨a1.cg (fun k hk => (q k hk).2.2), a2, a3, fun k hk => ?_, a5.cg (fun k hk => ⟨(q k hk).1, (q k hk).2.1⟩) (fun _ _ _ => rfl), ?_, Nat.le_trans a7 hn⟩
  · rw [(q k hk).1, (q k hk).2.1]
    have := a4 k hk
    exact ⟨by omega, this.2⟩
  · rw [totZ_cg (fun k hk => (q k hk).2.1)]; exact a6
/-- records, numbers and the store change, nothing else -/
theorem HC.st2 (C : HC h a w s z) (e : ∀ x, w x ≠ 0 → ¬ (w x = 1 ∨ w x = 5 ∨ w x = 6 ∨ w x = 10 ∨ 1000 ≤ w x) → Sx h h' x) (n : hN h ≤ hN h') (er : hR h' = hR h) (el : ln h' = ln h)
    (q : HCq h' a s z' ∧ HCw h' (a + 4) 0 z' ∧ HCw h' (a + 5) 1 z') (ci : ∀ i, i < 256 → HCi h' a w s z' i) (co : HCo h' a z')
    (es : ∀ i, i < 256 → hR h (a + 1) i ≠ 0 → ∀ k, 6 ≤ k → k ≤ 7 → hI h' (hR h (a + 1) i) k = hI h (hR h (a + 1) i) k) (eg : ∀ i, i < 256 → hR h (a + 2) i ≠ 0 → hI h' (hR h (a + 2) i) 7 = hI h (hR h (a + 2) i) 7)
    (zq : ∀ k, (30 ≤ k ∧ k < 50) → zQ z' k = zQ z k) (zp : ∀ i, zP z' 11 i = zP z 11 i ∧ zP z 13 i ≤ zP z' 13 i ∧ (zP z' 10 i = 4 ↔ zP z 10 i = 4)) (zM' : zM z' = zM z) (zH' : zH z' = zH z) (zW' : zW z' = zW z) : HC h' a w s z' := by
  obtain ⟨⟨L, W⟩, ⟨q1, q2, q3, q4⟩, ci0, cm, co0, cb⟩ := C
  have D8 := (e _ (by rw [W.sp.1]; decide) (by rw [W.sp.1]; decide) : Sx h h' (a + 8))
  have D17 := (e _ (by rw [W.sp.2]; decide) (by rw [W.sp.2]; decide) : Sx h h' (a + 17))
  have o6 : Sx h h' (a + 6) := e _ (by rw [W.own 6]; decide) (by rw [W.own 6]; decide)
  have o7 : Sx h h' (a + 7) := e _ (by rw [W.own 7]; decide) (by rw [W.own 7]; decide)
  have L' : LHl h' a := L.of er el
  have W' : HW h' a w := by
    obtain ⟨w1, w2, w3, w4, w5, w6, w7⟩ := W
    exact ⟨w1, fun x hx => w2 x ((SpD.same D8).1 hx), fun x hx => w3 x (by unfold SoD at hx ⊢; rw [er] at hx; exact hx), fun x hx => w4 x ((BlD.same D17).1 hx), w5, w6, fun x hx => ⟨(w7 x hx).1, Nat.lt_of_lt_of_le (w7 x hx).2 n⟩⟩
  refine ⟨⟨L', W'⟩, ⟨q.1, q.2.1, q.2.2, ⟨fun k hk => by rw [o6.i, zq _ (by omega)]; exact q4.1 k hk, fun k hk => by rw [o7.j, zq _ (by omega)]; exact q4.2 k hk⟩⟩, ci, ?_, co, ?_⟩
  · exact cm.same n (fun x hx => e x (by rw [W.2.1 x hx]; decide) (by rw [W.2.1 x hx]; decide)) (fun i hi => ⟨by rw [er], fun q => ⟨es i hi q 6 (by decide) (by decide), es i hi q 7 (by decide) (by decide)⟩⟩) zM'
  · exact cb.same n (fun x hx => e x (by rw [W.2.2.2.1 x hx]; decide) (by rw [W.2.2.2.1 x hx]; decide)) (fun i hi => ⟨by rw [er], fun q => eg i hi q⟩) zp zH' zW'
theorem c_hWrite {id : Int} {row fr nn : Nat} (C : HC h a w s z) (V : HV s z) (h50 : zQ z 50 < 64) (r0 : row ≠ 0) (rw0 : w row = 0) (hr : fr + nn ≤ ln h row) (hz : fr + nn < 900000) :
    (¬ (0 ≤ id ∧ id < 256 ∧ zP z 0 id.toNat = 1 ∧ zSd s id.toNat ∧ zP z 1 id.toNat = 0) → f_cHall_write a id row (fr : Int) (nn : Int) h = some (-1, h)) ∧ ((0 ≤ id ∧ id < 256 ∧ zP z 0 id.toNat = 1 ∧ zSd s id.toNat ∧ zP z 1 id.toNat = 0) → ∃ t h', t = min nn (65536 - (zQ z 9).toNat) ∧ f_cHall_write a id row (fr : Int) (nn : Int) h = some ((t : Int), h') ∧ HC h' a w s (zWr z id.toNat t (fun j => hI h row (fr + j))) ∧ HO h a w z h' w (zWr z id.toNat t (fun j => hI h row (fr + j)))) := by
  have W := C.W
  have L := C.L
  have l0 := L.1
  have r7 := L.rr.2.2.2.2.2.2.1
  unfold f_cHall_write f_cHall_write_b20
  rw [c_hSnd C.L, b2_some]
  by_cases d : 0 ≤ id ∧ id < 256
  · obtain ⟨i, rfl⟩ : ∃ i : Nat, id = i := ⟨id.toNat, by omega⟩
    have hi : i < 256 := by omega
    rw [if_pos d, Int.toNat_natCast]
    by_cases x0 : hR h (a + 1) i = 0
    · rw [if_pos x0]
      have n0 : ¬ (zP z 0 i = 1 ∧ zSd s i) := fun t => (C.x0 hi).2 t x0
      exact ⟨fun _ => rfl, fun t => absurd ⟨t.2.2.1, t.2.2.2.1⟩ n0⟩
    · have sd := (C.x0 hi).1 x0
      have xw := C.xw hi x0
      obtain ⟨s0, s1, s2, s3, s8, s9, s10, s11⟩ := C.xs hi x0
      obtain ⟨v1, v2, v3, v4, v5, v6, v7, v8, v9, v10⟩ := V.S hi
      have us := V.used
      rw [if_neg x0, if_neg x0, s0]
      by_cases e : zP z 1 i = 0
      · rw [if_pos e, r7, if_neg (by omega)]
        refine ⟨fun t => absurd ⟨d.1, d.2, sd.1, sd.2, e⟩ t, fun _ => ?_⟩
        obtain ⟨np, A, Z, X, LL, c1, c2, c3, c4⟩ := C.2.2.2.2.1
        have St := (c4 i hi).1 x0
        have nd : ¬ SoD h (a + 12) (hR h (a + 1) i) := fun t => by have := W.2.2.1 _ t; omega
        have nr : ¬ SoD h (a + 12) row := fun t => by have := W.2.2.1 _ t; omega
        have rx : row ≠ hR h (a + 1) i := fun t => by rw [t, xw] at rw0; omega
        have e1 : hI h (hR h (a + 1) i) 1 = (((zP z 2 i).toNat : Nat) : Int) := by rw [s1]; omega
        obtain ⟨t, np', c', la', A', Z', X', l', h', u0, u1, u2, u3, u4, u5, u6, u7, u8, u9, u10, u11⟩ := c_stadd c1 St (by omega) x0 nd r0 nr rx rfl rfl e1 (by omega) hr hz
        rw [u1, b2_some]
        refine ⟨t, h', u0, rfl, ?_, ?_⟩
        · have ne : ∀ x, w x ≠ 10 → w x ≠ 1000 + i → Sx h h' x := fun x h1 h2 => u11.x.s (fun t => by
            rcases t with t | t
            · exact h1 (W.2.2.1 x t)
            · exact h2 (by rw [t]; exact xw))
          have pj : ∀ f j, (j ≠ i ∨ f ≠ 2) → zP (zWr z i t (fun j => hI h row (fr + j))) f j = zP z f j := fun f j hh => by
            unfold zWr
            rw [zP_uQ, zP_uQ]
            rcases hh with hh | hh
            · rw [zP_uPj hh]; rfl
            · rw [zP_uPn hh]; rfl
          have p2 : zP (zWr z i t (fun j => hI h row (fr + j))) 2 i = zP z 2 i + t := by unfold zWr; rw [zP_uQ, zP_uQ, zP_uPe]
          have qk : ∀ k, k ≠ 9 → k ≠ 50 → zQ (zWr z i t (fun j => hI h row (fr + j))) k = zQ z k := fun k h1 h2 => by unfold zWr; rw [zQ_uQn h2, zQ_uQn h1]; rfl
          have q9 : zQ (zWr z i t (fun j => hI h row (fr + j))) 9 = zQ z 9 + t := by unfold zWr; rw [zQ_uQn (by decide), zQ_uQe]
          have q50 : zQ (zWr z i t (fun j => hI h row (fr + j))) 50 = zQ z 50 + 1 := by unfold zWr; rw [zQ_uQe]
          have gr : ∀ j, zGr s (zWr z i t (fun j => hI h row (fr + j))) j = zGr s z j := fun j => by unfold zGr; rw [qk 33 (by decide) (by decide), qk 31 (by decide) (by decide), qk 32 (by decide) (by decide)]
          refine C.st2 (fun x _ hx => ne x (by omega) (by omega)) (by rw [u11.n]; exact Nat.le_refl _) u11.r u11.l ⟨C.2.1.1.same (ne _ (by rw [show a = a + 0 from rfl, W.own 0]; omega) (by rw [show a = a + 0 from rfl, W.own 0]; omega)) (fun k hk => qk k (by omega) (by omega)), C.2.1.2.1.same (ne _ (by rw [W.own 4]; omega) (by rw [W.own 4]; omega)) (fun k hk => qk _ (by omega) (by omega)), C.2.1.2.2.1.same (ne _ (by rw [W.own 5]; omega) (by rw [W.own 5]; omega)) (fun k hk => qk _ (by omega) (by omega))⟩ (fun j hj => ?_) ?_ (fun j hj t' k k1 k2 => ?_) (fun j hj t' => (ne _ (by rw [C.yw hj t']; omega) (by rw [C.yw hj t']; omega)).i) (fun k hk => qk k (by omega) (by omega)) (fun j => ⟨pj 11 j (Or.inr (by decide)), by rw [pj 13 j (Or.inr (by decide))]; exact Int.le_refl _, by rw [pj 10 j (Or.inr (by decide))]⟩) rfl rfl rfl
          · unfold HCi
            rw [u11.r, pj 0 j (Or.inr (by decide))]
            refine ⟨⟨C.x0 hj, fun t' => ⟨C.xw hj t', ?_⟩⟩, ⟨C.y0 hj, fun t' => ⟨C.yw hj t', (C.ys hj t').same (ne _ (by rw [C.yw hj t']; omega) (by rw [C.yw hj t']; omega)) (fun f hf => pj f j (Or.inr (by omega))) (gr j)⟩⟩⟩
            by_cases cc : j = i
            · subst cc
              unfold HCs
              rw [p2, pj 1 j (Or.inr (by decide)), pj 3 j (Or.inr (by decide)), pj 4 j (Or.inr (by decide)), pj 5 j (Or.inr (by decide)), pj 6 j (Or.inr (by decide)), pj 7 j (Or.inr (by decide)), pj 8 j (Or.inr (by decide)), u6, u7 0 (by decide) (by decide) (by decide), u7 2 (by decide) (by decide) (by decide), u7 3 (by decide) (by decide) (by decide), u7 11 (by decide) (by decide) (by decide), u11.2]
              exact ⟨s0, by omega, s2, s3, s8, s9, s10, s11⟩
            · exact (C.xs hj t').same (ne _ (by rw [C.xw hj t']; omega) (by rw [C.xw hj t']; omega)) (fun f _ => pj f j (Or.inl cc))
          · obtain ⟨L2, eL2⟩ : ∃ L2 : Nat → List Nat, L2 = fun k => if k = i then l' else LL k := ⟨_, rfl⟩
            have L2i : L2 i = l' := by rw [eL2]; exact if_pos rfl
            have L2o : ∀ j, j ≠ i → L2 j = LL j := fun j hj => by rw [eL2]; exact if_neg hj
            refine ⟨np', A', Z', X', L2, ?_, by rw [q50]; omega, ⟨fun j j' k hjj hk hk' => ?_, fun j k hk => ?_⟩, fun j hj => ?_⟩
            · have eu : (zQ (zWr z i t (fun j => hI h row (fr + j))) 9).toNat = (zQ z 9).toNat + t := by rw [q9]; omega
              rw [eu]
              exact u2
            · have old : ∀ j, j ≠ i → ∀ k, k ∈ LL j → k < np ∧ k ∉ LL i := fun j hj k hk => ⟨c3.2 j k hk, c3.1 j i k hj hk⟩
              by_cases c5 : j = i
              · have c6 : j' ≠ i := fun t => hjj (by rw [c5, t])
                rw [c5, L2i] at hk
                rw [L2o j' c6] at hk'
                have o := old j' c6 k hk'
                rcases u10 k hk with t' | t'
                · exact o.2 t'
                · omega
              · rw [L2o j c5] at hk
                have o := old j c5 k hk
                by_cases c6 : j' = i
                · rw [c6, L2i] at hk'
                  rcases u10 k hk' with t' | t'
                  · exact o.2 t'
                  · omega
                · rw [L2o j' c6] at hk'
                  exact c3.1 j j' k hjj hk hk'
            · by_cases c5 : j = i
              · have hk2 : k ∈ l' := by rw [c5, L2i] at hk; exact hk
                exact (u3.2.2.2.1 k hk2).1
              · have hk2 : k ∈ LL j := by rw [L2o j c5] at hk; exact hk
                have := c3.2 j k hk2; omega
            · rw [u11.r]
              by_cases cc : j = i
              · subst cc
                rw [L2i, p2]
                refine ⟨fun _ => ?_, fun t' => absurd t' x0⟩
                rw [u4, u5, show (zP z 2 j + (t : Int)).toNat = (zP z 2 j).toNat + t by omega]
                have ee : zE (zWr z j t (fun k => hI h row (fr + k))) j = fun k => if k < (zP z 2 j).toNat then zE z j k else (zQ z 9).toNat + (k - (zP z 2 j).toNat) := by unfold zWr; rw [zE_uQ, zE_uQ, zE_uP, zE_uSe]
                rw [ee]; exact u3
              · rw [L2o j cc, pj 2 j (Or.inl cc)]
                refine ⟨fun t' => ?_, (c4 j hj).2⟩
                have sx := ne _ (by rw [C.xw hj t']; omega) (by rw [C.xw hj t']; omega)
                have ee : zE (zWr z i t (fun k => hI h row (fr + k))) j = zE z j := by unfold zWr; rw [zE_uQ, zE_uQ, zE_uP, zE_uSn cc]
                rw [sx.i, sx.i, ee]
                have S := (c4 j hj).1 t'
                exact S.cg u8.1 (fun k hk => u9 k (c3.1 j i k cc hk) (S.2.2.2.1 k hk).1)
          · by_cases cc : j = i
            · subst cc; exact u7 k (by omega) (by omega) (by omega)
            · exact (ne _ (by rw [C.xw hj t']; omega) (by rw [C.xw hj t']; omega)).i
        · refine HO.fx C u11.x (fun x hx => ?_) ?_
          · rcases hx with e | e
            · rw [W.2.2.1 x e]; decide
            · rw [e, xw]; omega
          · unfold hCnt zWr
            rw [zQ_uQn (by decide), zQ_uQn (by decide), zQ_uQn (by decide), zQ_uQn (by decide), zQ_uQn (by decide), zQ_uQn (by decide), zQ_uQn (by decide), zQ_uQn (by decide)]; rfl
      · rw [if_neg e]
        exact ⟨fun _ => rfl, fun t => absurd t.2.2.2.2 e⟩
  · rw [if_neg d, if_pos rfl]
    exact ⟨fun _ => rfl, fun t => absurd ⟨t.1, t.2.1⟩ d⟩
end
