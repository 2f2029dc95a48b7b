/-! guards: nonces -/
/-- the nonce of a number: an IV, its last eight bytes changed -/
def NON (V : Nat → Int) (n : Int) (k : Nat) : Int := bx (V k) (if k < 4 then 0 else n / 2 ^ (8 * (11 - k)))
theorem NON_lt (V : Nat → Int) (n : Int) (k : Nat) : 0 ≤ NON V n k ∧ NON V n k < 256 := bx_lt _ _
theorem c_gbegin {g b : Nat} {K V : Nat → Int} {n cc : Int} {c : BitVec 32} {h : Hp} (L : LGu h g) (LB : LBn h b) (hd : g + 4 < b ∨ b + 28 < g) (hK : ∀ j, j < 32 → hI h (g + 2) j % 256 = K j % 256) (hV : ∀ j, j < 12 → hI h (g + 3) j % 256 = V j % 256) (hn : c64 n) (hc : bv cc = c) (hcc : c32 cc) : wp (f_cGuard_begin g b n cc h) (fun h' => XS h' (b + 17) (CF K (NON V n) c)) := by
  have l0 := L.1
  have b0 := LB.1
  unfold f_cGuard_begin
  have e := lq_cGuard_begin_b3 (v0 := g) (v1 := b) (v2 := n) (v4 := cc) FU 0 h (by omega) (by unfold FU; omega) (by omega) (by omega) (by rw [L.r0_2]; omega) (by rw [L.r0_2, L.l3]; intro j _ hj; exact ix16 hj) (by rw [LB.r0_4]; intro j _ _ _; omega) (by rw [LB.r0_4, LB.l26]; intro j _ hj _; exact ix16 hj) (by rw [LB.r0_4]; intro j _ _ _; omega) (by rw [LB.r0_4, LB.l26]; intro j _ hj _; exact ix16 hj) (by rw [L.r0_2, LB.r0_4]; omega)
  have e' : f_cGuard_begin_b3_lp FU g b n cc 0 h = _ := e
  rw [e', LB.r0_4, L.r0_2]
  clear e e'
  unfold lx_cGuard_begin_b3
  generalize hE : (fun j : Nat => if 4 ≤ (j : Int) then i8 (i8 (iXor (hI h (g + 3) j) (w32 (lShr n (w32 (88 - w32 (8 * (j : Int)))))))) else i8 (i8 (iXor (hI h (g + 3) j) 0))) = E
  have hNon : ∀ j, j < 12 → E j % 256 = NON V n j % 256 := fun j hj => by
    rw [← hE]
    have nl := NON_lt V n j
    rw [Int.emod_eq_of_lt nl.1 nl.2]
    unfold NON
    show (if 4 ≤ (j : Int) then i8 (i8 (iXor (hI h (g + 3) j) (w32 (lShr n (w32 (88 - w32 (8 * (j : Int)))))))) else i8 (i8 (iXor (hI h (g + 3) j) 0))) % 256 = _
    by_cases h4 : 4 ≤ j
    · have e1 : w32 (8 * (j : Int)) = ((8 * j : Nat) : Int) := w_4k (c := 8) (by omega)
      have e2 : w32 (88 - ((8 * j : Nat) : Int)) = ((8 * (11 - j) : Nat) : Int) := by clear e1; unfold w32; omega
      rw [if_pos (by omega), if_neg (by omega), i8_1, i8_m, iXor_256]
      simp only [e1, e2]
      clear e1 e2
      refine bx_cong (hV j hj) ?_
      rw [lShr_eq hn (by omega), w32_m256]
    · rw [if_neg (by omega), if_pos (by omega), i8_1, i8_m, iXor_256]
      exact bx_cong (hV j hj) rfl
  have LB1 : LBn (fI h (b + 26) 0 0 12 E) b := LB.of rfI lfI
  have L1 : LGu (fI h (b + 26) 0 0 12 E) g := L.of rfI lfI
  have k1 : ∀ j, j < 32 → hI (fI h (b + 26) 0 0 12 E) (g + 2) j % 256 = K j % 256 := fun j hj => by rw [hI_fI, if_neg (by omega)]; exact hK j hj
  have n1 : ∀ j, j < 12 → hI (fI h (b + 26) 0 0 12 E) (b + 26) (0 + j) % 256 = NON V n j % 256 := fun j hj => by
    rw [hI_fI, if_pos ⟨rfl, by omega, by omega⟩, Nat.zero_add, Nat.sub_zero]; exact hNon j hj
  generalize fI h (b + 26) 0 0 12 E = h1 at *
  rw [wp_cn]
  refine ⟨by omega, ?_⟩
  rw [LB1.r0_1, wp_cn]
  refine ⟨by omega, ?_⟩
  rw [L1.r0_1, LB1.r0_4]
  refine wp_b1o (c_kbegin (a := b + 16) (key := g + 2) (r := b + 26) (at_ := 0) LB1.s16_LKs (by omega) (by omega) (by rw [L1.l2]; omega) k1 (by omega) (by omega) (by omega) (by rw [LB1.l26]; omega) n1 hc hcc) (fun h' _ q => ?_)
  rw [wp_some]
  exact q
