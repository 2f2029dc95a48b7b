/-! guards: seal -/
/-- bytes behind a head, covered -/
def COV (K N R : Nat → Int) (head j : Nat) : Int := if j < head then R j % 256 else bx (R j) (KSB K N 1#32 (j - head))
theorem COV_lt (K N R : Nat → Int) (head j : Nat) : 0 ≤ COV K N R head j ∧ COV K N R head j < 256 := by
  unfold COV
  split
  · omega
  · exact bx_lt _ _
theorem byt_lt (T : Int) (k : Nat) : 0 ≤ byt T k ∧ byt T k < 256 := by unfold byt; generalize T / 2 ^ (8 * k) = z; omega
theorem TAG_lt (K N R : Nat → Int) (head body j : Nat) : 0 ≤ TAG K N R head body j ∧ TAG K N R head body j < 256 := byt_lt _ _
def RkF (b : Nat) (h h' : Hp) : Prop := (hR h' = hR h ∧ ln h' = ln h) ∧ ∀ x k, x < b ∨ b + 28 < x → hI h' x k = hI h x k
theorem RkF.of {g b row : Nat} {n f hd sz : Int} {h h' : Hp} (LB : LBn h b) (e : f_cGuard_reckon g b n row f hd sz h = some h') : RkF b h h' := by
  have F : Fe (wI_cGuard_reckon g b n row f hd sz h) (wJ_cGuard_reckon g b n row f hd sz h) h h' := fe_cGuard_reckon g b n row f hd sz h _ e
  exact ⟨⟨F.r, F.l⟩, fun x k hx => F.I (by simp only [wI_cGuard_reckon, LB.r0_1, LB.r0_2, LB.r0_4, LB.r0_5, LB.r0_6, LB.r16_0, LB.r16_1, LB.r16_2, LB.r20_3]; intro z; rcases z with z | z | z | z | z | z | z | z | z <;> omega)⟩
theorem RkF.begin {g b : Nat} {n c : Int} {h h' : Hp} (LB : LBn h b) (e : f_cGuard_begin g b n c h = some h') : RkF b h h' := by
  have F : Fe (wI_cGuard_begin g b n c h) (wJ_cGuard_begin g b n c h) h h' := fe_cGuard_begin g b n c h _ e
  exact ⟨⟨F.r, F.l⟩, fun x k hx => F.I (by simp only [wI_cGuard_begin, LB.r0_1, LB.r0_4, LB.r16_0]; intro z; rcases z with z | z <;> omega)⟩
def CoF (b row : Nat) (h h' : Hp) : Prop := (hR h' = hR h ∧ ln h' = ln h) ∧ ∀ x k, (x < b ∨ b + 28 < x) → x ≠ row → hI h' x k = hI h x k
theorem CoF.of {b row : Nat} {f n : Int} {h h' : Hp} (LB : LBn h b) (e : f_cKeystream_cover (b + 16) row f n h = some h') : CoF b row h h' := by
  have F : Fe (wI_cKeystream_cover (b + 16) row f n h) (wJ_cKeystream_cover (b + 16) row f n h) h h' := fe_cKeystream_cover (b + 16) row f n h _ e
  exact ⟨⟨F.r, F.l⟩, fun x k hx ht => F.I (by simp only [wI_cKeystream_cover, LB.r16_0, LB.r16_1, LB.r16_2]; intro z; rcases z with z | z | z | z <;> omega)⟩
theorem c_seal {g b row from_ head size : Nat} {K V R : Nat → Int} {n : Int} {h : Hp} (L : LGu h g) (LB : LBn h b) (hd : g + 4 < b ∨ b + 28 < g) (hK : ∀ j, j < 32 → hI h (g + 2) j % 256 = K j % 256) (hV : ∀ j, j < 12 → hI h (g + 3) j % 256 = V j % 256) (hn : c64 n) (hr : row ≠ 0) (hrd : row < b ∨ b + 28 < row) (hrg : row < g ∨ g + 4 < row) (hhs : head ≤ size) (hz : from_ + size < 700000000) (hl : from_ + size + 16 ≤ ln h row) (hR : ∀ j, j < size → hI h row (from_ + j) % 256 = R j % 256) :
    wp (f_cGuard_seal g b n row (from_ : Int) (head : Int) (size : Int) h) (fun o => o.1 = ((size + 16 : Nat) : Int) ∧ (∀ j, j < head → hI o.2 row (from_ + j) = hI h row (from_ + j)) ∧ (∀ j, head ≤ j → j < size → hI o.2 row (from_ + j) = i8 (COV K (NON V n) R head j)) ∧ (∀ j, j < 16 → hI o.2 row (from_ + size + j) = i8 (TAG K (NON V n) (COV K (NON V n) R head) head (size - head) j)) ∧ ∀ j, j < from_ ∨ from_ + size + 16 ≤ j → hI o.2 row j = hI h row j) := by
  have l0 := L.1
  have b0 := LB.1
  unfold f_cGuard_seal
  refine wp_b1o (c_gbegin (cc := 1) (c := 1#32) L LB hd hK hV hn rfl (by decide)) (fun h1 e1 q1 => ?_)
  have F1 := RkF.begin LB e1
  have LB1 := LB.of F1.1.1 F1.1.2
  have L1 := L.of F1.1.1 F1.1.2
  have w1 : w32 ((from_ : Int) + (head : Int)) = ((from_ + head : Nat) : Int) := w_ck (by omega)
  have w2 : w32 ((size : Int) - (head : Int)) = ((size - head : Nat) : Int) := by clear w1; unfold w32; omega
  have w3 : w32 ((from_ : Int) + (size : Int)) = ((from_ + size : Nat) : Int) := by clear w1 w2; exact w_ck (by omega)
  have w4 : w32 ((size : Int) + 16) = ((size + 16 : Nat) : Int) := by clear w1 w2 w3; exact w_ck (k := 16) (by omega)
  simp only [w1, w2, w3, w4]
  clear w1 w2 w3 w4
  rw [wp_cn]
  refine ⟨by omega, ?_⟩
  rw [LB1.r0_1, wp_cn]
  refine ⟨by omega, ?_⟩
  refine wp_b1o (c_cover (a := b + 16) (from_ := from_ + head) (n := size - head) LB1.s16_LKs q1 hr (by omega) (by omega) (by rw [F1.1.2]; omega)) (fun h2 e2 q2 => ?_)
  have F2 := CoF.of LB1 e2
  have LB2 := LB1.of F2.1.1 F2.1.2
  have L2 := L1.of F2.1.1 F2.1.2
  have r2 : ∀ j, j < size → hI h2 row (from_ + j) % 256 = COV K (NON V n) R head j % 256 := fun j hj => by
    unfold COV
    by_cases g1 : j < head
    · rw [q2.2 _ (by omega), F1.2 _ _ (by omega), hR j hj, if_pos g1, Int.emod_emod]
    · have := q2.1 (j - head) (by omega)
      rw [show from_ + head + (j - head) = from_ + j by omega] at this
      rw [this, if_neg g1, i8_m, F1.2 _ _ (by omega), bx_cong (hR j hj) rfl]
  have x2 : ∀ j, head ≤ j → j < size → hI h2 row (from_ + j) = i8 (COV K (NON V n) R head j) := fun j g1 g2 => by
    have := q2.1 (j - head) (by omega)
    rw [show from_ + head + (j - head) = from_ + j by omega] at this
    unfold COV
    rw [this, if_neg (by omega), F1.2 _ _ (by omega), bx_cong (hR j g2) rfl]
  refine wp_b1o (c_reckon (K := K) (V := V) (R := COV K (NON V n) R head) L2 LB2 hd (fun j hj => by rw [F2.2 _ _ (by omega) (by omega), F1.2 _ _ (by omega)]; exact hK j hj) (fun j hj => by rw [F2.2 _ _ (by omega) (by omega), F1.2 _ _ (by omega)]; exact hV j hj) hn hr hrd hhs (by omega) (by rw [F2.1.2, F1.1.2]; omega) r2) (fun h3 e3 q3 => ?_)
  have F3 := RkF.of LB2 e3
  have LB3 := LB2.of F3.1.1 F3.1.2
  rw [LB3.r0_6, wp_cn]
  refine ⟨by omega, ?_⟩
  rw [wp_cn]
  refine ⟨hr, ?_⟩
  rw [wp_ck]
  refine ⟨by rw [LB3.l28, F3.1.2, F2.1.2, F1.1.2]; unfold cpk; omega, ?_⟩
  rw [wp_lt1, wp_some, Int.toNat_natCast]
  have ht : Int.toNat 16 = 16 := rfl
  have h00 : Int.toNat 0 = 0 := rfl
  rw [ht, h00]
  refine ⟨rfl, fun j hj => ?_, fun j g1 g2 => ?_, fun j hj => ?_, fun j hj => ?_⟩
  · rw [hI_cI, if_neg (by omega), F3.2 _ _ (by omega), q2.2 _ (by omega), F1.2 _ _ (by omega)]
  · rw [hI_cI, if_neg (by omega), F3.2 _ _ (by omega)]; exact x2 j g1 g2
  · rw [hI_cI, if_pos ⟨rfl, by omega, by omega⟩, show 0 + (from_ + size + j - (from_ + size)) = j by omega]; exact q3 j hj
  · rw [hI_cI, if_neg (by omega), F3.2 _ _ (by omega), q2.2 _ (by omega), F1.2 _ _ (by omega)]
