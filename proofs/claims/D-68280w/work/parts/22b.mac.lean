/-! the class's Mac: begin, add, end -/
theorem c_macBegin {a r n : Nat} {K T : Nat → Int} {h : Hp} (L : LMac h a) (S : SC h) (hr : r ≠ 0) (hd : r < a ∨ a + 10 < r) (hn : n ≤ 64) (hln : n ≤ ln h r) (hK : ∀ j, j < n → hI h r j % 256 = K j % 256) : wp (f_cMac_begin a r (n : Int) h) (fun h' => MacS h' a n K 0 T) := by
  have l0 := L.1
  obtain ⟨-, ⟨l1, l2, l3, l4, l5, l6⟩, LI, LO⟩ := id L
  unfold f_cMac_begin
  have e := lq_cMac_begin_b2 (v0 := a) (v1 := r) (v2 := (n : Int)) FU 0 h (by omega) (by unfold FU; omega) (by omega) (by rw [l3]; omega) (by omega) (by rw [l3]; omega) (by rw [l3, l5]; intro j _ hj _ _; exact ⟨by omega, by omega⟩) (by intro j _ _ _ _; exact hr) (by intro j _ hj _ h2; exact ⟨by omega, by omega⟩) (by rw [l3]; omega) (by rw [l3, l5]; intro j _ hj _ _; exact ⟨by omega, by omega⟩) (by rw [l3]; omega)
  have e' : f_cMac_begin_b2_lp FU a r (n : Int) 0 h = _ := e
  rw [e', l3]
  unfold lx_cMac_begin_b2
  rw [if_pos (by omega)]
  refine c_macB (L.of rfl rfl) (S.of rfl rfl (fun k => by rw [hI_fI, if_neg (by omega)]) (fun k => by rw [hI_fI, if_neg (by omega)])) (fun j hj => ?_)
  rw [hI_fI, if_pos ⟨rfl, by omega, by omega⟩, Nat.sub_zero]
  unfold kpad
  rw [if_neg (by omega)]
  by_cases hjn : j < n
  · rw [if_neg (by omega), if_pos hjn, i8_mod]; exact hK j hjn
  · rw [if_pos (by omega), if_neg hjn]; rfl
theorem c_macAdd {a r n m fr cnt : Nat} {K T : Nat → Int} {h : Hp} (L : LMac h a) (S : SC h) (Q : MacS h a n K m T) (hr : r ≠ 0) (hd : r < a ∨ a + 10 < r) (hz : fr + cnt < 2147483648) (hf : cnt < 1000000000) (hm : m < 100000000) (hln : fr + cnt ≤ ln h r) (hT : ∀ j, j < cnt → hI h r (fr + j) % 256 = T (m + j) % 256) : wp (f_cMac_add a r (fr : Int) (cnt : Int) h) (fun h' => MacS h' a n K (m + cnt) T ∧ HF (a + 1) h h') := by
  have l0 := L.1
  obtain ⟨-, ⟨l1, l2, l3, l4, l5, l6⟩, LI, LO⟩ := id L
  obtain ⟨⟨q1, q2⟩, q3, q4⟩ := Q
  unfold f_cMac_add
  rw [l1, wp_cn]
  refine ⟨by omega, ?_⟩
  refine wp_b1o (c_add (a := a + 1) (r := r) (N := 64 + m) (cnt := cnt) (fr := fr) hr (by omega) hz hf LI S q1 hln (fun j hj => ?_)) (fun g e q => ?_)
  · rw [hT j hj]
    unfold hmI
    rw [if_neg (by omega), show 64 + m + j - 64 = m + j by omega]
  · have F := HF.of_add LI e
    rw [wp_some]
    refine ⟨⟨⟨by rw [← Nat.add_assoc]; exact q.1, ?_⟩, HS.frame (a := a) q3 (fun x k h1 h2 => F.2.1 x k (by omega)), ?_⟩, F⟩
    · rw [q.2, q2, w64_id ⟨by omega, by omega⟩]; omega
    · rw [F.2.2 _ _ (by omega)]; exact q4
theorem c_macEnd {a to at_ n m : Nat} {K T : Nat → Int} {h : Hp} (L : LMac h a) (S : SC h) (Q : MacS h a n K m T) (hm : m < 10000000) (ht : to ≠ 0) (hd : to < a ∨ a + 10 < to) (hz : at_ + 32 < 2147483648) (hln : at_ + 32 ≤ ln h to) : wp (f_cMac_end a to (at_ : Int) h) (fun h' => (∀ k, k < 32 → hI h' to (at_ + k) = i8 (HMAC n K m T k)) ∧ (∀ j, j < at_ ∨ at_ + 32 ≤ j → hI h' to j = hI h to j)) := by
  have l0 := L.1
  obtain ⟨-, ⟨l1, l2, l3, l4, l5, l6⟩, LI, LO⟩ := id L
  obtain ⟨⟨q1, q2⟩, q3, q4⟩ := Q
  unfold f_cMac_end
  rw [l1, l4, wp_cn]
  refine ⟨by omega, ?_⟩
  have w1 := c_end (a := a + 1) (n := 64 + m) (to := a + 10) (at_ := 0) LI S q1 (by rw [q2]; omega) (by omega) (by omega) (by omega) (by omega) (by rw [l6]; omega)
  refine wp_b1o w1 (fun g1 e1 p1 => ?_)
  have F1 := HFe.of_end LI e1
  have G1 : LMac g1 a := L.of F1.1.1 F1.1.2
  have S1 : SC g1 := S.of F1.1.1 F1.1.2 (fun k => F1.2.1 31 k (by omega) (by omega)) (fun k => F1.2.1 32 k (by omega) (by omega))
  rw [F1.1.1, l2, l4, wp_cn]
  refine ⟨by omega, ?_⟩
  have q5 : HS g1 (a + 5) 64 (hmO n K (SHA (64 + m) (hmI n K T))) := HS.congr (HS.frame (a := a) q3 (fun x k h1 h2 => F1.2.1 x k (by omega) (by omega))) (fun j hj => by unfold hmO; rw [if_pos hj, if_pos hj])
  have w2 := c_add (a := a + 5) (r := a + 10) (N := 64) (cnt := 32) (fr := 0) (by omega) (by omega) (by omega) (by omega) G1.2.2.2 S1 q5 (by rw [F1.1.2, l6]; omega) (fun j hj => by
    rw [p1.1 j hj, i8_mod]
    unfold hmO
    rw [if_neg (by omega), show 64 + j - 64 = j by omega])
  refine wp_b1o w2 (fun g2 e2 p2 => ?_)
  have F2 := HF.of_add G1.2.2.2 e2
  have G2 : LMac g2 a := G1.of F2.1.1 F2.1.2
  have S2 : SC g2 := S1.of F2.1.1 F2.1.2 (fun k => F2.2.1 31 k (by omega)) (fun k => F2.2.1 32 k (by omega))
  rw [F2.1.1, F1.1.1, l2, wp_cn]
  refine ⟨by omega, ?_⟩
  have w3 := c_end (a := a + 5) (n := 96) (to := to) (at_ := at_) G2.2.2.2 S2 p2.1 (by rw [p2.2, F1.2.2, q4]; decide) (by omega) ht (by omega) hz (by rw [F2.1.2, F1.1.2]; exact hln)
  refine wp_b1o w3 (fun g3 e3 p3 => ?_)
  rw [wp_some]
  refine ⟨fun k hk => ?_, fun j hj => ?_⟩
  · rw [p3.1 k hk]; rfl
  · rw [p3.2 j hj, F2.2.1 to j (by omega), F1.2.1 to j (by omega) (by omega)]
