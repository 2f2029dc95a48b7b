/-! the model's Seals: mac, digest, arm -/
theorem m_mac47 {s to : Nat} {D : Nat → Int} {g : Hp} (L : LSeals g s) (ht : to ≠ 0) (hd : to < s ∨ s + 23 < to) (hln : 32 ≤ ln g to) (hD : ∀ k, k < 32 → hI g (s + 9) k = D k) : wp (f_mSeals_mac_b47_lp FU s to 0 g) (fun h' => (∀ k, k < 32 → hI h' to k = D k) ∧ ∀ j, 32 ≤ j → hI h' to j = hI g to j) := by
  have l0 := L.1
  have e := lq_mSeals_mac_b47 (v0 := s) (v7 := to) FU 0 g (by omega) (by unfold FU; omega) (by omega) (by rw [L.r8]; omega) (by rw [L.r8, L.l9]; intro j _ hj; exact ⟨by omega, by omega⟩) ht (by intro j _ hj; exact ⟨by omega, by omega⟩) (by rw [L.r8]; omega)
  have e' : f_mSeals_mac_b47_lp FU s to 0 g = _ := e
  rw [e', L.r8]
  clear e e'
  unfold lx_mSeals_mac_b47
  rw [wp_some]
  refine ⟨fun k hk => ?_, fun j hj => ?_⟩
  · rw [hI_fI, if_pos ⟨rfl, by omega, by omega⟩]; exact hD k hk
  · rw [hI_fI, if_neg (by omega)]
theorem m_mac {s key at_ n row from_ size to : Nat} {K T : Nat → Int} {h : Hp} (L : LSeals h s) (M : MCs h s) (hr : key ≠ 0) (hd : key < s ∨ s + 23 < key) (hn : n ≤ 64) (hln : at_ + n ≤ ln h key) (hz : at_ + 64 < 2147483648) (hK : ∀ j, j < n → 0 ≤ hI h key (at_ + j) ∧ hI h key (at_ + j) < 256 ∧ hI h key (at_ + j) = K j % 256)
    (hw : row ≠ 0) (hwd : row < s ∨ s + 23 < row) (hwl : from_ + size ≤ ln h row) (hwz : from_ + size < 2147483648) (hs : size + 136 ≤ 2400) (ht : to ≠ 0) (htd : to < s ∨ s + 23 < to) (htl : 32 ≤ ln h to) (hT : ∀ j, j < size → 0 ≤ hI h row (from_ + j) ∧ hI h row (from_ + j) < 256 ∧ hI h row (from_ + j) = T j % 256) :
    wp (f_mSeals_mac s key (at_ : Int) (n : Int) row (from_ : Int) (size : Int) to h) (fun h' => (∀ k, k < 32 → hI h' to k = HMAC n K size T k) ∧ ∀ j, 32 ≤ j → hI h' to j = hI h to j) := by
  have l0 := L.1
  have ixa : ∀ j : Nat, j < size → w32 ((from_ : Int) + (j : Int)) = ((from_ + j : Nat) : Int) := fun j hj => by unfold w32; omega
  unfold f_mSeals_mac
  have e := lq_mSeals_mac_b3 (v0 := s) (v1 := key) (v2 := (at_ : Int)) (v3 := (n : Int)) (v4 := row) (v5 := (from_ : Int)) (v7 := to) (N := size) FU 0 h (by omega) (by unfold FU; omega) (by omega) hw (by intro j _ hj; rw [ixa j hj]; exact ⟨by omega, by omega⟩) (by rw [L.r10]; omega) (by rw [L.r10, L.l11]; intro j _ hj; exact ⟨by omega, by omega⟩) (by rw [L.r10]; omega)
  have e' : f_mSeals_mac_b3_lp FU s key (at_ : Int) (n : Int) row (from_ : Int) (size : Int) to 0 h = _ := e
  rw [e', L.r10]
  clear e e'
  unfold lx_mSeals_mac_b3
  rw [wp_lt1]
  generalize hg : sI (fI h (s + 11) 0 0 size fun j => hI h row ((w32 ((from_ : Int) + (j : Int))).toNat)) s 11 (size : Int) = g2
  have G : LSeals g2 s := by rw [← hg]; exact L
  have M2 : MCs g2 s := by rw [← hg]; exact M
  have z1 : hI g2 s 11 = (size : Int) := by rw [← hg, hI_sI, if_pos ⟨rfl, rfl⟩]
  have z2 : ∀ j, j < size → hI g2 (s + 11) j = hI h row (from_ + j) := fun j hj => by rw [← hg, hI_sI, if_neg (by omega), hI_fI, if_pos ⟨rfl, by omega, by omega⟩, Nat.sub_zero, ixa j hj, Int.toNat_natCast]
  have z3 : ∀ x k, x ≠ s → x ≠ s + 11 → hI g2 x k = hI h x k := fun x k h1 h2 => by rw [← hg, hI_sI, if_neg (fun z => h1 z.1), hI_fI, if_neg (fun z => h2 z.1)]
  have z4 : ∀ x, ln g2 x = ln h x := fun x => by rw [← hg]; rfl
  clear hg ixa
  have w := m_macText (s := s) (r := key) (at_ := at_) (n := n) (m := size) (K := K) (T := T) G M2 hr hd hn (by rw [z4]; exact hln) hz (fun j hj => by rw [z3 _ _ (by omega) (by omega)]; exact hK j hj) z1 hs (fun j hj => by rw [z2 j hj]; exact hT j hj)
  refine wp_b1o w (fun g3 e3 q3 => ?_)
  have F : Fe (wI_mSeals_macText s key (at_ : Int) n g2) (wJ_mSeals_macText s key (at_ : Int) n g2) g2 g3 := fe_mSeals_macText s key (at_ : Int) n g2 _ e3
  refine wp_of (m_mac47 (G.fe F) ht htd (by rw [F.l, z4]; exact htl) q3) (fun h' _ q => ⟨q.1, fun j hj => ?_⟩)
  rw [q.2 j hj, F.I (by simp only [wI_mSeals_macText, G.r4, G.r8, G.r9]; omega), z3 _ _ (by omega) (by omega)]
theorem m_dig34 {s to : Nat} {D : Nat → Int} {g : Hp} (L : LSeals g s) (ht : to ≠ 0) (hd : to < s ∨ s + 23 < to) (hln : 32 ≤ ln g to) (hD : ∀ k, k < 32 → hI g (s + 9) k = D k) : wp (f_mSeals_digest_b34_lp FU s to 0 g) (fun h' => (∀ k, k < 32 → hI h' to k = D k) ∧ ∀ j, 32 ≤ j → hI h' to j = hI g to j) := by
  have l0 := L.1
  have e := lq_mSeals_digest_b34 (v0 := s) (v3 := to) FU 0 g (by omega) (by unfold FU; omega) (by omega) (by rw [L.r8]; omega) (by rw [L.r8, L.l9]; intro j _ hj; exact ⟨by omega, by omega⟩) ht (by intro j _ hj; exact ⟨by omega, by omega⟩) (by rw [L.r8]; omega)
  have e' : f_mSeals_digest_b34_lp FU s to 0 g = _ := e
  rw [e', L.r8]
  clear e e'
  unfold lx_mSeals_digest_b34
  rw [wp_some]
  refine ⟨fun k hk => ?_, fun j hj => ?_⟩
  · rw [hI_fI, if_pos ⟨rfl, by omega, by omega⟩]; exact hD k hk
  · rw [hI_fI, if_neg (by omega)]
theorem m_digest {s row n to : Nat} {T : Nat → Int} {h : Hp} (L : LSeals h s) (M : MCs h s) (hw : row ≠ 0) (hwd : row < s ∨ s + 23 < row) (hwl : n ≤ ln h row) (hs : n + 72 ≤ 2400) (ht : to ≠ 0) (htd : to < s ∨ s + 23 < to) (htl : 32 ≤ ln h to) (hT : ∀ j, j < n → 0 ≤ hI h row j ∧ hI h row j < 256 ∧ hI h row j = T j % 256) :
    wp (f_mSeals_digest s row (n : Int) to h) (fun h' => (∀ k, k < 32 → hI h' to k = SHA n T k) ∧ ∀ j, 32 ≤ j → hI h' to j = hI h to j) := by
  have l0 := L.1
  unfold f_mSeals_digest
  have e := lq_mSeals_digest_b3 (v0 := s) (v1 := row) (v3 := to) (N := n) FU 0 h (by omega) (by unfold FU; omega) (by omega) hw (by intro j _ hj; exact ⟨by omega, by omega⟩) (by rw [L.r4]; omega) (by rw [L.r4, L.l5]; intro j _ hj; exact ⟨by omega, by omega⟩) (by rw [L.r4]; omega)
  have e' : f_mSeals_digest_b3_lp FU s row (n : Int) to 0 h = _ := e
  rw [e', L.r4]
  clear e e'
  unfold lx_mSeals_digest_b3
  generalize hg : fI h (s + 5) 0 0 n (fun j => hI h row j) = g2
  have G : LSeals g2 s := by rw [← hg]; exact L
  have M2 : MCs g2 s := by rw [← hg]; exact M
  have z2 : ∀ j, j < n → hI g2 (s + 5) j = hI h row j := fun j hj => by rw [← hg, hI_fI, if_pos ⟨rfl, by omega, by omega⟩, Nat.sub_zero]
  have z3 : ∀ x k, x ≠ s + 5 → hI g2 x k = hI h x k := fun x k h2 => by rw [← hg, hI_fI, if_neg (fun z => h2 z.1)]
  have z4 : ∀ x, ln g2 x = ln h x := fun x => by rw [← hg]; rfl
  clear hg
  refine wp_b1o (m_digestWork (n := n) hs G M2 (fun j hj => by rw [z2 j hj]; exact ⟨(hT j hj).1, (hT j hj).2.1⟩)) (fun g3 e3 q3 => ?_)
  have F : Fe (wI_mSeals_digestWork s n g2) (wJ_mSeals_digestWork s n g2) g2 g3 := fe_mSeals_digestWork s n g2 _ e3
  refine wp_of (m_dig34 (D := SHA n T) (G.fe F) ht htd (by rw [F.l, z4]; exact htl) (fun k hk => ?_)) (fun h' _ q => ⟨q.1, fun j hj => ?_⟩)
  · rw [q3 k hk]
    exact SHA_congr (fun j hj => by rw [z2 j hj, (hT j hj).2.2, Int.emod_emod]) hk
  · rw [q.2 j hj, F.I (by simp only [wI_mSeals_digestWork, G.r4, G.r8]; omega), z3 _ _ (by omega)]
/-- bytes of a label's key: l the label, w bytes wanted of key K, a context of m bytes -/
def LAB (l w m : Nat) (K C : Nat → Int) (k : Nat) : Int := HMAC 32 K (5 + (mTx l).length + m) (INF l w m C) k
theorem LAB_lt (l w m : Nat) (K C : Nat → Int) (k : Nat) : 0 ≤ LAB l w m K C k ∧ LAB l w m K C k < 256 := SHA_lt _ _ _
