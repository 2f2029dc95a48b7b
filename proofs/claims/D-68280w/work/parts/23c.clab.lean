/-! the class's labels -/
theorem b2_some {α β : Type} {r : α} {h : Hp} {f : α → Hp → Option β} : b2 (some (r, h)) f = f r h := rfl
theorem b1_some {α β : Type} {r : α} {f : α → Option β} : b1 (some r) f = f r := rfl
theorem sTx_ok : ∀ i, i < 10 → sLen.getD i 0 = (sTx.getD i []).length ∧ sLen.getD i 0 ≤ 10 ∧ iShr ((sLen.getD i 0 : Nat) : Int) 0 = ((sLen.getD i 0 : Nat) : Int) ∧ ∀ k, k < 10 → iAnd ((sTx.getD i []).getD k 0) 255 % 65536 = (sTx.getD i []).getD k 0 ∧ 0 ≤ (sTx.getD i []).getD k 0 ∧ (sTx.getD i []).getD k 0 < 128 := by decide +kernel
theorem c_strlen {i : Nat} {h : Hp} (hi : i < 10) (B : LC h) : f_jString_length (11 + i) h = some (((sLen.getD i 0 : Nat) : Int), h) := by
  obtain ⟨b1_, b2_, b3, b4, b5, b6⟩ := B.2 i hi
  unfold f_jString_length f_jString_coder
  rw [if_neg (by rw [b4]; omega), if_neg (by rw [B.1]; decide), if_pos (by rw [b3]; decide), b4, b5, b3]
  show some (iShr ((sLen.getD i 0 : Nat) : Int) 0, h) = _
  rw [(sTx_ok i hi).2.2.1]
theorem c_charAt {i k : Nat} {h : Hp} (hi : i < 10) (hk : k < sLen.getD i 0) (B : LC h) : f_jString_charAt (11 + i) (k : Int) h = some ((sTx.getD i []).getD k 0, h) := by
  obtain ⟨b1_, b2_, b3, b4, b5, b6⟩ := B.2 i hi
  obtain ⟨t1, t2, -, t3⟩ := sTx_ok i hi
  obtain ⟨t4, t5, t6⟩ := t3 k (Nat.lt_of_lt_of_le hk t2)
  unfold f_jString_charAt f_jString_isLatin1
  rw [if_neg (by rw [B.1]; decide), if_neg (by rw [b3]; decide), b2_some, if_neg (by decide), b4]
  unfold f_jStringLatin1_charAt f_jString_checkIndex f_jPreconditions_checkIndex
  rw [if_neg (by omega), b5, if_neg (by omega), if_pos (by omega), b2_some, b1_some, b5, if_pos ⟨by omega, by omega⟩, b6, Int.toNat_natCast, t4, if_pos ⟨t5, by omega⟩, b2_some, if_pos ⟨t5, by omega⟩]
/-- all but the info row is as before -/
def IF (a : Nat) (h g : Hp) : Prop := (hR g = hR h ∧ ln g = ln h) ∧ ∀ x k, x ≠ a + 13 → hI g x k = hI h x k
theorem IF.sI {a k : Nat} {v : Int} {h g : Hp} (F : IF a h g) : IF a h (sI g (a + 13) k v) := ⟨F.1, fun x j hx => by rw [hI_sI, if_neg (fun z => hx z.1)]; exact F.2 x j hx⟩
theorem IF.cp {a s sp dp n : Nat} {h g : Hp} (F : IF a h g) : IF a h (cpI g s sp (a + 13) dp n) := ⟨F.1, fun x j hx => by rw [hI_cI, if_neg (fun z => hx z.1)]; exact F.2 x j hx⟩
theorem LC.if {a : Nat} {h g : Hp} (ha : 64 ≤ a) (F : IF a h g) (B : LC h) : LC g := B.of F.1.1 F.1.2 (fun x k hx => F.2 x k (by omega))
theorem SC.if {a : Nat} {h g : Hp} (ha : 64 ≤ a) (F : IF a h g) (S : SC h) : SC g := S.of F.1.1 F.1.2 (fun k => F.2 31 k (by omega)) (fun k => F.2 32 k (by omega))
theorem i8_mod' (x : Int) : i8 (i8 x) % 256 = x % 256 := by unfold i8; omega
theorem c_lab42 {a key ctx size to many i l : Nat} {K C : Nat → Int} {h : Hp} (hi : i < 10) (hl : mTx l = sTx.getD i []) (L : LStr h a) (S : SC h) (B : LC h) (hk : key ≠ 0) (hkd : key < a ∨ a + 14 < key) (hkl : 32 ≤ ln h key) (hK : ∀ j, j < 32 → hI h key j % 256 = K j % 256)
    (hc : ctx ≠ 0) (hcd : ctx < a ∨ a + 14 < ctx) (hcl : size ≤ ln h ctx) (hs : size ≤ 32) (hC : ∀ j, j < size → hI h ctx j % 256 = C j % 256) (ht : 64 ≤ to) (htd : to < a ∨ a + 14 < to) (hm : 0 < many) (hm2 : many ≤ 32) (htl : many ≤ ln h to) (f : Nat) : ∀ (k : Nat) (g : Hp), k ≤ sLen.getD i 0 → sLen.getD i 0 - k < f → IF a h g → (∀ j, j < 3 + k → hI g (a + 13) j % 256 = INF l many size C j % 256) →
    wp (f_cStretch_label_b42_lp f a key 32 (1 + i) ctx (size : Int) to (many : Int) ((sLen.getD i 0 : Nat) : Int) (k : Int) g) (fun h' => (∀ k, k < many → hI h' to k = i8 (LAB l many size K C k)) ∧ ∀ j, many ≤ j → hI h' to j = hI h to j) := by
  induction f with
  | zero => intro k g _ hf; omega
  | succ f ih =>
    intro k g hk0 hf F Q
    obtain ⟨t1, t2, -, t3⟩ := sTx_ok i hi
    have l0 := L.1
    have L1 := L.of F.1.1 F.1.2
    have B1 := B.if l0 F
    have S1 := S.if l0 F
    have hlen : (mTx l).length = sLen.getD i 0 := by rw [hl, t1]
    show wp (f_cStretch_label_b42 (f_cStretch_label_b42_lp f) a key 32 (1 + i) ctx (size : Int) to (many : Int) ((sLen.getD i 0 : Nat) : Int) (k : Int) g) _
    unfold f_cStretch_label_b42
    by_cases hx : ((sLen.getD i 0 : Nat) : Int) ≤ k
    · have hkk : k = sLen.getD i 0 := by omega
      subst hkk
      generalize hn : sLen.getD i 0 = n at *
      have w3 : w32 (3 + (n : Int)) = ((3 + n : Nat) : Int) := by clear t3; unfold w32; omega
      have w4 : w32 (4 + (n : Int)) = ((4 + n : Nat) : Int) := by clear t3 w3; unfold w32; omega
      have w5 : w32 (((4 + n : Nat) : Int) + (size : Int)) = ((4 + n + size : Nat) : Int) := by clear t3 w3 w4; unfold w32; omega
      simp only [w3, w4, w5]
      clear w3 w4 w5
      rw [if_pos hx, L1.r2, wp_cn]
      refine ⟨by omega, ?_⟩
      rw [wp_ck, L1.l13]
      refine ⟨⟨by omega, by omega⟩, ?_⟩
      rw [wp_lt1, wp_cn]
      refine ⟨hc, ?_⟩
      simp only [Int.toNat_natCast]
      generalize hg : sI g (a + 13) (3 + n) (i8 (i8 (size : Int))) = g1
      have F1 : IF a h g1 := by rw [← hg]; exact F.sI
      have L2 := L.of F1.1.1 F1.1.2
      have Q1 : ∀ j, j < 4 + n → hI g1 (a + 13) j % 256 = INF l many size C j % 256 := fun j hj => by
        rw [← hg, hI_sI]
        by_cases he : j = 3 + n
        · subst he
          rw [if_pos ⟨rfl, rfl⟩, i8_mod']
          unfold INF
          rw [hlen, if_neg (by omega), if_neg (by omega), if_neg (by omega), if_neg (by omega), if_pos rfl]
        · rw [if_neg (fun z => he z.2)]; exact Q j (by omega)
      clear hg Q F
      rw [L2.r2, wp_cn]
      refine ⟨by omega, ?_⟩
      rw [wp_ck, L2.l13]
      refine ⟨by rw [F1.1.2]; unfold cpk; omega, ?_⟩
      rw [wp_lt1]
      generalize hg : cpI g1 ctx (Int.toNat 0) (a + 13) (4 + n) size = g2
      have F2 : IF a h g2 := by rw [← hg]; exact F1.cp
      have L3 := L.of F2.1.1 F2.1.2
      have Q2 : ∀ j, j < 4 + n + size → hI g2 (a + 13) j % 256 = INF l many size C j % 256 := fun j hj => by
        rw [← hg, hI_cI]
        by_cases he : 4 + n ≤ j
        · rw [if_pos ⟨rfl, he, hj⟩, F1.2 _ _ (by omega), Int.toNat_zero, Nat.zero_add, hC _ (by omega)]
          unfold INF
          rw [hlen, if_neg (by omega), if_neg (by omega), if_neg (by omega), if_neg (by omega), if_neg (by omega), if_pos hj, show j - 4 - n = j - (4 + n) by omega]
        · rw [if_neg (fun z => he z.2.1)]; exact Q1 j (by omega)
      clear hg Q1
      rw [L3.r2]
      refine wp_b1o (c_stretch (T := INF l many size C) (K := K) L3 (S.if l0 F2) hk (by omega) (by rw [F2.1.2]; exact hkl) (fun j hj => by rw [F2.2 _ _ (by omega)]; exact hK j hj) (by omega) (by omega) (by rw [L3.l13]; omega) (by omega) Q2 ?_ ht htd hm hm2 (by rw [F2.1.2]; exact htl)) (fun h' _ q => ?_)
      · unfold INF
        rw [hlen, if_neg (by omega), if_neg (by omega), if_neg (by omega), if_neg (by omega), if_neg (by omega), if_neg (by omega)]
      · rw [wp_some]
        refine ⟨fun k hk => ?_, fun j hj => by rw [q.2 j hj, F2.2 _ _ (by omega)]⟩
        rw [q.1 k hk]
        unfold LAB
        rw [hlen, show 4 + n + size + 1 = 5 + n + size by omega]
    · have hb := B1.2 i hi
      have w3 : w32 (3 + (k : Int)) = ((3 + k : Nat) : Int) := by clear t3 hb; unfold w32; omega
      have w1 : w32 ((k : Int) + 1) = ((k + 1 : Nat) : Int) := by clear t3 w3 hb; unfold w32; omega
      simp only [w3, w1]
      clear w3 w1
      rw [if_neg hx, wp_cn]
      refine ⟨by clear hb; omega, ?_⟩
      rw [hb.2.1, wp_cn]
      refine ⟨by clear hb; omega, ?_⟩
      clear hb
      rw [c_charAt hi (by omega) B1, wp_b2, wp_some, L1.r2, wp_cn]
      refine ⟨by omega, ?_⟩
      rw [wp_ck, L1.l13]
      refine ⟨⟨by omega, by omega⟩, ?_⟩
      rw [wp_lt1]
      refine ih (k + 1) _ (by omega) (by omega) F.sI (fun j hj => ?_)
      simp only [Int.toNat_natCast]
      rw [hI_sI]
      by_cases he : j = 3 + k
      · subst he
        rw [if_pos ⟨rfl, rfl⟩, i8_mod']
        unfold INF
        rw [hlen, if_neg (by omega), if_neg (by omega), if_neg (by omega), if_pos (by omega), hl, show 3 + k - 3 = k by omega]
      · rw [if_neg (fun z => he z.2)]; exact Q j (by omega)
theorem c_label {a key ctx size to many i l : Nat} {K C : Nat → Int} {h : Hp} (hi : i < 10) (hl : mTx l = sTx.getD i []) (L : LStr h a) (S : SC h) (B : LC h) (hk : key ≠ 0) (hkd : key < a ∨ a + 14 < key) (hkl : 32 ≤ ln h key) (hK : ∀ j, j < 32 → hI h key j % 256 = K j % 256)
    (hc : ctx ≠ 0) (hcd : ctx < a ∨ a + 14 < ctx) (hcl : size ≤ ln h ctx) (hs : size ≤ 32) (hC : ∀ j, j < size → hI h ctx j % 256 = C j % 256) (ht : 64 ≤ to) (htd : to < a ∨ a + 14 < to) (hm : 0 < many) (hm2 : many ≤ 32) (htl : many ≤ ln h to) :
    wp (f_cStretch_label a key 32 (1 + i) ctx (size : Int) to (many : Int) h) (fun h' => (∀ k, k < many → hI h' to k = i8 (LAB l many size K C k)) ∧ ∀ j, many ≤ j → hI h' to j = hI h to j) := by
  obtain ⟨t1, t2, -, t3⟩ := sTx_ok i hi
  have l0 := L.1
  have hb := B.2 i hi
  have hlen : (mTx l).length = sLen.getD i 0 := by rw [hl, t1]
  unfold f_cStretch_label
  rw [wp_cn]
  refine ⟨by clear hb; omega, ?_⟩
  rw [hb.2.1, wp_cn]
  refine ⟨by clear hb; omega, ?_⟩
  rw [c_strlen hi B, wp_b2, wp_some, L.r2, wp_cn]
  clear hb
  refine ⟨by omega, ?_⟩
  rw [wp_ck, L.l13]
  refine ⟨⟨by omega, by omega⟩, ?_⟩
  rw [wp_lt1]
  have F1 : IF a h (sI h (a + 13) (Int.toNat 0) (i8 (i8 (iShr (many : Int) 8)))) := IF.sI ⟨⟨rfl, rfl⟩, fun _ _ _ => rfl⟩
  rw [(L.of F1.1.1 F1.1.2).r2, wp_cn]
  refine ⟨by omega, ?_⟩
  rw [wp_ck, (L.of F1.1.1 F1.1.2).l13]
  refine ⟨⟨by omega, by omega⟩, ?_⟩
  rw [wp_lt1]
  have F2 := F1.sI (k := Int.toNat 1) (v := i8 (i8 (many : Int)))
  rw [(L.of F2.1.1 F2.1.2).r2, wp_cn]
  refine ⟨by omega, ?_⟩
  rw [wp_ck, (L.of F2.1.1 F2.1.2).l13]
  refine ⟨⟨by omega, by omega⟩, ?_⟩
  rw [wp_lt1]
  have F3 := F2.sI (k := Int.toNat 2) (v := i8 (i8 ((sLen.getD i 0 : Nat) : Int)))
  refine c_lab42 hi hl L S B hk hkd hkl hK hc hcd hcl hs hC ht htd hm hm2 htl FU 0 _ (by omega) (by unfold FU; omega) F3 (fun j hj => ?_)
  have hsh : iShr (many : Int) 8 = 0 := by
    have : ∀ m : Nat, m ≤ 32 → iShr (m : Int) 8 = 0 := by decide +kernel
    exact this many hm2
  rw [hI_sI, hI_sI, hI_sI]
  unfold INF
  rcases (by omega : j = 0 ∨ j = 1 ∨ j = 2) with e | e | e
  · subst e; rw [if_neg (fun z => absurd z.2 (by decide)), if_neg (fun z => absurd z.2 (by decide)), if_pos ⟨rfl, rfl⟩, hsh]; rfl
  · subst e; rw [if_neg (fun z => absurd z.2 (by decide)), if_pos ⟨rfl, rfl⟩, i8_mod']; rfl
  · subst e; rw [if_pos ⟨rfl, rfl⟩, i8_mod', hlen]; rfl
