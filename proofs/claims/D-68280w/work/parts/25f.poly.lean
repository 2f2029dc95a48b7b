/-! Poly: the class's begin -/
theorem and256 {x y m n : Nat} (hx : x < 256) (hm : m < 256) : (x + 256 * y) &&& (m + 256 * n) = (x &&& m) + 256 * (y &&& n) := by
  have h1 := Nat.and_mod_two_pow (a := x + 256 * y) (b := m + 256 * n) (n := 8)
  have h2 := Nat.and_div_two_pow (a := x + 256 * y) (b := m + 256 * n) (n := 8)
  rw [show (2 : Nat) ^ 8 = 256 from rfl, show (x + 256 * y) % 256 = x by omega, show (m + 256 * n) % 256 = m by omega] at h1
  rw [show (2 : Nat) ^ 8 = 256 from rfl, show (x + 256 * y) / 256 = y by omega, show (m + 256 * n) / 256 = n by omega] at h2
  omega
theorem m255 : ∀ b : Nat, b < 256 → b &&& 255 = b := by decide +kernel
theorem m15 : ∀ b : Nat, b < 256 → b &&& 15 = b % 16 := by decide +kernel
theorem m252 : ∀ b : Nat, b < 256 → b &&& 252 = b - b % 4 := by decide +kernel
/-- bytes of a factor, some bits of which are cut -/
def cb (B : Nat → Int) (j : Nat) : Int := if j % 4 = 3 then B j % 256 % 16 else if j % 4 = 0 ∧ 0 < j then B j % 256 - B j % 256 % 4 else B j % 256
theorem cb_0 (B : Nat → Int) : cb B 0 = B 0 % 256 := by unfold cb; rw [if_neg (by decide), if_neg (by decide)]
theorem cb_1 (B : Nat → Int) : cb B 1 = B 1 % 256 := by unfold cb; rw [if_neg (by decide), if_neg (by decide)]
theorem cb_2 (B : Nat → Int) : cb B 2 = B 2 % 256 := by unfold cb; rw [if_neg (by decide), if_neg (by decide)]
theorem cb_3 (B : Nat → Int) : cb B 3 = B 3 % 256 % 16 := by unfold cb; rw [if_pos (by decide)]
theorem cb_4 (B : Nat → Int) : cb B 4 = B 4 % 256 - B 4 % 256 % 4 := by unfold cb; rw [if_neg (by decide), if_pos (by decide)]
theorem cb_5 (B : Nat → Int) : cb B 5 = B 5 % 256 := by unfold cb; rw [if_neg (by decide), if_neg (by decide)]
theorem cb_6 (B : Nat → Int) : cb B 6 = B 6 % 256 := by unfold cb; rw [if_neg (by decide), if_neg (by decide)]
theorem cb_7 (B : Nat → Int) : cb B 7 = B 7 % 256 % 16 := by unfold cb; rw [if_pos (by decide)]
theorem cb_8 (B : Nat → Int) : cb B 8 = B 8 % 256 - B 8 % 256 % 4 := by unfold cb; rw [if_neg (by decide), if_pos (by decide)]
theorem cb_9 (B : Nat → Int) : cb B 9 = B 9 % 256 := by unfold cb; rw [if_neg (by decide), if_neg (by decide)]
theorem cb_10 (B : Nat → Int) : cb B 10 = B 10 % 256 := by unfold cb; rw [if_neg (by decide), if_neg (by decide)]
theorem cb_11 (B : Nat → Int) : cb B 11 = B 11 % 256 % 16 := by unfold cb; rw [if_pos (by decide)]
theorem cb_12 (B : Nat → Int) : cb B 12 = B 12 % 256 - B 12 % 256 % 4 := by unfold cb; rw [if_neg (by decide), if_pos (by decide)]
theorem cb_13 (B : Nat → Int) : cb B 13 = B 13 % 256 := by unfold cb; rw [if_neg (by decide), if_neg (by decide)]
theorem cb_14 (B : Nat → Int) : cb B 14 = B 14 % 256 := by unfold cb; rw [if_neg (by decide), if_neg (by decide)]
theorem cb_15 (B : Nat → Int) : cb B 15 = B 15 % 256 % 16 := by unfold cb; rw [if_pos (by decide)]
theorem wl_nat (B : Nat → Int) (j : Nat) : ((wl B j).toNat : Int) = B j % 256 + 256 * (B (j + 1) % 256 + 256 * (B (j + 2) % 256 + 256 * (B (j + 3) % 256))) := by
  unfold wl
  rw [bvn]
  generalize B j = p
  generalize B (j + 1) = q
  generalize B (j + 2) = r
  generalize B (j + 3) = s
  omega
theorem lAnd_64 (x m : Int) : lAnd x m % 18446744073709551616 = (((x % 18446744073709551616).toNat &&& (m % 18446744073709551616).toNat : Nat) : Int) := by
  show (BitVec.ofInt 64 x &&& BitVec.ofInt 64 m).toInt % 18446744073709551616 = _
  generalize hz : BitVec.ofInt 64 x &&& BitVec.ofInt 64 m = z
  have h1 : z.toNat = (x % 18446744073709551616).toNat &&& (m % 18446744073709551616).toNat := by
    rw [← hz, BitVec.toNat_and, BitVec.toNat_ofInt, BitVec.toNat_ofInt]; rfl
  rw [← h1, BitVec.toInt_eq_toNat_bmod, show ((2 ^ 64 : Nat)) = 18446744073709551616 from rfl, ← w64_bmod]
  have := z.isLt
  clear h1 hz
  generalize z.toNat = y at *
  unfold w64
  omega
theorem le8_nat (B : Nat → Int) (j : Nat) : le8 B j = (((B j % 256).toNat + 256 * ((B (j + 1) % 256).toNat + 256 * ((B (j + 2) % 256).toNat + 256 * ((B (j + 3) % 256).toNat + 256 * ((B (j + 4) % 256).toNat + 256 * ((B (j + 4 + 1) % 256).toNat + 256 * ((B (j + 4 + 2) % 256).toNat + 256 * (B (j + 4 + 3) % 256).toNat)))))) : Nat) : Int) := by
  unfold le8
  rw [wl_nat, wl_nat]
  have q0 : 0 ≤ B j % 256 := by omega
  generalize B j % 256 = p0 at *
  obtain ⟨n0, rfl⟩ := Int.eq_ofNat_of_zero_le q0
  have q1 : 0 ≤ B (j + 1) % 256 := by omega
  generalize B (j + 1) % 256 = p1 at *
  obtain ⟨n1, rfl⟩ := Int.eq_ofNat_of_zero_le q1
  have q2 : 0 ≤ B (j + 2) % 256 := by omega
  generalize B (j + 2) % 256 = p2 at *
  obtain ⟨n2, rfl⟩ := Int.eq_ofNat_of_zero_le q2
  have q3 : 0 ≤ B (j + 3) % 256 := by omega
  generalize B (j + 3) % 256 = p3 at *
  obtain ⟨n3, rfl⟩ := Int.eq_ofNat_of_zero_le q3
  have q4 : 0 ≤ B (j + 4) % 256 := by omega
  generalize B (j + 4) % 256 = p4 at *
  obtain ⟨n4, rfl⟩ := Int.eq_ofNat_of_zero_le q4
  have q5 : 0 ≤ B (j + 4 + 1) % 256 := by omega
  generalize B (j + 4 + 1) % 256 = p5 at *
  obtain ⟨n5, rfl⟩ := Int.eq_ofNat_of_zero_le q5
  have q6 : 0 ≤ B (j + 4 + 2) % 256 := by omega
  generalize B (j + 4 + 2) % 256 = p6 at *
  obtain ⟨n6, rfl⟩ := Int.eq_ofNat_of_zero_le q6
  have q7 : 0 ≤ B (j + 4 + 3) % 256 := by omega
  generalize B (j + 4 + 3) % 256 = p7 at *
  obtain ⟨n7, rfl⟩ := Int.eq_ofNat_of_zero_le q7
  simp only [Int.toNat_natCast]
  clear q0 q1 q2 q3 q4 q5 q6 q7
  omega
theorem mask8 {b0 b1 b2 b3 b4 b5 b6 b7 m0 : Nat} (h0 : b0 < 256) (h1 : b1 < 256) (h2 : b2 < 256) (h3 : b3 < 256) (h4 : b4 < 256) (h5 : b5 < 256) (h6 : b6 < 256) (h7 : b7 < 256) (hm : m0 < 256) : (b0 + 256 * (b1 + 256 * (b2 + 256 * (b3 + 256 * (b4 + 256 * (b5 + 256 * (b6 + 256 * b7))))))) &&& (m0 + 256 * 4503599561310207) = (b0 &&& m0) + 256 * (b1 + 256 * (b2 + 256 * (b3 % 16 + 256 * ((b4 - b4 % 4) + 256 * (b5 + 256 * (b6 + 256 * (b7 % 16))))))) := by
  rw [and256 h0 hm, show (4503599561310207 : Nat) = 255 + 256 * (255 + 256 * (15 + 256 * (252 + 256 * (255 + 256 * (255 + 256 * 15))))) from rfl, and256 h1 (by decide), and256 h2 (by decide), and256 h3 (by decide), and256 h4 (by decide), and256 h5 (by decide), and256 h6 (by decide), m255 b1 h1, m255 b2 h2, m15 b3 h3, m252 b4 h4, m255 b5 h5, m255 b6 h6, m15 b7 h7]
theorem c_mask1 {x : Int} {B : Nat → Int} (h : x % 18446744073709551616 = le8 B 0) : lAnd x 1152921487695413247 % 18446744073709551616 = le8 (cb B) 0 := by
  have hL := le8_nat B 0
  have hR := le8_nat (cb B) 0
  simp only [Nat.zero_add, Nat.reduceAdd, cb_0, cb_1, cb_2, cb_3, cb_4, cb_5, cb_6, cb_7] at hL hR
  rw [hR, lAnd_64, h, hL]
  clear hL hR h
  have hM : (1152921487695413247 % 18446744073709551616 : Int).toNat = 255 + 256 * 4503599561310207 := by decide
  rw [hM]
  clear hM
  have q0 : 0 ≤ B 0 % 256 ∧ B 0 % 256 < 256 := by omega
  generalize B 0 % 256 = p0 at *
  obtain ⟨n0, rfl⟩ := Int.eq_ofNat_of_zero_le q0.1
  have q1 : 0 ≤ B 1 % 256 ∧ B 1 % 256 < 256 := by omega
  generalize B 1 % 256 = p1 at *
  obtain ⟨n1, rfl⟩ := Int.eq_ofNat_of_zero_le q1.1
  have q2 : 0 ≤ B 2 % 256 ∧ B 2 % 256 < 256 := by omega
  generalize B 2 % 256 = p2 at *
  obtain ⟨n2, rfl⟩ := Int.eq_ofNat_of_zero_le q2.1
  have q3 : 0 ≤ B 3 % 256 ∧ B 3 % 256 < 256 := by omega
  generalize B 3 % 256 = p3 at *
  obtain ⟨n3, rfl⟩ := Int.eq_ofNat_of_zero_le q3.1
  have q4 : 0 ≤ B 4 % 256 ∧ B 4 % 256 < 256 := by omega
  generalize B 4 % 256 = p4 at *
  obtain ⟨n4, rfl⟩ := Int.eq_ofNat_of_zero_le q4.1
  have q5 : 0 ≤ B 5 % 256 ∧ B 5 % 256 < 256 := by omega
  generalize B 5 % 256 = p5 at *
  obtain ⟨n5, rfl⟩ := Int.eq_ofNat_of_zero_le q5.1
  have q6 : 0 ≤ B 6 % 256 ∧ B 6 % 256 < 256 := by omega
  generalize B 6 % 256 = p6 at *
  obtain ⟨n6, rfl⟩ := Int.eq_ofNat_of_zero_le q6.1
  have q7 : 0 ≤ B 7 % 256 ∧ B 7 % 256 < 256 := by omega
  generalize B 7 % 256 = p7 at *
  obtain ⟨n7, rfl⟩ := Int.eq_ofNat_of_zero_le q7.1
  have e0 : ((n0 : Int) % 256).toNat = n0 := by omega
  have e1 : ((n1 : Int) % 256).toNat = n1 := by omega
  have e2 : ((n2 : Int) % 256).toNat = n2 := by omega
  have e3 : ((n3 : Int) % 16 % 256).toNat = n3 % 16 := by omega
  have e4 : (((n4 : Int) - (n4 : Int) % 4) % 256).toNat = n4 - n4 % 4 := by omega
  have e5 : ((n5 : Int) % 256).toNat = n5 := by omega
  have e6 : ((n6 : Int) % 256).toNat = n6 := by omega
  have e7 : ((n7 : Int) % 16 % 256).toNat = n7 % 16 := by omega
  simp only [Int.toNat_natCast, e0, e1, e2, e3, e4, e5, e6, e7]
  clear e0 e1 e2 e3 e4 e5 e6 e7
  rw [mask8 (by omega) (by omega) (by omega) (by omega) (by omega) (by omega) (by omega) (by omega) (by decide), m255 _ (by omega)]
theorem c_mask2 {x : Int} {B : Nat → Int} (h : x % 18446744073709551616 = le8 B 8) : lAnd x 1152921487695413244 % 18446744073709551616 = le8 (cb B) 8 := by
  have hL := le8_nat B 8
  have hR := le8_nat (cb B) 8
  simp only [Nat.zero_add, Nat.reduceAdd, cb_8, cb_9, cb_10, cb_11, cb_12, cb_13, cb_14, cb_15] at hL hR
  rw [hR, lAnd_64, h, hL]
  clear hL hR h
  have hM : (1152921487695413244 % 18446744073709551616 : Int).toNat = 252 + 256 * 4503599561310207 := by decide
  rw [hM]
  clear hM
  have q0 : 0 ≤ B 8 % 256 ∧ B 8 % 256 < 256 := by omega
  generalize B 8 % 256 = p0 at *
  obtain ⟨n0, rfl⟩ := Int.eq_ofNat_of_zero_le q0.1
  have q1 : 0 ≤ B 9 % 256 ∧ B 9 % 256 < 256 := by omega
  generalize B 9 % 256 = p1 at *
  obtain ⟨n1, rfl⟩ := Int.eq_ofNat_of_zero_le q1.1
  have q2 : 0 ≤ B 10 % 256 ∧ B 10 % 256 < 256 := by omega
  generalize B 10 % 256 = p2 at *
  obtain ⟨n2, rfl⟩ := Int.eq_ofNat_of_zero_le q2.1
  have q3 : 0 ≤ B 11 % 256 ∧ B 11 % 256 < 256 := by omega
  generalize B 11 % 256 = p3 at *
  obtain ⟨n3, rfl⟩ := Int.eq_ofNat_of_zero_le q3.1
  have q4 : 0 ≤ B 12 % 256 ∧ B 12 % 256 < 256 := by omega
  generalize B 12 % 256 = p4 at *
  obtain ⟨n4, rfl⟩ := Int.eq_ofNat_of_zero_le q4.1
  have q5 : 0 ≤ B 13 % 256 ∧ B 13 % 256 < 256 := by omega
  generalize B 13 % 256 = p5 at *
  obtain ⟨n5, rfl⟩ := Int.eq_ofNat_of_zero_le q5.1
  have q6 : 0 ≤ B 14 % 256 ∧ B 14 % 256 < 256 := by omega
  generalize B 14 % 256 = p6 at *
  obtain ⟨n6, rfl⟩ := Int.eq_ofNat_of_zero_le q6.1
  have q7 : 0 ≤ B 15 % 256 ∧ B 15 % 256 < 256 := by omega
  generalize B 15 % 256 = p7 at *
  obtain ⟨n7, rfl⟩ := Int.eq_ofNat_of_zero_le q7.1
  have e0 : (((n0 : Int) - (n0 : Int) % 4) % 256).toNat = n0 - n0 % 4 := by omega
  have e1 : ((n1 : Int) % 256).toNat = n1 := by omega
  have e2 : ((n2 : Int) % 256).toNat = n2 := by omega
  have e3 : ((n3 : Int) % 16 % 256).toNat = n3 % 16 := by omega
  have e4 : (((n4 : Int) - (n4 : Int) % 4) % 256).toNat = n4 - n4 % 4 := by omega
  have e5 : ((n5 : Int) % 256).toNat = n5 := by omega
  have e6 : ((n6 : Int) % 256).toNat = n6 := by omega
  have e7 : ((n7 : Int) % 16 % 256).toNat = n7 % 16 := by omega
  simp only [Int.toNat_natCast, e0, e1, e2, e3, e4, e5, e6, e7]
  clear e0 e1 e2 e3 e4 e5 e6 e7
  rw [mask8 (by omega) (by omega) (by omega) (by omega) (by omega) (by omega) (by omega) (by omega) (by decide), m252 _ (by omega)]
/-- the factor of a key -/
def pR_ (K : Nat → Int) : Int := le8 (cb K) 0 + le8 (cb K) 8 * 18446744073709551616
theorem c_tbegin {a key : Nat} {K B : Nat → Int} {h : Hp} (L : LTal h a) (hk : key ≠ 0) (hd : key < a ∨ a + 4 < key) (hl : 32 ≤ ln h key) (hK : ∀ j, j < 32 → hI h key j % 256 = K j % 256) : wp (f_cTally_begin a key h) (fun h' => ∃ F, val F = pR_ K ∧ TS h' a F 0 B ∧ hJ h' a 5 % 18446744073709551616 = le8 K 16 ∧ hJ h' a 6 % 18446744073709551616 = le8 K 24) := by
  have l0 := L.1
  have kc : ∀ (g : Hp) (i : Nat), (∀ x, hI g key x = hI h key x) → i + 8 ≤ 32 → le8 (hI g key) i = le8 K i := fun g i hg hi => le8_congr (fun j hj => by rw [hg]; exact hK _ (by omega))
  unfold f_cTally_begin
  obtain ⟨u, eu, hu⟩ := c_eight (r := key) (i := 0) (h := h) hk (by omega) (by omega)
  obtain ⟨v, ev, hv⟩ := c_eight (r := key) (i := 8) (h := h) hk (by omega) (by omega)
  rw [show f_cTally_eight key 0 h = some (u, h) from eu, b2_some, wp_lt1, show f_cTally_eight key 8 h = some (v, h) from ev, b2_some, wp_lt1, L.r0_1]
  clear eu ev
  rw [kc h 0 (fun _ => rfl) (by omega)] at hu
  rw [kc h 8 (fun _ => rfl) (by omega)] at hv
  have m1 := c_mask1 hu
  have m2 := c_mask2 hv
  clear hu hv
  generalize lAnd u 1152921487695413247 = x at *
  generalize lAnd v 1152921487695413244 = y at *
  refine wp_b1o (c_split (by omega) L.l2 m1 m2) (fun g e q => ?_)
  have Fe1 : Fe (wI_cTally_split x y (a + 2) h) (wJ_cTally_split x y (a + 2) h) h g := fe_cTally_split x y (a + 2) h _ e
  have Lg := L.of Fe1.r Fe1.l
  have hlg : ln g key = ln h key := by rw [Fe1.l]
  have hIg : ∀ j, hI g key j = hI h key j := fun j => Fe1.I (fun z => z)
  clear Fe1 e
  have e := lq_cTally_begin_b35 (v0 := a) (v1 := key) FU 0 g (by omega) (by unfold FU; omega) (by omega) (by rw [Lg.r0_0]; omega) (by rw [Lg.r0_0, Lg.l1]; intro j _ hj; exact ix16 hj)
  have e' : f_cTally_begin_b35_lp FU a key 0 g = _ := e
  rw [e', Lg.r0_0]
  clear e e'
  unfold lx_cTally_begin_b35
  have J1 : JS (fJ g (a + 1) 0 0 5 (fun _ => 0)) (a + 1) (fun _ => 0) := fun i hi => by rw [hJ_fJ, if_pos ⟨rfl, by omega, by omega⟩]
  have JF1 : JS (fJ g (a + 1) 0 0 5 (fun _ => 0)) (a + 2) (SPL (le8 (cb K) 0) (le8 (cb K) 8)) := fun i hi => by rw [hJ_fJ, if_neg (by omega)]; exact q i hi
  have hI1 : ∀ j, hI (fJ g (a + 1) 0 0 5 (fun _ => 0)) key j = hI h key j := hIg
  have hl1 : ln (fJ g (a + 1) 0 0 5 (fun _ => 0)) key = ln h key := hlg
  generalize fJ g (a + 1) 0 0 5 (fun _ => 0) = g1 at *
  obtain ⟨p, ep, hp⟩ := c_eight (r := key) (i := 16) (h := g1) hk (by omega) (by omega)
  rw [show f_cTally_eight key 16 g1 = some (p, g1) from ep, b2_some, wp_lt1]
  rw [kc g1 16 hI1 (by omega)] at hp
  clear ep
  obtain ⟨r, er, hr⟩ := c_eight (r := key) (i := 24) (h := sJ g1 a 5 p) hk (by show 24 + 8 ≤ ln g1 key; omega) (by omega)
  rw [show f_cTally_eight key 24 (sJ g1 a 5 p) = some (r, _) from er, b2_some, wp_lt1, wp_lt1, wp_some]
  rw [kc (sJ g1 a 5 p) 24 hI1 (by omega)] at hr
  clear er
  refine ⟨SPL (le8 (cb K) 0) (le8 (cb K) 8), val_SPL (le8_lt _ _) (le8_lt _ _), ⟨⟨fun i hi => ?_, SPL_lb (le8_lt _ _) (le8_lt _ _)⟩, ⟨fun _ => 0, fun i hi => ?_, ?_, rfl⟩, by rw [hI_sI, if_pos ⟨rfl, rfl⟩]; rfl, fun j hj => by omega⟩, ?_, ?_⟩
  · rw [hJ_sI, hJ_sJ, if_neg (by omega), hJ_sJ, if_neg (by omega)]; exact JF1 i hi
  · rw [hJ_sI, hJ_sJ, if_neg (by omega), hJ_sJ, if_neg (by omega)]; exact J1 i hi
  · exact ⟨⟨by decide, by decide⟩, fun i _ _ => ⟨by show (0 : Int) ≤ 0; decide, by show (0 : Int) < _; decide⟩⟩
  · rw [hJ_sI, hJ_sJ, if_neg (by omega), hJ_sJ, if_pos ⟨rfl, rfl⟩]; exact hp
  · rw [hJ_sI, hJ_sJ, if_pos ⟨rfl, rfl⟩]; exact hr
