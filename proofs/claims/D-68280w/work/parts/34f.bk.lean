/-! the book: class and model side by side -/
def QMs (hm : Hp) (m l f e : Nat) (V : Nat → Int) : Prop := hI hm (m + 14) l = (f : Int) ∧ hI hm (m + 13) l = (e : Int) ∧ ∀ j, j < e → hI hm (m + 12) (4096 * l + j) = V j
/-- queues of what was found -/
def QR (hc : Hp) (p : Nat) (hm : Hp) (m s n : Nat) (mk : Nat → Int) : Prop := ∃ f0 e0 V0 f1 e1 V1, QuC hc (p + 4) f0 e0 V0 ∧ QuC hc (p + 6) f1 e1 V1 ∧ (hI hm (m + 9) s = 0 → QMs hm m (2 * s) f0 e0 V0 ∧ QMs hm m (2 * s + 1) f1 e1 V1 ∧ (e0 : Int) + e1 + ctO mk n = n ∧ (∀ j, j < e0 → 0 ≤ V0 j ∧ V0 j < n) ∧ ∀ j, j < e1 → 0 ≤ V1 j ∧ V1 j < n) ∧ (hI hm (m + 9) s ≠ 0 → f0 = e0 ∧ f1 = e1 ∧ hI hm (m + 14) (2 * s) = hI hm (m + 13) (2 * s) ∧ hI hm (m + 14) (2 * s + 1) = hI hm (m + 13) (2 * s + 1) ∧ 0 ≤ hI hm (m + 13) (2 * s + 1) ∧ hI hm (m + 13) (2 * s + 1) ≤ 4096)
/-- scalars of a space -/
def ScR (hc : Hp) (p : Nat) (hm : Hp) (m s n : Nat) (tm mk : Nat → Int) : Prop := (hI hc p 10 = hI hm (m + 9) s ∧ (hI hm (m + 9) s = 0 ∨ hI hm (m + 9) s = 1)) ∧ (hI hc p 6 = hI hm (m + 10) s ∧ -1 ≤ hI hm (m + 10) s ∧ hI hm (m + 10) s < n) ∧ hI hc p 8 = hI hm (m + 11) s ∧ (hI hc p 4 = if hI hm (m + 9) s = 0 then ctO mk n else 0) ∧ (hI hc p 5 = if hI hm (m + 9) s = 0 then ctE mk n else 0) ∧ ∀ k, k < n → mk k / 4 % 2 = 1 → (∀ j, k < j → j < n → mk j / 4 % 2 = 0) → hI hc p 7 = tm k
/-- times and sizes -/
def TmR (n : Nat) (tm sz : Nat → Int) (T : Int) : Prop := (∀ k, k < n → 0 ≤ tm k ∧ tm k ≤ T ∧ 0 < sz k) ∧ ∀ j k, j ≤ k → k < n → tm j ≤ tm k
def SpR (hc : Hp) (p : Nat) (w : Nat → Nat) (hm : Hp) (m s : Nat) (T : Int) : Prop := ∃ n tm sz mk fo, SpW hc p s w ∧ PkC hc p n tm sz mk fo ∧ PkM hm m s n tm sz mk fo ∧ QR hc p hm m s n mk ∧ ScR hc p hm m s n tm mk ∧ TmR n tm sz T
/-- marks and sizes as the model holds them; bytes in flight, bytes that arrived -/
def mkM (hm : Hp) (m s k : Nat) : Int := hI hm (m + 4) (4096 * s + k) + 4 * hI hm (m + 5) (4096 * s + k) + 8 * hI hm (m + 6) (4096 * s + k)
def szM (hm : Hp) (m s k : Nat) : Int := hI hm (m + 2) (4096 * s + k)
def ctD (mk sz : Nat → Int) : Nat → Int
  | 0 => 0
  | n + 1 => ctD mk sz n + if mk n % 4 = 1 then sz n else 0
def flM (hm : Hp) (m s : Nat) : Int := flS hm m s (ctF (mkM hm m s) (szM hm m s) (hI hm (m + 1) s).toNat)
def dnM (hm : Hp) (m s : Nat) : Int := ctD (mkM hm m s) (szM hm m s) (hI hm (m + 1) s).toNat
/-- scalars of the book -/
def BkS (hc : Hp) (a : Nat) (hm : Hp) (m : Nat) : Prop := (hI hc a 3 = hI hm m 0 ∧ hI hc a 4 = hI hm m 23 ∧ hI hc a 5 = hI hm m 14 ∧ hI hc a 6 = hI hm m 1 ∧ hI hc a 7 = hI hm m 2) ∧ (hI hc (a + 2) 0 = hI hm m 18 ∧ hI hc (a + 2) 1 = hI hm m 19 ∧ hI hc (a + 2) 2 = hI hm m 20 ∧ hI hc (a + 2) 3 = hI hm m 21 ∧ hI hc (a + 2) 4 = hI hm m 22) ∧ (hI hc (a + 3) 0 = hI hm m 24 ∧ hI hc (a + 3) 1 = hI hm m 25 ∧ hI hc (a + 3) 2 = hI hm m 26 ∧ hI hc (a + 3) 3 = flM hm m 0 + flM hm m 1 + flM hm m 2)
/-- bounds of the book's scalars -/
def BkB (hm : Hp) (m : Nat) : Prop := (0 ≤ hI hm m 0 ∧ hI hm m 0 ≤ 200000) ∧ (0 ≤ hI hm m 23 ∧ hI hm m 23 ≤ 10) ∧ (hI hm m 1 = 0 ∨ hI hm m 1 = 1) ∧ (hI hm m 2 = 0 ∨ hI hm m 2 = 1) ∧ (0 ≤ hI hm m 18 ∧ hI hm m 18 ≤ 1700000) ∧ (0 ≤ hI hm m 20 ∧ hI hm m 20 ≤ 200000) ∧ (-1 ≤ hI hm m 21 ∧ hI hm m 21 ≤ 200000) ∧ (2400 ≤ hI hm m 24 ∧ hI hm m 24 ≤ 12000 + dnM hm m 0 + dnM hm m 1 + dnM hm m 2) ∧ (-1 ≤ hI hm m 26 ∧ hI hm m 26 ≤ hI hm m 0) ∧ (0 ≤ hI hm m 19 ∧ hI hm m 19 ≤ 900000)
def BkR (hc : Hp) (a : Nat) (w : Nat → Nat) (hm : Hp) (m : Nat) : Prop := (LBk hc a ∧ MBk hm m) ∧ (∀ x, w x ≠ 0 → x < hN hc) ∧ (w a = 50 ∧ w (a + 1) = 51 ∧ w (a + 2) = 52 ∧ w (a + 3) = 53 ∧ w (a + 4) = 54 ∧ w (a + 5) = 55) ∧ (∀ s, s < 3 → SpR hc (a + 6 + 11 * s) w hm m s (hI hm m 0)) ∧ BkS hc a hm m ∧ BkB hm m
section
variable {hc hc' hm hm' : Hp} {a p m s n fo : Nat} {tm sz mk : Nat → Int} {w w' : Nat → Nat} {T : Int} {C : Nat → Prop}
theorem LBk.sp (L : LBk hc a) (hs : s < 3) : hR hc (a + 1) s = a + 6 + 11 * s ∧ hR hc (a + 6 + 11 * s) 11 = a + 6 + 11 * s + 4 ∧ hR hc (a + 6 + 11 * s) 12 = a + 6 + 11 * s + 6 ∧ hR hc (a + 6 + 11 * s) 13 = a + 6 + 11 * s + 8 := by
  have : s = 0 ∨ s = 1 ∨ s = 2 := by lia
  rcases this with rfl | rfl | rfl
  · exact ⟨L.r1_0, L.r6_11, L.r6_12, L.r6_13⟩
  · exact ⟨L.r1_1, L.r17_11, L.r17_12, L.r17_13⟩
  · exact ⟨L.r1_2, L.r28_11, L.r28_12, L.r28_13⟩
/-- marks of the model are those of the relation, but for the filling bit -/
theorem PkM.mks (K : PkM hm m s n tm sz mk fo) {k : Nat} (hk : k < n) : mkM hm m s k = mk k % 16 ∧ szM hm m s k = sz k := by
  obtain ⟨_, _, _, _, _, k5, k6⟩ := K
  have v := k5 k hk
  have b := (k6 k hk).1
  unfold mkM szM
  rw [v.2.2.1, v.2.2.2.1, v.2.2.2.2.1, v.1]
  exact ⟨by lia, rfl⟩
theorem ctF_cg {mk mk' sz sz' : Nat → Int} : ∀ {n}, (∀ k, k < n → mk' k % 16 = mk k % 16 ∧ sz' k = sz k) → ctF mk' sz' n = ctF mk sz n ∧ ctD mk' sz' n = ctD mk sz n ∧ ctO mk' n = ctO mk n ∧ ctE mk' n = ctE mk n := by
  intro n
  induction n with
  | zero => intro _; exact ⟨rfl, rfl, rfl, rfl⟩
  | succ n ih =>
    intro e
    obtain ⟨i1, i2, i3, i4⟩ := ih (fun k hk => e k (by lia))
    obtain ⟨e1, e2⟩ := e n (by lia)
    refine ⟨?_, ?_, ?_, ?_⟩
    · show ctF mk' sz' n + _ = ctF mk sz n + _
      rw [i1, e2]
      by_cases c : mk n % 4 = 0 ∧ mk n / 8 % 2 = 1
      · rw [if_pos c, if_pos (by lia)]
      · rw [if_neg c, if_neg (by lia)]
    · show ctD mk' sz' n + _ = ctD mk sz n + _
      rw [i2, e2]
      by_cases c : mk n % 4 = 1
      · rw [if_pos c, if_pos (by lia)]
      · rw [if_neg c, if_neg (by lia)]
    · show ctO mk' n + _ = ctO mk n + _
      rw [i3]
      by_cases c : mk n % 4 = 0
      · rw [if_pos c, if_pos (by lia)]
      · rw [if_neg c, if_neg (by lia)]
    · show ctE mk' n + _ = ctE mk n + _
      rw [i4]
      by_cases c : mk n % 8 = 4
      · rw [if_pos c, if_pos (by lia)]
      · rw [if_neg c, if_neg (by lia)]
theorem PkM.fl (K : PkM hm m s n tm sz mk fo) : flM hm m s = flS hm m s (ctF mk sz n) ∧ dnM hm m s = ctD mk sz n := by
  have e := ctF_cg (mk := mk) (mk' := mkM hm m s) (sz := sz) (sz' := szM hm m s) (n := n) (fun k hk => by have := K.mks hk; exact ⟨by lia, this.2⟩)
  unfold flM dnM
  rw [K.2.1, Int.toNat_natCast, e.1, e.2.1]
  exact ⟨rfl, rfl⟩
/-- cells of the model's space s -/
def MFs (hm hm' : Hp) (m s : Nat) : Prop := (∀ i k, (i = 1 ∨ i = 8 ∨ i = 9 ∨ i = 10 ∨ i = 11) → k = s → hI hm' (m + i) k = hI hm (m + i) k) ∧ (∀ i k, 2 ≤ i → i ≤ 7 → k < 4096 → hI hm' (m + i) (4096 * s + k) = hI hm (m + i) (4096 * s + k)) ∧ (∀ i k, (i = 13 ∨ i = 14) → (k = 2 * s ∨ k = 2 * s + 1) → hI hm' (m + i) k = hI hm (m + i) k) ∧ (∀ k, k < 8192 → hI hm' (m + 12) (8192 * s + k) = hI hm (m + 12) (8192 * s + k)) ∧ (MBk hm m → MBk hm' m)
theorem QMs.fr {l f e : Nat} {V : Nat → Int} (Q : QMs hm m l f e V) (F : MFs hm hm' m s) (hl : l = 2 * s ∨ l = 2 * s + 1) (he : e ≤ 4096) : QMs hm' m l f e V := by
  obtain ⟨q1, q2, q3⟩ := Q
  refine ⟨by rw [F.2.2.1 14 l (by lia) hl]; exact q1, by rw [F.2.2.1 13 l (by lia) hl]; exact q2, fun j hj => ?_⟩
  rcases hl with rfl | rfl
  · have := F.2.2.2.1 j (by lia)
    rw [show 4096 * (2 * s) + j = 8192 * s + j by lia, this, show 8192 * s + j = 4096 * (2 * s) + j by lia]; exact q3 j hj
  · have := F.2.2.2.1 (4096 + j) (by lia)
    rw [show 4096 * (2 * s + 1) + j = 8192 * s + (4096 + j) by lia, this, show 8192 * s + (4096 + j) = 4096 * (2 * s + 1) + j by lia]; exact q3 j hj
theorem PkM.fr (K : PkM hm m s n tm sz mk fo) (F : MFs hm hm' m s) : PkM hm' m s n tm sz mk fo := by
  obtain ⟨⟨L, g0⟩, k1, k2, k3, k4, k5, k6⟩ := K
  refine ⟨⟨F.2.2.2.2 L, g0⟩, by rw [F.1 1 s (by lia) rfl]; exact k1, by rw [F.1 8 s (by lia) rfl]; exact k2, k3, k4, fun k hk => ?_, k6⟩
  have e := fun i h1 h2 => F.2.1 i k h1 h2 (show k < 4096 by lia)
  rw [e 2 (by lia) (by lia), e 3 (by lia) (by lia), e 4 (by lia) (by lia), e 5 (by lia) (by lia), e 6 (by lia) (by lia), e 7 (by lia) (by lia)]
  exact k5 k hk
theorem flM_fr (K : SpR hc p w hm m s T) (F : MFs hm hm' m s) : flM hm' m s = flM hm m s ∧ dnM hm' m s = dnM hm m s := by
  obtain ⟨n, tm, sz, mk, fo, _, _, K2, _⟩ := K
  have d := F.1 9 s (by lia) rfl
  rw [(K2.fr F).fl.1, K2.fl.1, (K2.fr F).fl.2, K2.fl.2]
  unfold flS
  rw [d]
  exact ⟨rfl, rfl⟩
theorem SpR.fr (K : SpR hc p w hm m s T) (B : ∀ x, w x ≠ 0 → x < hN hc) (F : GF C hc hc') (c : ∀ x, w x / 10 = s + 1 → ¬ C x) (hw : ∀ x, w x / 10 = s + 1 → w' x = w x) (h0 : w' 0 = 0) (M : MFs hm hm' m s) : SpR hc' p w' hm' m s T := by
  obtain ⟨n, tm, sz, mk, fo, W, K1, K2, Q, S, T'⟩ := K
  obtain ⟨w1, w2, w3, w4, w5, w6, w7, w8, w9, w10, w11, w0⟩ := W
  have c1 := c p (by lia)
  have c2 := c (hR hc p 0) (by lia)
  have c3 := c (hR hc p 1) (by lia)
  have c4 := c (hR hc p 2) (by lia)
  have c5 := c (p + 4) (by lia)
  have c6 := c (hR hc (p + 4) 0) (by lia)
  have c7 := c (p + 6) (by lia)
  have c8 := c (hR hc (p + 6) 0) (by lia)
  have b1 := B p (by lia)
  have b2 := B (hR hc p 0) (by lia)
  have b3 := B (hR hc p 1) (by lia)
  have b4 := B (hR hc p 2) (by lia)
  have b5 := B (p + 4) (by lia)
  have b7 := B (p + 6) (by lia)
  have r0 : hR hc' p 0 = hR hc p 0 := F.r b1 c1
  have r1 : hR hc' p 1 = hR hc p 1 := F.r b1 c1
  have r2 : hR hc' p 2 = hR hc p 2 := F.r b1 c1
  have r4 : hR hc' (p + 4) 0 = hR hc (p + 4) 0 := F.r b5 c5
  have r6 : hR hc' (p + 6) 0 = hR hc (p + 6) 0 := F.r b7 c7
  refine ⟨n, tm, sz, mk, fo, ?_, ?_, K2.fr M, ?_, ?_, T'⟩
  · unfold SpW
    rw [r0, r1, r2, r4, r6, hw p (by lia), hw (hR hc p 0) (by lia), hw (hR hc p 1) (by lia), hw (hR hc p 2) (by lia), hw (p + 4) (by lia), hw (hR hc (p + 4) 0) (by lia), hw (p + 6) (by lia), hw (hR hc (p + 6) 0) (by lia), hw (p + 8) (by lia), hw (p + 9) (by lia), hw (p + 10) (by lia)]
    exact ⟨w1, w2, w3, w4, w5, w6, w7, w8, w9, w10, w11, h0⟩
  · obtain ⟨k1, k2, k3, k4, k5, k6, k7⟩ := K1
    refine ⟨by rw [F.i b1 c1]; exact k1, by rw [F.i b1 c1]; exact k2, k3, k4, ?_, fun k hk => ?_, k7⟩
    · rw [r0, r1, r2, F.l b2 c2, F.l b3 c3, F.l b4 c4]; exact k5
    · rw [r0, r1, r2, F.i b2 c2, F.i b3 c3, F.i b4 c4]; exact k6 k hk
  · obtain ⟨f0, e0, V0, f1, e1, V1, q1, q2, q3, q4⟩ := Q
    have d := M.1 9 s (by lia) rfl
    refine ⟨f0, e0, V0, f1, e1, V1, q1.fr F c5 c6, q2.fr F c7 c8, fun z => ?_, fun z => ?_⟩
    · rw [d] at z
      obtain ⟨z1, z2, z3, z4, z5⟩ := q3 z
      exact ⟨z1.fr M (by lia) q1.2.2.2.1, z2.fr M (by lia) q2.2.2.2.1, z3, z4, z5⟩
    · rw [d] at z
      obtain ⟨z1, z2, z3, z4⟩ := q4 z
      have e := fun i h1 k h2 => M.2.2.1 i k h1 h2
      rw [e 14 (by lia) (2 * s) (by lia), e 13 (by lia) (2 * s) (by lia), e 14 (by lia) (2 * s + 1) (by lia), e 13 (by lia) (2 * s + 1) (by lia)]
      exact ⟨z1, z2, z3, z4⟩
  · obtain ⟨⟨s1, s1'⟩, ⟨s2, s3, s4⟩, s5, s6, s7, s8⟩ := S
    have e := fun i h1 => M.1 i s h1 rfl
    unfold ScR
    rw [F.i b1 c1, F.i b1 c1, F.i b1 c1, F.i b1 c1, F.i b1 c1, F.i b1 c1, e 9 (by lia), e 10 (by lia), e 11 (by lia)]
    exact ⟨⟨s1, s1'⟩, ⟨s2, s3, s4⟩, s5, s6, s7, s8⟩
end
