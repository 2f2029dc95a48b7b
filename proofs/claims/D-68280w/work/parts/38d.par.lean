/-! parameters, model -/
theorem iOr_nt {a b : Nat} (ha : a < 2147483648) (hb : b < 2147483648) : iOr (a : Int) (b : Int) = ((a ||| b : Nat) : Int) := by
  have hab : a ||| b < 2 ^ 31 := Nat.or_lt_two_pow ha hb
  refine bv_inj (by unfold iOr; exact c32_toInt _) ⟨by lia, by lia⟩ ?_
  rw [bv_iOr]
  unfold bv
  rw [BitVec.ofInt_natCast, BitVec.ofInt_natCast, BitVec.ofInt_natCast]
  refine BitVec.eq_of_toNat_eq ?_
  rw [BitVec.toNat_or, BitVec.toNat_ofNat, BitVec.toNat_ofNat, BitVec.toNat_ofNat, Nat.mod_eq_of_lt (by lia), Nat.mod_eq_of_lt (by lia), Nat.mod_eq_of_lt (by lia)]
/-- a set of ids, as bits -/
def PSe (v : Int) (f : Nat → Int) : Prop := ∃ m : Nat, v = m ∧ m < 131072 ∧ ∀ k, k < 17 → f k = if m.testBit k then 1 else 0
theorem PSe.get {v : Int} {f : Nat → Int} (S : PSe v f) {k : Nat} (hk : k < 17) : iAnd (iShr v (k : Int)) 1 = f k := by
  obtain ⟨m, rfl, hm, e⟩ := S
  rw [iShr_eq (x := (m : Int)) ⟨by lia, by lia⟩ (n := k) (by lia), iAnd_mask (n := 1) (by decide) (by decide), e k hk]
  have e1 : ((m : Int) / 2 ^ k) % 2 ^ 1 = ((m / 2 ^ k % 2 : Nat) : Int) := by
    rw [show (2 : Int) ^ k = ((2 ^ k : Nat) : Int) from (by norm_cast), show (2 : Int) ^ 1 = ((2 : Nat) : Int) from rfl]
    norm_cast
  rw [e1]
  have : m.testBit k = decide (m / 2 ^ k % 2 = 1) := Nat.testBit_eq_decide_div_mod_eq
  rw [this]
  by_cases c : m / 2 ^ k % 2 = 1
  · rw [if_pos (decide_eq_true c), c]; rfl
  · rw [if_neg (by rw [decide_eq_true_iff]; exact c)]
    have : m / 2 ^ k % 2 = 0 := by lia
    rw [this]; rfl
theorem PSe.put {v : Int} {f : Nat → Int} (S : PSe v f) {k : Nat} (hk : k < 17) : PSe (iOr v (iShl 1 (k : Int))) (up1 f k 1) := by
  obtain ⟨m, rfl, hm, e⟩ := S
  have p : 2 ^ k ≤ 65536 := by
    have : 2 ^ k ≤ 2 ^ 16 := Nat.pow_le_pow_right (by decide) (by lia)
    exact this
  have e1 : iShl 1 (k : Int) = ((2 ^ k : Nat) : Int) := by
    rw [iShl_eq (by lia), Int.one_mul]
    have : (2 : Int) ^ k = ((2 ^ k : Nat) : Int) := by norm_cast
    rw [this, w32_id ⟨by lia, by lia⟩]
  rw [e1, iOr_nt (by lia) (by lia)]
  refine ⟨m ||| 2 ^ k, rfl, ?_, fun j hj => ?_⟩
  · exact Nat.or_lt_two_pow (n := 17) hm (by lia)
  · rw [Nat.testBit_or, Nat.testBit_two_pow]
    by_cases c : j = k
    · subst c; rw [up1_eq, if_pos (by simp)]
    · rw [up1_ne c, e j hj]
      have : decide (k = j) = false := decide_eq_false (fun z => c z.symm)
      rw [this, Bool.or_false]
section
variable {h h' h'' : Hp} {d w N at_ : Nat} {T : Nat → Int} {s : PSt}
/-- what reading parameters changes: the wire, the numbers, the names' places -/
def PaF (d w : Nat) (h h' : Hp) : Prop := (h'.1 = h.1 ∧ h'.2.1 = h.2.1) ∧ (∀ x y, x ≠ w → hR h' x y = hR h x y) ∧ (∀ x y, x ≠ w → x ≠ d + 35 → hI h' x y = hI h x y) ∧ ∀ x y, x ≠ d + 34 → hJ h' x y = hJ h x y
theorem PaF.rf : PaF d w h h := ⟨⟨rfl, rfl⟩, fun _ _ _ => rfl, fun _ _ _ _ => rfl, fun _ _ _ => rfl⟩
theorem PaF.tr (F : PaF d w h h') (G : PaF d w h' h'') : PaF d w h h'' := ⟨⟨G.1.1.trans F.1.1, G.1.2.trans F.1.2⟩, fun x y a => (G.2.1 x y a).trans (F.2.1 x y a), fun x y a b => (G.2.2.1 x y a b).trans (F.2.2.1 x y a b), fun x y a => (G.2.2.2 x y a).trans (F.2.2.2 x y a)⟩
theorem PaF.l (F : PaF d w h h') : ln h' = ln h := by unfold ln; rw [F.1.2]
/-- where parameters are read -/
def PaX (h : Hp) (d w N : Nat) (T : Nat → Int) : Prop := MSd h d ∧ (w ≠ 0 ∧ (w < d ∨ d + 90 < w)) ∧ hI h (d + 76) 14 = (N : Int) ∧ N ≤ 300 ∧ BRm h (d + 84) N T
theorem PaX.f (X : PaX h d w N T) (F : PaF d w h h') : PaX h' d w N T := by
  obtain ⟨L, W, n, n3, B⟩ := X
  exact ⟨L.fr (fun x k hx => F.2.1 _ _ (by lia)) (fun x hx => by rw [F.l]), W, by rw [F.2.2.1 _ _ (by lia) (by lia)]; exact n, n3, B.of (fun y => F.2.2.1 _ _ (by lia) (by lia))⟩
theorem m_plook {M : Nat} (X : PaX h d w N T) (hM : M ≤ 300) (ha : at_ ≤ M) : ∃ g, f_mWire_look w (d + 84) (at_ : Int) (M : Int) h = some g ∧ RD g w (d + 84) at_ M false ∧ PaF d w h g := by
  obtain ⟨L, W, n, n3, B⟩ := X
  have l0 := L.1
  refine ⟨sI (sI (sI (sR h w 0 (d + 84)) w 1 (at_ : Int)) w 2 (M : Int)) w 3 0, rfl, ⟨⟨W.1, by lia, by lia⟩, ?_, ?_, ?_, ?_, ha, ?_, by lia⟩, ⟨rfl, rfl⟩, fun x y q => ?_, fun x y q _ => ?_, fun x y _ => rfl⟩
  · show hR (sR h w 0 (d + 84)) w 0 = _
    rw [hR_sR, if_pos ⟨rfl, rfl⟩]
  · rw [hI_sI, if_neg (by lia), hI_sI, if_neg (by lia), hI_sI, if_pos ⟨rfl, rfl⟩]
  · rw [hI_sI, if_neg (by lia), hI_sI, if_pos ⟨rfl, rfl⟩]
  · rw [hI_sI, if_pos ⟨rfl, rfl⟩]; rfl
  · show M ≤ ln h (d + 84)
    rw [L.l84]; exact hM
  · show hR (sR h w 0 (d + 84)) x y = _
    rw [hR_sR, if_neg (fun z => q z.1)]
  · rw [hI_sI, if_neg (fun z => q z.1), hI_sI, if_neg (fun z => q z.1), hI_sI, if_neg (fun z => q z.1)]; rfl
theorem PaF.adv {x : Nat} {b : Bool} : PaF d w h (adv h w x b) := ⟨⟨rfl, rfl⟩, fun _ _ _ => rfl, fun x y q _ => by rw [hI_adv, if_neg (fun z => q z.1), if_neg (fun z => q z.1)], fun _ _ _ => rfl⟩
theorem PaF.sJ {k : Nat} {v : Int} : PaF d w h (sJ h (d + 34) k v) := ⟨⟨rfl, rfl⟩, fun _ _ _ => rfl, fun _ _ _ _ => rfl, fun x y q => by rw [hJ_sJ, if_neg (fun z => q z.1)]⟩
theorem PaF.sI {k : Nat} {v : Int} : PaF d w h (sI h (d + 35) k v) := ⟨⟨rfl, rfl⟩, fun _ _ _ => rfl, fun x y _ q => by rw [hI_sI, if_neg (fun z => q z.1)], fun _ _ _ => rfl⟩
/-- what a number must be -/
theorem m_psuitR {k : Nat} {v : Int} (hk : k < 17) (hb : pByt k = false) (k12 : k ≠ 12) : (if (k : Int) ≠ 3 then f_mSide_suits_b145 d (k : Int) v h else if v < 1200 then f_mSide_suits_b160 d (k : Int) v h else f_mSide_suits_b145 d (k : Int) v h) = some (if pRng k v then 1 else 0, h) := by
  have e : ∀ (b : Bool) (c : Prop) [Decidable c], (c ↔ b = false) → (if c then some ((0 : Int), h) else some (1, h)) = some ((if b = true then (1 : Int) else 0), h) := fun b c _ q => by
    by_cases z : c
    · rw [if_pos z, if_neg (by rw [q.1 z]; decide)]
    · rw [if_neg z, if_pos (by cases hb : b with | true => rfl | false => exact absurd (q.2 hb) z)]
  unfold f_mSide_suits_b145 f_mSide_suits_b160 f_mSide_suits_b164 f_mSide_suits_b165 f_mSide_suits_b179 f_mSide_suits_b188 f_mSide_suits_b203 f_mSide_suits_b218 f_mSide_suits_b222 f_mSide_suits_b223 pRng
  rcases (show k = 1 ∨ k = 3 ∨ k = 4 ∨ k = 5 ∨ k = 6 ∨ k = 7 ∨ k = 8 ∨ k = 9 ∨ k = 10 ∨ k = 11 ∨ k = 14 by
    unfold pByt at hb; rw [decide_eq_false_iff_not] at hb; lia) with q | q | q | q | q | q | q | q | q | q | q <;> subst q
  · simp
  · by_cases c : v < 1200
    · have c' : ¬ 1200 ≤ v := by omega
      simp [c, c']
    · have c' : 1200 ≤ v := by omega
      simp [c, c']
  · simp
  · simp
  · simp
  · simp
  · by_cases c : 1152921504606846976 < v
    · have c' : ¬ v ≤ 1152921504606846976 := by omega
      simp [c, c']
    · have c' : v ≤ 1152921504606846976 := by omega
      simp [c, c']
  · by_cases c : 1152921504606846976 < v
    · have c' : ¬ v ≤ 1152921504606846976 := by omega
      simp [c, c']
    · have c' : v ≤ 1152921504606846976 := by omega
      simp [c, c']
  · by_cases c : 20 < v
    · have c' : ¬ v ≤ 20 := by omega
      simp [c, c']
    · have c' : v ≤ 20 := by omega
      simp [c, c']
  · by_cases c : v ≤ 16383
    · have c' : v < 16384 := by omega
      simp [c, c']
    · have c' : ¬ v < 16384 := by omega
      simp [c, c']
  · by_cases c : 2 ≤ v
    · simp [c]
    · simp [c]
end
