/-! the greeting: bounds are kept -/
section
variable {s : GSt}
theorem HMAC_lt (n : Nat) (K : Nat → Int) (m : Nat) (T : Nat → Int) (k : Nat) : 0 ≤ HMAC n K m T k ∧ HMAC n K m T k < 256 := SHA_lt _ _ _
theorem gLn_app {k N : Nat} {F : Nat → Int} {r : Nat} (V : 0 ≤ s.1 k) (hk : 7 ≤ k ∧ k < 12) : gLn (sApp s k N F) r = if r + 4 = k then (s.1 k).toNat + N else gLn s r := by
  by_cases c : r + 4 = k
  · have e : (sApp s k N F).1 (r + 4) = s.1 k + N := by rw [c]; exact up1_eq
    rw [if_pos c, gLn_num (by omega), e]; omega
  · rw [if_neg c]; exact gLn_eq (fun _ => up1_ne (by omega)) (fun _ => up1_ne (by omega)) (fun _ => up1_ne c)
theorem GV.app {k N : Nat} {F : Nat → Int} (V : GV s) (hk : 7 ≤ k ∧ k < 12) (hb : s.1 k + N ≤ 1024) (hF : ∀ j, j < N → 0 ≤ F j ∧ F j < 256) : GV (sApp s k N F) := by
  have vk := V.2.2.2.2.1 k hk.1 hk.2
  obtain ⟨v0, v1, v2, v3, v4, v5⟩ := V
  refine ⟨by show up1 _ _ _ 0 = 0 ∨ up1 _ _ _ 0 = 1; rw [up1_ne (by lia)]; exact v0, by show 0 ≤ up1 _ _ _ 1 ∧ up1 _ _ _ 1 ≤ 300; rw [up1_ne (by lia)]; exact v1, by show -1 ≤ up1 _ _ _ 5 ∧ up1 _ _ _ 5 ≤ 300; rw [up1_ne (by lia)]; exact v2, by show -1 ≤ up1 _ _ _ 6 ∧ up1 _ _ _ 6 ≤ 2; rw [up1_ne (by lia)]; exact v3, fun k' h1 h2 => ?_, fun r hr hh j hj => ?_⟩
  · show 0 ≤ up1 _ _ _ k' ∧ up1 _ _ _ k' ≤ 1024
    by_cases c : k' = k
    · rw [c, up1_eq]; lia
    · rw [up1_ne c]; exact v4 k' h1 h2
  · have hh' : gHas s r := (gHas_up (s := s) (k := k) (by lia)).1 hh
    rw [gLn_app vk.1 hk] at hj
    show 0 ≤ (if r + 4 = k ∧ (s.1 k).toNat ≤ j then F (j - (s.1 k).toNat) else s.2 r j) ∧ (if r + 4 = k ∧ (s.1 k).toNat ≤ j then F (j - (s.1 k).toNat) else s.2 r j) < 256
    by_cases c : r + 4 = k ∧ (s.1 k).toNat ≤ j
    · rw [if_pos c]; rw [if_pos c.1] at hj; exact hF _ (by lia)
    · rw [if_neg c]
      refine v5 r hr hh' j ?_
      by_cases d : r + 4 = k
      · rw [gLn_num (by lia), d]; lia
      · rw [if_neg d] at hj; exact hj
theorem GV.num {k : Nat} {v : Int} (V : GV s) (hk : k = 2 ∨ k = 3 ∨ k = 4 ∨ (7 ≤ k ∧ k < 12 ∧ v = 0)) : GV (sNum s k v) := by
  obtain ⟨v0, v1, v2, v3, v4, v5⟩ := V
  refine ⟨by show up1 _ _ _ 0 = 0 ∨ up1 _ _ _ 0 = 1; rw [up1_ne (by lia)]; exact v0, by show 0 ≤ up1 _ _ _ 1 ∧ up1 _ _ _ 1 ≤ 300; rw [up1_ne (by lia)]; exact v1, by show -1 ≤ up1 _ _ _ 5 ∧ up1 _ _ _ 5 ≤ 300; rw [up1_ne (by lia)]; exact v2, by show -1 ≤ up1 _ _ _ 6 ∧ up1 _ _ _ 6 ≤ 2; rw [up1_ne (by lia)]; exact v3, fun k' h1 h2 => ?_, fun r hr hh j hj => ?_⟩
  · show 0 ≤ up1 _ _ _ k' ∧ up1 _ _ _ k' ≤ 1024
    by_cases c : k' = k
    · rw [c, up1_eq]; lia
    · rw [up1_ne c]; exact v4 k' h1 h2
  · refine v5 r hr ((gHas_up (s := s) (k := k) (by lia)).1 hh) j (Nat.lt_of_lt_of_le hj ?_)
    by_cases c : 7 ≤ k ∧ k < 12
    · rw [show v = 0 by lia]; exact gLn_n0 c r
    · exact gLn_nm (by lia) r
theorem GV.gho (V : GV s) : GV (sNum s 12 1) := by
  obtain ⟨v0, v1, v2, v3, v4, v5⟩ := V
  refine ⟨v0, v1, v2, v3, fun k' h1 h2 => ?_, fun r hr hh j hj => ?_⟩
  · show 0 ≤ up1 _ _ _ k' ∧ up1 _ _ _ k' ≤ 1024
    rw [up1_ne (by lia)]; exact v4 k' h1 h2
  · refine v5 r hr ⟨fun e => hh.1 e, fun e => ?_⟩ j (Nat.lt_of_lt_of_le hj (gLn_nm (by decide) r))
    have := hh.2 e
    have e12 : (sNum s 12 1).1 12 = 1 := sNum_eq
    lia
theorem GV.greets (V : GV s) (hl : 0 ≤ s.1 6) : GV (sGreets s) := by
  obtain ⟨v0, v1, v2, v3, v4, v5⟩ := V
  refine ⟨v0, v1, v2, by show -1 ≤ (1 : Int) ∧ (1 : Int) ≤ 2; decide, fun k' h1 h2 => ?_, fun r hr hh j hj => ?_⟩
  · show 0 ≤ up1 _ _ _ k' ∧ up1 _ _ _ k' ≤ 1024
    rw [up1_ne (by lia)]; exact v4 k' h1 h2
  · show 0 ≤ (if r = 9 then sGre s else if r = 12 then LAB 6 32 32 (sGre s) (sDig s) else if r = 13 then LAB 7 32 32 (sGre s) (sDig s) else s.2 r) j ∧ (if r = 9 then sGre s else if r = 12 then LAB 6 32 32 (sGre s) (sDig s) else if r = 13 then LAB 7 32 32 (sGre s) (sDig s) else s.2 r) j < 256
    by_cases c9 : r = 9
    · rw [if_pos c9]; exact HMAC_lt _ _ _ _ _
    · rw [if_neg c9]
      by_cases c12 : r = 12
      · rw [if_pos c12]; exact LAB_lt _ _ _ _ _ _
      · rw [if_neg c12]
        by_cases c13 : r = 13
        · rw [if_pos c13]; exact LAB_lt _ _ _ _ _ _
        · rw [if_neg c13]
          refine v5 r hr ⟨fun _ => hl, fun e => hh.2 e⟩ j ?_
          unfold sGreets at hj; rw [gLn_up (by decide)] at hj; exact hj
theorem GV.talks (V : GV s) (hl : 0 ≤ s.1 6) : GV (sTalks s) := by
  obtain ⟨v0, v1, v2, v3, v4, v5⟩ := V
  refine ⟨v0, v1, v2, by show -1 ≤ (2 : Int) ∧ (2 : Int) ≤ 2; decide, fun k' h1 h2 => ?_, fun r hr hh j hj => ?_⟩
  · show 0 ≤ up1 _ _ _ k' ∧ up1 _ _ _ k' ≤ 1024
    rw [up1_ne (by lia)]; exact v4 k' h1 h2
  · show 0 ≤ (if r = 14 then LAB 8 32 32 (sTlk s) (sDig s) else if r = 15 then LAB 9 32 32 (sTlk s) (sDig s) else s.2 r) j ∧ (if r = 14 then LAB 8 32 32 (sTlk s) (sDig s) else if r = 15 then LAB 9 32 32 (sTlk s) (sDig s) else s.2 r) j < 256
    by_cases c12 : r = 14
    · rw [if_pos c12]; exact LAB_lt _ _ _ _ _ _
    · rw [if_neg c12]
      by_cases c13 : r = 15
      · rw [if_pos c13]; exact LAB_lt _ _ _ _ _ _
      · rw [if_neg c13]
        refine v5 r hr ⟨fun _ => hl, fun e => hh.2 e⟩ j ?_
        unfold sTalks at hj; rw [gLn_up (by decide)] at hj; exact hj
theorem GV.keep {l p n : Nat} (V : GV s) (hl : l < 2) (hn : n ≤ 300) (hp : (p : Int) + n ≤ s.1 (10 + l)) : GV (sKeep s l p n) := by
  obtain ⟨v0, v1, v2, v3, v4, v5⟩ := V
  refine ⟨v0, v1, by show -1 ≤ (n : Int) ∧ (n : Int) ≤ 300; lia, v3, fun k' h1 h2 => ?_, fun r hr hh j hj => ?_⟩
  · show 0 ≤ up1 _ _ _ k' ∧ up1 _ _ _ k' ≤ 1024
    rw [up1_ne (by lia)]; exact v4 k' h1 h2
  · show 0 ≤ (if r = 8 then s.2 (6 + l) (p + j) else s.2 r j) ∧ (if r = 8 then s.2 (6 + l) (p + j) else s.2 r j) < 256
    by_cases c : r = 8
    · rw [if_pos c]
      rw [c, gLn_8] at hj
      have e5 : (sKeep s l p n).1 5 = n := by show up1 s.1 5 _ 5 = _; exact up1_eq
      exact v5 (6 + l) (by lia) (gHas_o (by lia)) _ (by rw [gLn_num (by lia), show 6 + l + 4 = 10 + l by lia]; lia)
    · rw [if_neg c]
      refine v5 r hr ((gHas_up (s := s) (k := 5) (by decide)).1 hh) j (Nat.lt_of_lt_of_le hj ?_)
      exact Nat.le_of_eq (gLn_eq (fun _ => rfl) (fun z => absurd z c) (fun _ => up1_ne (by omega)))
theorem sBody_lt {t n : Nat} {B : Nat → Int} (ht : t < 256) (hn : n < 65536) (hB : ∀ j, j < n → 0 ≤ B j ∧ B j < 256) (j : Nat) (hj : j < 4 + n) : 0 ≤ sBody t n B j ∧ sBody t n B j < 256 := by
  unfold sBody
  by_cases c0 : j = 0
  · rw [if_pos c0]; lia
  · rw [if_neg c0]
    by_cases c1 : j = 1
    · rw [if_pos c1]; decide
    · rw [if_neg c1]
      by_cases c2 : j = 2
      · rw [if_pos c2]; lia
      · rw [if_neg c2]
        by_cases c3 : j = 3
        · rw [if_pos c3]; lia
        · rw [if_neg c3]; exact hB _ (by lia)
theorem GV.send {l t n : Nat} {B : Nat → Int} (V : GV s) (hl : l < 2) (ht : t < 256) (hB : ∀ j, j < n → 0 ≤ B j ∧ B j < 256) (z1 : s.1 (8 + l) + (4 + n) ≤ 1024) : GV (sSend s l t n B) := by
  have := V.2.2.2.2.1 (8 + l) (by lia) (by lia)
  exact V.app (by lia) (by lia) (sBody_lt ht (by lia) hB)
theorem GV.says {l t n : Nat} {B : Nat → Int} (V : GV s) (hl : l < 2) (ht : t < 256) (hB : ∀ j, j < n → 0 ≤ B j ∧ B j < 256) (z1 : s.1 (8 + l) + (4 + n) ≤ 1024) (tz1 : s.1 7 + (4 + n) ≤ 1024) : GV (sSays s l t n B) := by
  have := V.2.2.2.2.1 (8 + l) (by lia) (by lia)
  have e7 : (sSend s l t n B).1 7 = s.1 7 := sApp_ne (by omega)
  exact (V.send hl ht hB z1).app (by decide) (by rw [e7]; lia) (sBody_lt ht (by lia) hB)
theorem GV.row {r : Nat} (V : GV s) (hr : r < 16) (h3 : r ≠ 3 ∧ r ≠ 10 ∧ r ≠ 11) : ∀ j, j < gLn s r → 0 ≤ s.2 r j ∧ s.2 r j < 256 := fun j hj => V.2.2.2.2.2 r hr (gHas_o h3) j hj
end
