/-! the greeting: what stays true while bytes come -/
section
variable {s : GSt} {l : Nat} {b : Int}
theorem sAdd_n (h : l < 2) : (sAdd s l b).1 (10 + l) = s.1 (10 + l) + 1 := up1_eq
theorem sAdd_o {k : Nat} (h : k ≠ 10 + l) : (sAdd s l b).1 k = s.1 k := up1_ne h
theorem sAdd_b {r j : Nat} (h : r = 6 + l → (j : Int) < s.1 (10 + l)) : (sAdd s l b).2 r j = s.2 r j := by
  show (if r + 4 = 10 + l ∧ (s.1 (10 + l)).toNat ≤ j then _ else s.2 r j) = _
  rw [if_neg (by lia)]
theorem sLook_0 (e : s.1 (10 + l) = 0) : sLook s l = 0 := by unfold sLook; rw [if_pos e]
/-- a message is whole just when its last byte comes -/
theorem sLook_add (V : GV s) (hl : l < 2) (hb : 0 ≤ b ∧ b < 256) (st : sLook s l = 0) (hp : 0 < sLook (sAdd s l b) l) : sLook (sAdd s l b) l = (sAdd s l b).1 (10 + l) ∧ s.1 2 ≠ 0 ∧ gLev (s.1 2) = l ∧ 4 ≤ sLook (sAdd s l b) l ∧ gFit (s.1 2) (sLook (sAdd s l b) l - 4) = true := by
  have v := V.2.2.2.2.1 (10 + l) (by lia) (by lia)
  have n := sAdd_n (s := s) (b := b) hl
  have w : (sAdd s l b).1 2 = s.1 2 := sAdd_o (by lia)
  obtain ⟨m, em⟩ : ∃ m, m = s.1 (10 + l) := ⟨_, rfl⟩
  have rb : ∀ j : Nat, (j : Int) < m + 1 → 0 ≤ (sAdd s l b).2 (6 + l) j ∧ (sAdd s l b).2 (6 + l) j < 256 := fun j hj => by
    by_cases c : (j : Int) < m
    · rw [sAdd_b (fun _ => by lia)]
      exact V.row (by lia) (by lia) j (by rw [gLn_num (by lia), show 6 + l + 4 = 10 + l by lia]; lia)
    · show 0 ≤ (if 6 + l + 4 = 10 + l ∧ (s.1 (10 + l)).toNat ≤ j then b else s.2 (6 + l) j) ∧ (if 6 + l + 4 = 10 + l ∧ (s.1 (10 + l)).toNat ≤ j then b else s.2 (6 + l) j) < 256
      rw [if_pos ⟨by lia, by lia⟩]; exact hb
  unfold sLook at hp ⊢
  rw [n, w, ← em] at hp ⊢
  by_cases c0 : m + 1 = 0
  · lia
  rw [if_neg c0] at hp ⊢
  by_cases c1 : s.1 2 = 0 ∨ gLev (s.1 2) ≠ l ∨ (sAdd s l b).2 (6 + l) 0 ≠ s.1 2
  · rw [if_pos c1] at hp; lia
  rw [if_neg c1] at hp ⊢
  by_cases c2 : m + 1 < 4
  · rw [if_pos c2] at hp; lia
  rw [if_neg c2] at hp ⊢
  have b1 := rb 1 (by lia)
  have b2 := rb 2 (by lia)
  have b3 := rb 3 (by lia)
  have N0 : 0 ≤ sN (sAdd s l b) l := by unfold sN; lia
  by_cases c3 : gFit (s.1 2) (sN (sAdd s l b) l) = false
  · rw [if_pos c3] at hp; lia
  rw [if_neg c3] at hp ⊢
  by_cases c4 : m + 1 < 4 + sN (sAdd s l b) l
  · rw [if_pos c4] at hp; lia
  rw [if_neg c4] at hp ⊢
  have fin : 4 + sN (sAdd s l b) l = m + 1 := by
    by_cases c5 : m < 4
    · lia
    · have e0 : (sAdd s l b).2 (6 + l) 0 = s.2 (6 + l) 0 := sAdd_b (fun _ => by lia)
      have eN : sN (sAdd s l b) l = sN s l := by unfold sN; rw [sAdd_b (fun _ => by lia), sAdd_b (fun _ => by lia), sAdd_b (fun _ => by lia)]
      rw [e0] at c1
      rw [eN] at c3 c4 ⊢
      unfold sLook at st
      rw [← em, if_neg (by lia), if_neg c1, if_neg (by lia), if_neg c3] at st
      by_cases c6 : m < 4 + sN s l
      · lia
      · rw [if_neg c6] at st; lia
  have c3' : gFit (s.1 2) (sN (sAdd s l b) l) = true := by cases hx : gFit (s.1 2) (sN (sAdd s l b) l) with | true => rfl | false => exact absurd hx c3
  refine ⟨fin, fun z => c1 (Or.inl z), ?_, by lia, by rw [show 4 + sN (sAdd s l b) l - 4 = sN (sAdd s l b) l by lia]; exact c3'⟩
  by_cases q : gLev (s.1 2) = l
  · exact q
  · exact absurd (Or.inr (Or.inl q)) c1
theorem GV.add (V : GV s) (hl : l < 2) (hb : 0 ≤ b ∧ b < 256) (hm : s.1 (10 + l) ≤ 1023) : GV (sAdd s l b) := V.app (by lia) (by lia) (fun _ _ => hb)
theorem GV.fail {w : Int} (V : GV s) : GV (sFail s w) := (((V.num (k := 4) (by omega)).num (k := 2) (by omega)).num (k := 10) (v := 0) (by omega)).num (k := 11) (v := 0) (by omega)
theorem sFail_4 {w : Int} : (sFail s w).1 4 = w := rfl
theorem gPh_add (P : gPh s) (hl : l < 2) : gPh (sAdd s l b) := by
  unfold gPh at *
  rw [sAdd_o (by lia), sAdd_o (by lia), sAdd_o (by lia), sAdd_o (by lia), sAdd_o (by lia), sAdd_o (by lia), sAdd_o (by lia), sAdd_o (by lia)]
  exact P
theorem gFit_le {w n : Int} (h : gFit w n = true) : n ≤ 332 := by
  unfold gFit at h
  by_cases c : w = 1
  · rw [if_pos c] at h; simp at h; lia
  · rw [if_neg c] at h
    by_cases d : w = 8
    · rw [if_pos d] at h; simp at h; lia
    · rw [if_neg d] at h; simp at h; lia
/-- what a level has when nothing whole waits -/
theorem sLook_le (V : GV s) (hl : l < 2) (st : sLook s l = 0) : s.1 (10 + l) ≤ 335 := by
  have v := V.2.2.2.2.1 (10 + l) (by lia) (by lia)
  unfold sLook at st
  by_cases c0 : s.1 (10 + l) = 0
  · lia
  rw [if_neg c0] at st
  by_cases c1 : s.1 2 = 0 ∨ gLev (s.1 2) ≠ l ∨ s.2 (6 + l) 0 ≠ s.1 2
  · rw [if_pos c1] at st; lia
  rw [if_neg c1] at st
  by_cases c2 : s.1 (10 + l) < 4
  · lia
  rw [if_neg c2] at st
  by_cases c3 : gFit (s.1 2) (sN s l) = false
  · rw [if_pos c3] at st; lia
  rw [if_neg c3] at st
  have c3' : gFit (s.1 2) (sN s l) = true := by cases hx : gFit (s.1 2) (sN s l) with | true => rfl | false => exact absurd hx c3
  have := gFit_le c3'
  by_cases c4 : s.1 (10 + l) < 4 + sN s l
  · lia
  · rw [if_neg c4] at st
    have vb := V.row (r := 6 + l) (by omega) (by omega)
    rw [gLn_num (by omega), show 6 + l + 4 = 10 + l by omega] at vb
    have := vb 1 (by omega); have := vb 2 (by omega); have := vb 3 (by omega)
    unfold sN at st; lia
/-- at the other level nothing waits while a message is done -/
theorem sLook_oth {l' : Nat} (st : sLook s l' = 0) (w : s.1 2 ≠ 0) (el : gLev (s.1 2) = l) (ne : l' ≠ l) : s.1 (10 + l') = 0 := by
  by_cases c0 : s.1 (10 + l') = 0
  · exact c0
  · unfold sLook at st
    rw [if_neg c0, if_pos (Or.inr (Or.inl (by lia)))] at st
    lia
/-- what a whole message makes of the numbers -/
theorem sMsg_num {n : Nat} (P : gPh s) (w0 : s.1 2 ≠ 0) (f0 : s.1 4 = 0) (hn : (n : Int) ≤ 336) (own : 0 ≤ s.1 1 ∧ s.1 1 ≤ 300) (fit : gFit (s.1 2) ((n : Int) - 4) = true) : (sMsg s n).1 4 = 307 ∧ sMsg s n = sFail s 307 ∨ ((sMsg s n).1 4 = 0 ∧ gPh (sMsg s n) ∧ ∀ k, k < 2 → (sMsg s n).1 (10 + k) = s.1 (10 + k)) := by
  rcases P with z | ⟨⟨t0, q0⟩, P⟩
  · exact absurd z w0
  have k2 : ∀ (P : Nat → Prop), P 0 → P 1 → ∀ k, k < 2 → P k := fun P a b k hk => by rcases (show k = 0 ∨ k = 1 by lia) with rfl | rfl; exact a; exact b
  have dn : s.1 2 = 20 → (sDone s n = sFail s 307 ∨ ((sDone s n).1 4 = s.1 4 ∧ (sDone s n).1 2 = 0 ∧ (sDone s n).1 10 = s.1 10 ∧ (sDone s n).1 11 = s.1 11)) := fun _ => by
    unfold sDone
    by_cases c : ∀ k, k < 32 → s.2 7 (4 + k) = sPrf s (1 - s.1 0).toNat k
    · rw [if_pos c]
      by_cases d : s.1 0 = 1
      · rw [if_pos d]; exact Or.inr ⟨rfl, rfl, rfl, rfl⟩
      · rw [if_neg d]; exact Or.inr ⟨rfl, rfl, rfl, rfl⟩
    · rw [if_neg c]; exact Or.inl rfl
  unfold sMsg
  rcases P with ⟨p0, p2, p6, p7, p9⟩ | ⟨p0, p2, p6, p7, p9⟩ | ⟨p0, p2, p6, p7, p9⟩ | ⟨p0, p2, p6, p7, p8, p9⟩ | ⟨p0, p2, p6, p7, p9⟩
  · rw [if_neg (by lia), if_pos p2]
    have nn : n = 36 := by rw [p2] at fit; unfold gFit at fit; simp at fit; lia
    refine Or.inr ⟨f0, Or.inr ⟨⟨t0, q0⟩, Or.inr (Or.inl ⟨p0, rfl, rfl, ?_, p9⟩)⟩, k2 _ rfl rfl⟩
    show s.1 7 + n ≤ 372; lia
  · rw [if_neg (by lia), if_neg (by lia), if_pos p2]
    have nn : n ≤ 304 := by rw [p2] at fit; unfold gFit at fit; simp at fit; lia
    refine Or.inr ⟨f0, Or.inr ⟨⟨t0, q0⟩, Or.inr (Or.inr (Or.inl ⟨p0, rfl, p6, ?_, p9⟩))⟩, k2 _ rfl rfl⟩
    show s.1 7 + n ≤ 676; lia
  · rw [if_neg (by lia), if_neg (by lia), if_neg (by lia)]
    rcases dn p2 with d | ⟨d4, d2, d10, d11⟩
    · exact Or.inl ⟨by rw [d]; rfl, d⟩
    · exact Or.inr ⟨by rw [d4, f0], Or.inl d2, k2 _ d10 d11⟩
  · rw [if_pos p2]
    refine Or.inr ⟨f0, Or.inr ⟨⟨t0, q0⟩, Or.inr (Or.inr (Or.inr (Or.inr ⟨p0, rfl, rfl, ?_, ?_⟩)))⟩, k2 _ rfl rfl⟩
    · show s.1 7 + n + ((4 + 32 : Nat) : Int) + ((4 + (s.1 1).toNat : Nat) : Int) + ((4 + 32 : Nat) : Int) ≤ 712
      lia
    · show s.1 9 + ((4 + (s.1 1).toNat : Nat) : Int) + ((4 + 32 : Nat) : Int) ≤ 340
      lia
  · rw [if_neg (by lia), if_neg (by lia), if_neg (by lia)]
    rcases dn p2 with d | ⟨d4, d2, d10, d11⟩
    · exact Or.inl ⟨by rw [d]; rfl, d⟩
    · exact Or.inr ⟨by rw [d4, f0], Or.inl d2, k2 _ d10 d11⟩
theorem sFail_z {w : Int} (hl : l < 2) : sNum (sFail s w) (10 + l) 0 = sFail s w := by
  refine Prod.ext (funext fun k => ?_) rfl
  rcases (show l = 0 ∨ l = 1 by lia) with rfl | rfl
  · show up1 (up1 (up1 (up1 (up1 s.1 4 w) 2 0) 10 0) 11 0) 10 0 k = up1 (up1 (up1 (up1 s.1 4 w) 2 0) 10 0) 11 0 k
    by_cases c : k = 10
    · subst c; rfl
    · rw [up1_ne c]
  · show up1 (up1 (up1 (up1 (up1 s.1 4 w) 2 0) 10 0) 11 0) 11 0 k = up1 (up1 (up1 (up1 s.1 4 w) 2 0) 10 0) 11 0 k
    by_cases c : k = 11
    · subst c; rfl
    · rw [up1_ne c]
theorem gPh_n0 {k : Nat} (P : gPh s) (hk : k = 10 ∨ k = 11) : gPh (sNum s k 0) := by
  unfold gPh at *
  have e : ∀ j, j < 10 ∨ j = 12 → (sNum s k 0).1 j = s.1 j := fun j hj => up1_ne (by lia)
  rw [e 2 (by decide), e 12 (by decide), e 3 (by decide), e 0 (by decide), e 6 (by decide), e 7 (by decide), e 8 (by decide), e 9 (by decide)]
  exact P
theorem GI.tk1 (I : GI s) (f0 : s.1 4 = 0) (hl : l < 2) (hb : 0 ≤ b ∧ b < 256) (VM : 0 < sLook (sAdd s l b) l → GV (sMsg (sAdd s l b) (sLook (sAdd s l b) l).toNat)) : GI (sTk1 s l b) := by
  obtain ⟨V, P, St⟩ := I
  have st := St f0
  have m := sLook_le V hl (st l hl).1
  have V1 := V.add hl hb (by lia)
  unfold sTk1
  by_cases c : sLook (sAdd s l b) l < 0
  · rw [if_pos c]
    refine ⟨V1.fail, Or.inl rfl, fun z => ?_⟩
    rw [sFail_4] at z; lia
  rw [if_neg c]
  by_cases c0 : sLook (sAdd s l b) l = 0
  · rw [if_pos c0]
    refine ⟨V1, gPh_add P hl, fun _ k hk => ?_⟩
    by_cases e : k = l
    · subst e
      exact ⟨c0, by have := sLook_le V1 hl c0; lia⟩
    · have n : (sAdd s l b).1 (10 + k) = s.1 (10 + k) := sAdd_o (by lia)
      refine ⟨?_, by rw [n]; exact (st k hk).2⟩
      have : sLook (sAdd s l b) k = sLook s k := by
        unfold sLook sN
        rw [n, sAdd_o (show 2 ≠ 10 + l by lia), sAdd_b (fun z => by lia), sAdd_b (fun z => by lia), sAdd_b (fun z => by lia), sAdd_b (fun z => by lia)]
      rw [this]; exact (st k hk).1
  · rw [if_neg c0]
    have q := sLook_add V hl hb (st l hl).1 (by lia)
    have w2 : (sAdd s l b).1 2 = s.1 2 := sAdd_o (by lia)
    have w4 : (sAdd s l b).1 4 = s.1 4 := sAdd_o (by lia)
    have w1 : (sAdd s l b).1 1 = s.1 1 := sAdd_o (by lia)
    have ez : (((sLook (sAdd s l b) l).toNat : Nat) : Int) = sLook (sAdd s l b) l := by lia
    have := sAdd_n (s := s) (b := b) hl
    have V2 := VM (by lia)
    rcases sMsg_num (s := sAdd s l b) (n := (sLook (sAdd s l b) l).toNat) (gPh_add P hl) (by rw [w2]; exact q.2.1) (by rw [w4]; exact f0) (by rw [ez, q.1]; lia) (by rw [w1]; exact V.2.1) (by rw [w2, ez]; exact q.2.2.2.2) with ⟨a, e⟩ | ⟨a, b', d⟩
    · rw [e, sFail_z hl]
      exact ⟨V1.fail, Or.inl rfl, fun z => by rw [sFail_4] at z; lia⟩
    · refine ⟨V2.num (by lia), gPh_n0 b' (by lia), fun z k hk => ?_⟩
      have ek : (sNum (sMsg (sAdd s l b) (sLook (sAdd s l b) l).toNat) (10 + l) 0).1 (10 + k) = 0 := by
        by_cases e : k = l
        · rw [e]; exact up1_eq
        · show up1 _ _ _ _ = 0
          rw [up1_ne (by lia), d k hk, sAdd_o (by lia)]
          exact sLook_oth (st k hk).1 q.2.1 q.2.2.1 e
      exact ⟨sLook_0 ek, by omega⟩
end
