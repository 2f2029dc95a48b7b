/-! the greeting, class: a message of each kind; all bytes -/
section
variable {h h' : Hp} {g l : Nat} {s : GSt}
theorem c_gcomes {n : Nat} (G : GC h g s) (V : GV s) (P : gPh s) (w0 : s.1 2 ≠ 0) (el : gLev (s.1 2) = l) (hn : s.1 (10 + l) = n) (n4 : 4 ≤ n) (fit : gFit (s.1 2) ((n : Int) - 4) = true) :
    ∃ h', f_cGreeting_comes g (g + 31 + 2 * l) ((n : Int) - 4) h = some h' ∧ GC h' g (sMsg s n) ∧ GV (sMsg s n) ∧ FX (inG g) h h' := by
  have L := G.1.1
  have l0 := L.1
  have m : ∀ {D : Nat → Prop} {a b : Hp}, FX D a b → (∀ x, D x → inG g x) → FX (inG g) a b := fun F c => F.mono c
  have iw : hI h g 20 = s.1 2 := G.i (k := 2) (by decide) (by decide) (fun z => by lia) (x := 0) (y := 20) rfl rfl
  have en : (n : Int) - 4 = ((n - 4 : Nat) : Int) := by lia
  have c10 : gCc (10 + l) = 31 + 2 * l := by unfold gLev at el; split at el <;> (rw [← el]; rfl)
  have l2 : l < 2 := by unfold gLev at el; split at el <;> lia
  have iz : hI h (g + 31 + 2 * l) 1 = (n : Int) := by
    have := G.i (k := 10 + l) (by lia) (by lia) (fun z => by lia) c10 (gc_s1 _ (by lia) (by lia))
    rw [show g + (31 + 2 * l) = g + 31 + 2 * l by lia] at this; rw [this, hn]
  have ry : hR h (g + 31 + 2 * l) 0 = g + 32 + 2 * l := by rcases (show l = 0 ∨ l = 1 by lia) with rfl | rfl; exact L.r31_0; exact L.r33_0
  have v10 := V.2.2.2.2.1 (10 + l) (by lia) (by lia)
  have vb : ∀ j, j < n → 0 ≤ s.2 (6 + l) j ∧ s.2 (6 + l) j < 256 := fun j hj => V.row (r := 6 + l) (by omega) (by omega) j (by rw [gLn_num (by omega), show 6 + l + 4 = 10 + l by omega]; omega)
  rcases P with z | ⟨⟨t0, f0⟩, P⟩
  · exact absurd z w0
  unfold f_cGreeting_comes
  rw [iw]
  rcases P with ⟨p0, p2, p6, p7, p9⟩ | ⟨p0, p2, p6, p7, p9⟩ | ⟨p0, p2, p6, p7, p9⟩ | ⟨p0, p2, p6, p7, p8, p9⟩ | ⟨p0, p2, p6, p7, p9⟩
  · -- 2
    have l00 : l = 0 := by rw [← el, p2]; rfl
    subst l00
    have nn : n = 36 := by rw [p2] at fit; unfold gFit at fit; simp at fit; lia
    obtain ⟨h1, q1, G1, F1⟩ := c_gtold (l := 0) (n := n) G V t0 (by decide) hn (by lia)
    have V1 : GV (sApp s 7 n (s.2 6)) := V.app (by decide) (by lia) vb
    obtain ⟨h2, q2, G2, F2⟩ := c_ggre G1 V1 t0 (by show 0 ≤ s.1 6 ∧ s.1 6 < 2; lia)
    have G3 := G2.num (k := 2) (v := 8) (by decide) (gLn_nm (by decide))
    have V3 := (V1.greets (by show 0 ≤ s.1 6; lia)).num (k := 2) (v := 8) (by decide)
    have em : sMsg s n = sNum (sGreets (sApp s 7 n (s.2 6))) 2 8 := by unfold sMsg; rw [if_neg (by omega), if_pos p2]
    rw [em, p2, if_neg (by decide), if_pos rfl, if_neg (by omega), L.r0_7, if_neg (by lia), ry, iz, q1, b1_some, q2, b1_some, lt1_eq]
    exact ⟨_, rfl, G3, V3, ((m F1 (fun x q => by omega)).tr F2).tr (FX.sI (show g ≤ g + 0 ∧ g + 0 ≤ g + 48 by omega))⟩
  · -- 8
    have l00 : l = 1 := by rw [← el, p2]; rfl
    subst l00
    have nn : n ≤ 304 := by rw [p2] at fit; unfold gFit at fit; simp at fit; lia
    obtain ⟨h1, q1, G1, F1⟩ := c_gtold (l := 1) (n := n) G V t0 (by decide) hn (by lia)
    have V1 : GV (sApp s 7 n (s.2 7)) := V.app (by decide) (by lia) vb
    obtain ⟨h2, q2, G2, F2⟩ := c_gkeep (l := 1) (p := 4) (n := n - 4) G1 V1 (by decide) (by lia) (by show ((4 : Nat) : Int) + ((n - 4 : Nat) : Int) ≤ s.1 11; rw [show s.1 11 = n from hn]; lia)
    have G3 := G2.num (k := 2) (v := 20) (by decide) (gLn_nm (by decide))
    have V3 := (V1.keep (l := 1) (p := 4) (n := n - 4) (by decide) (by lia) (by show ((4 : Nat) : Int) + ((n - 4 : Nat) : Int) ≤ s.1 11; rw [show s.1 11 = n from hn]; lia)).num (k := 2) (v := 20) (by decide)
    have em : sMsg s n = sNum (sKeep (sApp s 7 n (s.2 7)) 1 4 (n - 4)) 2 20 := by unfold sMsg; rw [if_neg (by omega), if_neg (by omega), if_pos p2]
    rw [em, p2, if_neg (by decide), if_neg (by decide), if_pos rfl, if_neg (by omega), L.r0_7, if_neg (by lia), ry, iz, q1, b1_some, en]
    rw [show ((4 : Nat) : Int) = 4 from rfl] at q2
    rw [q2, b1_some, lt1_eq]
    exact ⟨_, rfl, G3, V3, ((m F1 (fun x q => by omega)).tr (m F2 (fun x q => by omega))).tr (FX.sI (show g ≤ g + 0 ∧ g + 0 ≤ g + 48 by omega))⟩
  · -- 20, side 0
    have l00 : l = 1 := by rw [← el, p2]; rfl
    subst l00
    have nn : n = 36 := by rw [p2] at fit; unfold gFit at fit; simp at fit; lia
    obtain ⟨h1, q1, G1, V1, F1⟩ := c_gdone (n := n) G V t0 (by lia) hn nn (by lia) (by lia)
    have em : sMsg s n = sDone s n := by unfold sMsg; rw [if_neg (by omega), if_neg (by omega), if_neg (by omega)]
    rw [em, p2, if_neg (by decide), if_neg (by decide), if_neg (by decide), q1, b1_some]
    exact ⟨_, rfl, G1, V1, F1⟩
  · -- 1
    have l00 : l = 0 := by rw [← el, p2]; rfl
    subst l00
    have nn : 36 ≤ n ∧ n ≤ 336 := by rw [p2] at fit; unfold gFit at fit; simp at fit; lia
    obtain ⟨h1, q1, G1, V1, F1⟩ := c_ghello (n := n) G V t0 (by lia) ⟨p7, p8, p9⟩ hn nn
    have em : sMsg s n = sHello s n := by unfold sMsg; rw [if_pos p2]
    rw [em, p2, if_pos rfl, en, q1, b1_some]
    exact ⟨_, rfl, G1, V1, F1⟩
  · -- 20, side 1
    have l00 : l = 1 := by rw [← el, p2]; rfl
    subst l00
    have nn : n = 36 := by rw [p2] at fit; unfold gFit at fit; simp at fit; lia
    obtain ⟨h1, q1, G1, V1, F1⟩ := c_gdone (n := n) G V t0 (by lia) hn nn (by lia) (by lia)
    have em : sMsg s n = sDone s n := by unfold sMsg; rw [if_neg (by omega), if_neg (by omega), if_neg (by omega)]
    rw [em, p2, if_neg (by decide), if_neg (by decide), if_neg (by decide), q1, b1_some]
    exact ⟨_, rfl, G1, V1, F1⟩
/-- nothing whole waits, or there was a fault; all within its bounds -/
def GI (s : GSt) : Prop := GV s ∧ gPh s ∧ (s.1 4 = 0 → ∀ l, l < 2 → sLook s l = 0 ∧ s.1 (10 + l) ≤ 336)
end
