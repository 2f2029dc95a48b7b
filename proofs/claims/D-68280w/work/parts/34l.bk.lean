/-! the book: how long the way takes, the window -/
def limV (S L : Int) : Int := max (iDiv (w32 (9 * max (iDiv S 8) L)) 8) 1
def patV (S V b : Int) : Int := w32 (w32 (iDiv S 8 + max V 1) + if b = 0 then 0 else 25)
section
variable {hc hm : Hp} {a m : Nat} {w : Nat → Nat} {x y b : Int}
theorem m_greaterB : f_mBook_greater x y hm = some (max x y, hm) := by
  unfold f_mBook_greater
  by_cases c : x ≤ y
  · rw [if_pos c]; congr 2; lia
  · rw [if_neg c]; congr 2; lia
theorem c_limit : f_cTrip_limit a hc = some (limV (hI hc a 0) (hI hc a 2), hc) := rfl
theorem m_limit : f_mBook_limit m hm = some (limV (hI hm m 18) (hI hm m 20), hm) := by
  unfold f_mBook_limit
  rw [m_greaterB, b2_some, m_greaterB, b2_some]
  rfl
theorem c_tpat : f_cTrip_patience a b hc = some (patV (hI hc a 0) (hI hc a 1) b, hc) := by
  unfold f_cTrip_patience patV
  by_cases c : b = 0
  · rw [if_pos c, if_pos c]
  · rw [if_neg c, if_neg c]
theorem m_pat : f_mBook_patience m b hm = some (patV (hI hm m 18) (hI hm m 19) b, hm) := by
  unfold f_mBook_patience patV
  rw [m_greaterB, b2_some]
  by_cases c : b = 0
  · rw [if_pos c, if_pos c]
  · rw [if_neg c, if_neg c]
theorem iDiv8 {S : Int} (h : 0 ≤ S ∧ S ≤ 2000000000) : iDiv S 8 = S / 8 := iDiv_eq ⟨by lia, by lia⟩ (by decide) h.1 (by decide)
theorem limV_b {S L : Int} (h1 : 0 ≤ S ∧ S ≤ 1700000) (h2 : 0 ≤ L ∧ L ≤ 200000) : 1 ≤ limV S L ∧ limV S L ≤ 300000 := by
  unfold limV
  rw [iDiv8 ⟨h1.1, by lia⟩]
  have w1 : w32 (9 * max (S / 8) L) = 9 * max (S / 8) L := w32_id ⟨by lia, by lia⟩
  rw [w1, iDiv8 ⟨by lia, by lia⟩]
  lia
theorem BkR.lim (B : BkR hc a w hm m) : limV (hI hc (a + 2) 0) (hI hc (a + 2) 2) = limV (hI hm m 18) (hI hm m 20) ∧ 1 ≤ limV (hI hm m 18) (hI hm m 20) ∧ limV (hI hm m 18) (hI hm m 20) ≤ 300000 := by
  have BS := B.2.2.2.2.1
  have BB := B.2.2.2.2.2
  exact ⟨by rw [BS.2.1.1, BS.2.1.2.2.1], limV_b BB.2.2.2.2.1 BB.2.2.2.2.2.1⟩
theorem BkR.pat (B : BkR hc a w hm m) (b : Int) : patV (hI hc (a + 2) 0) (hI hc (a + 2) 1) b = patV (hI hm m 18) (hI hm m 19) b := by
  have BS := B.2.2.2.2.1
  rw [BS.2.1.1, BS.2.1.2.1]
end
/-! a sample -/
def spL (le r : Int) : Int := if le < 0 then r else min le r
def spT (le r dl : Int) : Int := if r < w32 (spL le r + dl) then r else w32 (r - dl)
def spS (S le fi r dl : Int) : Int := if 0 ≤ fi then w32 (S + w32 (spT le r dl - iDiv S 8)) else w32 (8 * r)
def spV (S V le fi r dl : Int) : Int := if 0 ≤ fi then w32 (V + w32 ((if 0 ≤ w32 (iDiv S 8 - spT le r dl) then w32 (iDiv S 8 - spT le r dl) else w32 (-w32 (iDiv S 8 - spT le r dl))) - iDiv V 4)) else w32 (2 * r)
def spF (fi T : Int) : Int := if 0 ≤ fi then fi else T
section
variable {hc hm : Hp} {a m : Nat} {w : Nat → Nat} {T r dl S V le fi : Int}
theorem spB (hS : 0 ≤ S ∧ S ≤ 1700000) (hV : 0 ≤ V ∧ V ≤ 900000) (hl : -1 ≤ le ∧ le ≤ 200000) (hr : 0 ≤ r ∧ r ≤ 200000) (hd : 0 ≤ dl ∧ dl ≤ 25) : (0 ≤ spS S le fi r dl ∧ spS S le fi r dl ≤ 1700000) ∧ (0 ≤ spV S V le fi r dl ∧ spV S V le fi r dl ≤ 900000) ∧ (-1 ≤ spL le r ∧ spL le r ≤ 200000) := by
  have l1 : 0 ≤ spL le r ∧ spL le r ≤ 200000 := by unfold spL; split <;> lia
  have t1 : 0 ≤ spT le r dl ∧ spT le r dl ≤ 200000 := by
    unfold spT
    rw [w32_id (x := spL le r + dl) ⟨by lia, by lia⟩]
    split
    · lia
    · rw [w32_id (x := r - dl) ⟨by lia, by lia⟩]; lia
  have d1 := iDiv8 (S := S) ⟨hS.1, by lia⟩
  have d2 : iDiv V 4 = V / 4 := iDiv_eq ⟨by lia, by lia⟩ (by decide) hV.1 (by decide)
  refine ⟨?_, ?_, by lia⟩
  · unfold spS
    rw [d1]
    split
    · rw [w32_id (x := spT le r dl - S / 8) ⟨by lia, by lia⟩, w32_id ⟨by lia, by lia⟩]; lia
    · rw [w32_id ⟨by lia, by lia⟩]; lia
  · unfold spV
    rw [d1, d2, w32_id (x := S / 8 - spT le r dl) ⟨by lia, by lia⟩, w32_id (x := -(S / 8 - spT le r dl)) ⟨by lia, by lia⟩]
    split
    · split
      · rw [w32_id (x := S / 8 - spT le r dl - V / 4) ⟨by lia, by lia⟩, w32_id ⟨by lia, by lia⟩]; lia
      · rw [w32_id (x := -(S / 8 - spT le r dl) - V / 4) ⟨by lia, by lia⟩, w32_id ⟨by lia, by lia⟩]; lia
    · rw [w32_id ⟨by lia, by lia⟩]; lia
theorem c_sample (a0 : a ≠ 0) (e0 : hI hc a 0 = S) (e1 : hI hc a 1 = V) (e3 : hI hc a 3 = le) (e4 : hI hc a 4 = fi) : wp (f_cTrip_sample a T r dl hc) (fun o => OnI hc o ∧ (∀ x y, x ≠ a → hI o x y = hI hc x y) ∧ hI o a 0 = spS S le fi r dl ∧ hI o a 1 = spV S V le fi r dl ∧ hI o a 2 = r ∧ hI o a 3 = spL le r ∧ hI o a 4 = spF fi T) := by
  have go : ∀ h0 : Hp, h0 = sI (sI hc a 2 r) a 3 (spL le r) → wp (f_cTrip_sample_b25 a T r dl a (spL le r) (sI hc a 2 r)) (fun o => OnI hc o ∧ (∀ x y, x ≠ a → hI o x y = hI hc x y) ∧ hI o a 0 = spS S le fi r dl ∧ hI o a 1 = spV S V le fi r dl ∧ hI o a 2 = r ∧ hI o a 3 = spL le r ∧ hI o a 4 = spF fi T) := fun h0 e => by
    unfold f_cTrip_sample_b25 f_cTrip_sample_b73
    rw [if_neg a0, wp_lt1, ← e]
    have r0 : hI h0 a 0 = S := by rw [e, hI_sI, if_neg (by lia), hI_sI, if_neg (by lia)]; exact e0
    have r1 : hI h0 a 1 = V := by rw [e, hI_sI, if_neg (by lia), hI_sI, if_neg (by lia)]; exact e1
    have r2 : hI h0 a 2 = r := by rw [e, hI_sI, if_neg (by lia), hI_sI, if_pos ⟨rfl, rfl⟩]
    have r3 : hI h0 a 3 = spL le r := by rw [e, hI_sI, if_pos ⟨rfl, rfl⟩]
    have r4 : hI h0 a 4 = fi := by rw [e, hI_sI, if_neg (by lia), hI_sI, if_neg (by lia)]; exact e4
    have O0 : OnI hc h0 := by rw [e]; exact OnI.refl.s.s
    have F0 : ∀ x y, x ≠ a → hI h0 x y = hI hc x y := fun x y hx => by rw [e, hI_sI, if_neg (fun z => hx z.1), hI_sI, if_neg (fun z => hx z.1)]
    rw [r4, r3]
    by_cases c : 0 ≤ fi
    · rw [if_pos c]
      have go2 : ∀ t : Int, t = spT le r dl → wp (lt1 (sI h0 a 1 (w32 ((hI h0 a 1) + (w32 ((if 0 ≤ (w32 ((iDiv (hI h0 a 0) 8) - t)) then (w32 ((iDiv (hI h0 a 0) 8) - t)) else w32 (-(w32 ((iDiv (hI h0 a 0) 8) - t)))) - (iDiv (hI h0 a 1) 4)))))) fun h7 => lt1 (sI h7 a 0 (w32 ((hI h7 a 0) + (w32 (t - (iDiv (hI h7 a 0) 8)))))) fun h8 => some h8) (fun o => OnI hc o ∧ (∀ x y, x ≠ a → hI o x y = hI hc x y) ∧ hI o a 0 = spS S le fi r dl ∧ hI o a 1 = spV S V le fi r dl ∧ hI o a 2 = r ∧ hI o a 3 = spL le r ∧ hI o a 4 = spF fi T) := fun t ht => by
        have x10 : ∀ v, hI (sI h0 a 1 v) a 0 = S := fun v => by rw [hI_sI, if_neg (by lia)]; exact r0
        rw [wp_lt1, wp_lt1, wp_some, x10, r0, r1, ht]
        refine ⟨O0.s.s, fun x y hx => ?_, ?_, ?_, ?_, ?_, ?_⟩
        · rw [hI_sI, if_neg (fun z => hx z.1), hI_sI, if_neg (fun z => hx z.1)]; exact F0 x y hx
        · rw [hI_sI, if_pos ⟨rfl, rfl⟩]; unfold spS; rw [if_pos c]
        · rw [hI_sI, if_neg (by lia), hI_sI, if_pos ⟨rfl, rfl⟩]; unfold spV; rw [if_pos c]
        · rw [hI_sI, if_neg (by lia), hI_sI, if_neg (by lia)]; exact r2
        · rw [hI_sI, if_neg (by lia), hI_sI, if_neg (by lia)]; exact r3
        · rw [hI_sI, if_neg (by lia), hI_sI, if_neg (by lia), r4]; unfold spF; rw [if_pos c]
      by_cases d : r < w32 (spL le r + dl)
      · rw [if_pos d]; exact go2 r (by unfold spT; rw [if_pos d])
      · rw [if_neg d]; exact go2 (w32 (r - dl)) (by unfold spT; rw [if_neg d])
    · rw [if_neg c, wp_lt1, wp_lt1, wp_lt1, wp_some]
      refine ⟨O0.s.s.s, fun x y hx => ?_, ?_, ?_, ?_, ?_, ?_⟩
      · rw [hI_sI, if_neg (fun z => hx z.1), hI_sI, if_neg (fun z => hx z.1), hI_sI, if_neg (fun z => hx z.1)]; exact F0 x y hx
      · rw [hI_sI, if_neg (by lia), hI_sI, if_pos ⟨rfl, rfl⟩]; unfold spS; rw [if_neg c]
      · rw [hI_sI, if_pos ⟨rfl, rfl⟩]; unfold spV; rw [if_neg c]
      · rw [hI_sI, if_neg (by lia), hI_sI, if_neg (by lia), hI_sI, if_neg (by lia)]; exact r2
      · rw [hI_sI, if_neg (by lia), hI_sI, if_neg (by lia), hI_sI, if_neg (by lia)]; exact r3
      · rw [hI_sI, if_neg (by lia), hI_sI, if_neg (by lia), hI_sI, if_pos ⟨rfl, rfl⟩]; unfold spF; rw [if_neg c]
  have key : ∀ v : Int, v = spL le r → wp (f_cTrip_sample_b25 a T r dl a v (sI hc a 2 r)) (fun o => OnI hc o ∧ (∀ x y, x ≠ a → hI o x y = hI hc x y) ∧ hI o a 0 = spS S le fi r dl ∧ hI o a 1 = spV S V le fi r dl ∧ hI o a 2 = r ∧ hI o a 3 = spL le r ∧ hI o a 4 = spF fi T) := fun v hv => by rw [hv]; exact go _ rfl
  unfold f_cTrip_sample
  have e3' : hI (sI hc a 2 r) a 3 = le := by rw [hI_sI, if_neg (by lia)]; exact e3
  rw [wp_lt1, e3']
  by_cases c : 0 ≤ le
  · rw [if_pos c]
    have : min le r = spL le r := by unfold spL; rw [if_neg (by lia)]
    exact key _ this
  · rw [if_neg c]
    have : r = spL le r := by unfold spL; rw [if_pos (by lia)]
    exact key _ this
theorem m_sample (m0 : m ≠ 0) (e0 : hI hm m 18 = S) (e1 : hI hm m 19 = V) (e3 : hI hm m 21 = le) (e4 : hI hm m 22 = fi) (eT : hI hm m 0 = T) : wp (f_mBook_sample m r dl hm) (fun o => OnI hm o ∧ (∀ x y, ¬ (x = m ∧ 18 ≤ y ∧ y ≤ 22) → hI o x y = hI hm x y) ∧ hI o m 18 = spS S le fi r dl ∧ hI o m 19 = spV S V le fi r dl ∧ hI o m 20 = r ∧ hI o m 21 = spL le r ∧ hI o m 22 = spF fi T) := by
  have go : ∀ h0 : Hp, h0 = sI (sI hm m 20 r) m 21 (spL le r) → wp (f_mBook_sample_b29 m r dl m (spL le r) (sI hm m 20 r)) (fun o => OnI hm o ∧ (∀ x y, ¬ (x = m ∧ 18 ≤ y ∧ y ≤ 22) → hI o x y = hI hm x y) ∧ hI o m 18 = spS S le fi r dl ∧ hI o m 19 = spV S V le fi r dl ∧ hI o m 20 = r ∧ hI o m 21 = spL le r ∧ hI o m 22 = spF fi T) := fun h0 e => by
    unfold f_mBook_sample_b29 f_mBook_sample_b80 f_mBook_sample_b110
    rw [if_neg m0, wp_lt1, ← e]
    have r0 : hI h0 m 18 = S := by rw [e, hI_sI, if_neg (by lia), hI_sI, if_neg (by lia)]; exact e0
    have r1 : hI h0 m 19 = V := by rw [e, hI_sI, if_neg (by lia), hI_sI, if_neg (by lia)]; exact e1
    have r2 : hI h0 m 20 = r := by rw [e, hI_sI, if_neg (by lia), hI_sI, if_pos ⟨rfl, rfl⟩]
    have r3 : hI h0 m 21 = spL le r := by rw [e, hI_sI, if_pos ⟨rfl, rfl⟩]
    have r4 : hI h0 m 22 = fi := by rw [e, hI_sI, if_neg (by lia), hI_sI, if_neg (by lia)]; exact e4
    have rT : hI h0 m 0 = T := by rw [e, hI_sI, if_neg (by lia), hI_sI, if_neg (by lia)]; exact eT
    have O0 : OnI hm h0 := by rw [e]; exact OnI.refl.s.s
    have F0 : ∀ x y, ¬ (x = m ∧ 18 ≤ y ∧ y ≤ 22) → hI h0 x y = hI hm x y := fun x y hx => by rw [e, hI_sI, if_neg (by lia), hI_sI, if_neg (by lia)]
    rw [r4, r3]
    by_cases c : 0 ≤ fi
    · rw [if_pos c]
      have go2 : ∀ t z : Int, t = spT le r dl → z = (if 0 ≤ w32 (iDiv S 8 - spT le r dl) then w32 (iDiv S 8 - spT le r dl) else w32 (-w32 (iDiv S 8 - spT le r dl))) → wp (if m = 0 then none else lt1 (sI h0 m 19 (w32 ((hI h0 m 19) + (w32 (z - (iDiv (hI h0 m 19) 4)))))) fun h9 => lt1 (sI h9 m 18 (w32 ((hI h9 m 18) + (w32 (t - (iDiv (hI h9 m 18) 8)))))) fun h10 => some h10) (fun o => OnI hm o ∧ (∀ x y, ¬ (x = m ∧ 18 ≤ y ∧ y ≤ 22) → hI o x y = hI hm x y) ∧ hI o m 18 = spS S le fi r dl ∧ hI o m 19 = spV S V le fi r dl ∧ hI o m 20 = r ∧ hI o m 21 = spL le r ∧ hI o m 22 = spF fi T) := fun t z ht hz => by
        have x10 : ∀ v, hI (sI h0 m 19 v) m 18 = S := fun v => by rw [hI_sI, if_neg (by lia)]; exact r0
        rw [if_neg m0, wp_lt1, wp_lt1, wp_some, x10, r1, ht, hz]
        refine ⟨O0.s.s, fun x y hx => ?_, ?_, ?_, ?_, ?_, ?_⟩
        · rw [hI_sI, if_neg (by lia), hI_sI, if_neg (by lia)]; exact F0 x y hx
        · rw [hI_sI, if_pos ⟨rfl, rfl⟩]; unfold spS; rw [if_pos c]
        · rw [hI_sI, if_neg (by lia), hI_sI, if_pos ⟨rfl, rfl⟩]; unfold spV; rw [if_pos c]
        · rw [hI_sI, if_neg (by lia), hI_sI, if_neg (by lia)]; exact r2
        · rw [hI_sI, if_neg (by lia), hI_sI, if_neg (by lia)]; exact r3
        · rw [hI_sI, if_neg (by lia), hI_sI, if_neg (by lia), r4]; unfold spF; rw [if_pos c]
      have go3 : ∀ t : Int, t = spT le r dl → wp (lt1 (w32 ((iDiv (hI h0 m 18) 8) - t)) fun y7 => if 0 ≤ y7 then (if m = 0 then none else lt1 (sI h0 m 19 (w32 ((hI h0 m 19) + (w32 (y7 - (iDiv (hI h0 m 19) 4)))))) fun h9 => lt1 (sI h9 m 18 (w32 ((hI h9 m 18) + (w32 (t - (iDiv (hI h9 m 18) 8)))))) fun h10 => some h10) else (if m = 0 then none else lt1 (sI h0 m 19 (w32 ((hI h0 m 19) + (w32 ((w32 (-y7)) - (iDiv (hI h0 m 19) 4)))))) fun h9 => lt1 (sI h9 m 18 (w32 ((hI h9 m 18) + (w32 (t - (iDiv (hI h9 m 18) 8)))))) fun h10 => some h10)) (fun o => OnI hm o ∧ (∀ x y, ¬ (x = m ∧ 18 ≤ y ∧ y ≤ 22) → hI o x y = hI hm x y) ∧ hI o m 18 = spS S le fi r dl ∧ hI o m 19 = spV S V le fi r dl ∧ hI o m 20 = r ∧ hI o m 21 = spL le r ∧ hI o m 22 = spF fi T) := fun t ht => by
        rw [wp_lt1, r0]
        by_cases d : 0 ≤ w32 (iDiv S 8 - t)
        · rw [if_pos d]; exact go2 t _ ht (by rw [← ht, if_pos d])
        · rw [if_neg d]; exact go2 t _ ht (by rw [← ht, if_neg d])
      by_cases d : r < w32 (spL le r + dl)
      · rw [if_pos d]; exact go3 r (by unfold spT; rw [if_pos d])
      · rw [if_neg d]; exact go3 (w32 (r - dl)) (by unfold spT; rw [if_neg d])
    · rw [if_neg c, wp_lt1, wp_lt1, wp_lt1, wp_some, rT]
      refine ⟨O0.s.s.s, fun x y hx => ?_, ?_, ?_, ?_, ?_, ?_⟩
      · rw [hI_sI, if_neg (by lia), hI_sI, if_neg (by lia), hI_sI, if_neg (by lia)]; exact F0 x y hx
      · rw [hI_sI, if_neg (by lia), hI_sI, if_pos ⟨rfl, rfl⟩]; unfold spS; rw [if_neg c]
      · rw [hI_sI, if_pos ⟨rfl, rfl⟩]; unfold spV; rw [if_neg c]
      · rw [hI_sI, if_neg (by lia), hI_sI, if_neg (by lia), hI_sI, if_neg (by lia)]; exact r2
      · rw [hI_sI, if_neg (by lia), hI_sI, if_neg (by lia), hI_sI, if_neg (by lia)]; exact r3
      · rw [hI_sI, if_neg (by lia), hI_sI, if_neg (by lia), hI_sI, if_pos ⟨rfl, rfl⟩]; unfold spF; rw [if_neg c]
  have key : ∀ v : Int, v = spL le r → wp (f_mBook_sample_b29 m r dl m v (sI hm m 20 r)) (fun o => OnI hm o ∧ (∀ x y, ¬ (x = m ∧ 18 ≤ y ∧ y ≤ 22) → hI o x y = hI hm x y) ∧ hI o m 18 = spS S le fi r dl ∧ hI o m 19 = spV S V le fi r dl ∧ hI o m 20 = r ∧ hI o m 21 = spL le r ∧ hI o m 22 = spF fi T) := fun v hv => by rw [hv]; exact go _ rfl
  unfold f_mBook_sample f_mBook_sample_b21
  have e3' : hI (sI hm m 20 r) m 21 = le := by rw [hI_sI, if_neg (by lia)]; exact e3
  rw [wp_lt1, e3']
  by_cases c : le < 0
  · rw [if_pos c]
    have : r = spL le r := by unfold spL; rw [if_pos c]
    exact key _ this
  · rw [if_neg c]
    by_cases d : le ≤ r
    · rw [if_pos d]
      have : le = spL le r := by unfold spL; rw [if_neg c]; lia
      exact key _ this
    · rw [if_neg d]
      have : r = spL le r := by unfold spL; rw [if_neg c]; lia
      exact key _ this
end
