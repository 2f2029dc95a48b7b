/-! writing: lists of bytes, behind a writer of the class and behind a draft of the model -/
def OWf (h0 h : Hp) (a r at0 e : Nat) : Prop := h.1 = h0.1 ∧ h.2.1 = h0.2.1 ∧ h.2.2.2 = h0.2.2.2 ∧ ∀ x k, ¬ (x = a ∧ (k = 1 ∨ k = 3)) → ¬ (x = r ∧ at0 ≤ k ∧ k < e) → hI h x k = hI h0 x k
/-- the bytes L were written from a place on, or there was no room for them -/
def OW (h0 h : Hp) (a r at0 e : Nat) (L : List Int) : Prop := OWf h0 h a r at0 e ∧ if at0 + L.length ≤ e then RD h a r (at0 + L.length) e false ∧ ∀ j, j < L.length → hI h r (at0 + j) = i8 (L.getD j 0) else ∃ t, RD h a r t e true
def byL (v : Int) (n : Nat) : List Int := (List.range n).map (BY v n)
def szL (v : Int) (n : Nat) : List Int := byL (nmW v n) n
def numL (v : Int) : List Int := szL v (szN v)
def lB (h : Hp) (x o n : Nat) : List Int := (List.range n).map (fun j => hI h x (o + j) % 256)
theorem getD_map {n j : Nat} {C : Nat → Int} (hj : j < n) : ((List.range n).map C).getD j 0 = C j := by
  rw [List.getD_eq_getElem?_getD, List.getElem?_map, List.getElem?_range hj]; rfl
theorem len_map {n : Nat} {C : Nat → Int} : ((List.range n).map C).length = n := by rw [List.length_map, List.length_range]
theorem getD_app {L l : List Int} {j : Nat} : (L ++ l).getD j 0 = if j < L.length then L.getD j 0 else l.getD (j - L.length) 0 := by
  rw [List.getD_eq_getElem?_getD, List.getElem?_append]
  split
  · rw [List.getD_eq_getElem?_getD]
  · rw [List.getD_eq_getElem?_getD]
theorem byL_len {v : Int} {n : Nat} : (byL v n).length = n := len_map
theorem szL_len {v : Int} {n : Nat} : (szL v n).length = n := len_map
theorem numL_len {v : Int} : (numL v).length = szN v := len_map
theorem lB_len {h : Hp} {x o n : Nat} : (lB h x o n).length = n := len_map
section
variable {h0 h : Hp} {a r at0 e : Nat} {L : List Int}
theorem OWf.refl : OWf h h a r at0 e := ⟨rfl, rfl, rfl, fun _ _ _ _ => rfl⟩
theorem OWf.j (O : OWf h0 h a r at0 e) : hJ h = hJ h0 := by unfold hJ; rw [O.2.2.1]
theorem OWf.rr (O : OWf h0 h a r at0 e) : hR h = hR h0 := by unfold hR; rw [O.2.2.1]
theorem OWf.l (O : OWf h0 h a r at0 e) : ln h = ln h0 := by unfold ln; rw [O.2.1]
theorem OWf.k (O : OWf h0 h a r at0 e) : kd h = kd h0 := by unfold kd; rw [O.2.1]
theorem OWf.n (O : OWf h0 h a r at0 e) : hN h = hN h0 := by unfold hN; rw [O.1]
theorem OWf.z (O : OWf h0 h a r at0 e) : hZ h = hZ h0 := by unfold hZ; rw [O.1]
theorem OWf.i (O : OWf h0 h a r at0 e) {x k : Nat} (h1 : x ≠ a) (h2 : x ≠ r) : hI h x k = hI h0 x k := O.2.2.2 x k (fun z => h1 z.1) (fun z => h2 z.1)
theorem OW.j (O : OW h0 h a r at0 e L) : hJ h = hJ h0 := O.1.j
theorem OW.rr (O : OW h0 h a r at0 e L) : hR h = hR h0 := O.1.rr
theorem OW.l (O : OW h0 h a r at0 e L) : ln h = ln h0 := O.1.l
theorem OW.i (O : OW h0 h a r at0 e L) {x k : Nat} (h1 : x ≠ a) (h2 : x ≠ r) : hI h x k = hI h0 x k := O.1.i h1 h2
theorem OW.rd (O : OW h0 h a r at0 e L) : ∃ t b, RD h a r t e b := by
  obtain ⟨_, O⟩ := O
  split at O
  · exact ⟨_, _, O.1⟩
  · obtain ⟨t, O⟩ := O; exact ⟨t, true, O⟩
theorem OW.start (R : RD h a r at0 e false) : OW h h a r at0 e [] := by
  refine ⟨OWf.refl, ?_⟩
  rw [if_pos (by have := R.le; simpa using this)]
  exact ⟨R, fun j hj => absurd hj (Nat.not_lt_zero j)⟩
theorem RD.wr {at_ n : Nat} {C : Nat → Int} {b : Bool} (R : RD h a r at_ e b) (hl : at_ + n ≤ e) : RD (wrC h a r at_ n C) a r (at_ + n) e false := by
  have rn := R.rn
  obtain ⟨z, r0, r1, r2, r3, r4, r5, r6⟩ := R
  refine ⟨z, r0, ?_, ?_, ?_, hl, r5, r6⟩
  · rw [hI_wrC, if_neg (by lia), hI_adv, if_pos ⟨rfl, rfl⟩]
  · rw [hI_wrC, if_neg (by lia), hI_adv, if_neg (by lia), if_neg (by lia)]; exact r2
  · rw [hI_wrC, if_neg (by lia), hI_adv, if_neg (by lia), if_pos ⟨rfl, rfl⟩]
theorem OW.step (O : OW h0 h a r at0 e L) {l : List Int} {X : Option Hp} (hX : ∀ at_ b, RD h a r at_ e b → X = some (if pB at_ e b l.length then adv h a at_ true else wrC h a r at_ l.length (fun j => l.getD j 0))) : wp X (fun h' => OW h0 h' a r at0 e (L ++ l)) := by
  obtain ⟨F, O⟩ := O
  unfold OW
  rw [List.length_append]
  by_cases c : at0 + L.length ≤ e
  · rw [if_pos c] at O
    obtain ⟨R, V⟩ := O
    have rn := R.rn
    rw [hX _ _ R]
    by_cases c2 : at0 + (L.length + l.length) ≤ e
    · have pb : pB (at0 + L.length) e false l.length = false := by unfold pB; simp; lia
      rw [pb, wp_some, if_pos c2]
      refine ⟨⟨F.1, F.2.1, F.2.2.1, fun x k q1 q2 => ?_⟩, ?_, fun j hj => ?_⟩
      · show hI (wrC h a r (at0 + L.length) l.length _) x k = _
        rw [hI_wrC, if_neg (by lia), hI_adv, if_neg (by lia), if_neg (by lia)]
        exact F.2.2.2 x k q1 q2
      · rw [show at0 + (L.length + l.length) = at0 + L.length + l.length by lia]
        exact R.wr (by lia)
      · show hI (wrC h a r (at0 + L.length) l.length _) r (at0 + j) = _
        rw [hI_wrC, getD_app]
        by_cases c3 : j < L.length
        · rw [if_neg (by lia), if_pos c3, hI_adv, if_neg (by lia), if_neg (by lia)]
          exact V j c3
        · rw [if_pos (by lia), if_neg c3, show at0 + j - (at0 + L.length) = j - L.length by lia]
    · have pb : pB (at0 + L.length) e false l.length = true := by unfold pB; simp; lia
      rw [pb, wp_some, if_neg c2]
      refine ⟨⟨F.1, F.2.1, F.2.2.1, fun x k q1 q2 => ?_⟩, _, R.adv R.le⟩
      show hI (adv h a _ true) x k = _
      rw [hI_adv, if_neg (by lia), if_neg (by lia)]
      exact F.2.2.2 x k q1 q2
  · rw [if_neg c] at O
    obtain ⟨t, R⟩ := O
    have pb : pB t e true l.length = true := rfl
    have c3 : ¬ at0 + (L.length + l.length) ≤ e := by lia
    rw [hX _ _ R, pb, wp_some, if_neg c3]
    refine ⟨⟨F.1, F.2.1, F.2.2.1, fun x k q1 q2 => ?_⟩, _, R.adv R.le⟩
    show hI (adv h a _ true) x k = _
    rw [hI_adv, if_neg (by lia), if_neg (by lia)]
    exact F.2.2.2 x k q1 q2
theorem wrC_cg {at_ n : Nat} {C D : Nat → Int} (e : ∀ j, j < n → i8 (C j) = i8 (D j)) : wrC h a r at_ n C = wrC h a r at_ n D := by
  refine hp_ext rfl rfl (fun x y => ?_) (fun _ _ => rfl) (fun _ _ => rfl)
  rw [hI_wrC, hI_wrC]
  by_cases c : x = r ∧ at_ ≤ y ∧ y < at_ + n
  · rw [if_pos c, if_pos c, e _ (by lia)]
  · rw [if_neg c, if_neg c]
theorem o_put {v : Int} (O : OW h0 h a r at0 e L) : wp (f_cBytes_put a v h) (fun h' => OW h0 h' a r at0 e (L ++ [v])) :=
  O.step (fun at_ b R => by
    rw [c_put R]
    congr 2
    exact wrC_cg (fun j hj => by have : j = 0 := by lia
                                 subst this; rfl))
theorem o_many {v : Int} {n : Nat} (O : OW h0 h a r at0 e L) (hv : c64 v) (hn : n ≤ 8) : wp (f_cBytes_putMany a v (n : Int) h) (fun h' => OW h0 h' a r at0 e (L ++ byL v n)) :=
  O.step (fun at_ b R => by
    rw [c_putMany hv R hn, byL_len]
    congr 2
    exact wrC_cg (fun j hj => by unfold byL; rw [getD_map hj]))
theorem o_sized {v : Int} {n : Nat} (O : OW h0 h a r at0 e L) (hn : n ≤ 8) : wp (f_cBytes_putSized a v (n : Int) h) (fun h' => OW h0 h' a r at0 e (L ++ szL v n)) :=
  O.step (fun at_ b R => by
    rw [c_putSized R hn, szL_len]
    congr 2
    exact wrC_cg (fun j hj => by unfold szL byL; rw [getD_map hj]))
theorem o_num {v : Int} (O : OW h0 h a r at0 e L) : wp (f_cBytes_putNumber a v h) (fun h' => OW h0 h' a r at0 e (L ++ numL v)) :=
  O.step (fun at_ b R => by
    rw [c_putNumber R, numL_len]
    congr 2
    exact wrC_cg (fun j hj => by unfold numL szL byL; rw [getD_map hj]))
theorem o_row {x o n : Nat} (O : OW h0 h a r at0 e L) (x0 : x ≠ 0) (xr : x ≠ r) (xa : x ≠ a) (hx : o + n ≤ ln h0 x) (hz : o + n < 1000000) (hb : ∀ j, j < n → -128 ≤ hI h0 x (o + j) ∧ hI h0 x (o + j) < 128) : wp (f_cBytes_putRow a x (o : Int) (n : Int) h) (fun h' => OW h0 h' a r at0 e (L ++ lB h0 x o n)) :=
  O.step (fun at_ b R => by
    rw [c_putRow R x0 xr xa (by lia) (by rw [O.l]; exact hx) hz (fun j hj => by rw [O.i xa xr]; exact hb j hj), lB_len]
    congr 2
    refine wrC_cg (fun j hj => ?_)
    unfold lB
    rw [getD_map hj, O.i xa xr]
    unfold i8
    lia)
end
/-- the bytes L were put behind a draft -/
def MW (h0 h : Hp) (d r at0 : Nat) (L : List Int) : Prop := (h.1 = h0.1 ∧ h.2.1 = h0.2.1 ∧ h.2.2.2 = h0.2.2.2 ∧ ∀ x k, ¬ (x = d ∧ k = 1) → ¬ (x = r ∧ at0 ≤ k) → hI h x k = hI h0 x k) ∧ DRm h d r (at0 + L.length) ∧ ∀ j, j < L.length → hI h r (at0 + j) = L.getD j 0
section
variable {h0 h : Hp} {d r at0 : Nat} {L : List Int}
theorem MW.j (O : MW h0 h d r at0 L) : hJ h = hJ h0 := by unfold hJ; rw [O.1.2.2.1]
theorem MW.rr (O : MW h0 h d r at0 L) : hR h = hR h0 := by unfold hR; rw [O.1.2.2.1]
theorem MW.l (O : MW h0 h d r at0 L) : ln h = ln h0 := by unfold ln; rw [O.1.2.1]
theorem MW.n (O : MW h0 h d r at0 L) : hN h = hN h0 := by unfold hN; rw [O.1.1]
theorem MW.z (O : MW h0 h d r at0 L) : hZ h = hZ h0 := by unfold hZ; rw [O.1.1]
theorem MW.i (O : MW h0 h d r at0 L) {x k : Nat} (h1 : x ≠ d) (h2 : x ≠ r) : hI h x k = hI h0 x k := O.1.2.2.2 x k (fun z => h1 z.1) (fun z => h2 z.1)
theorem MW.start (D : DRm h d r at0) : MW h h d r at0 [] := ⟨⟨rfl, rfl, rfl, fun _ _ _ _ => rfl⟩, D, fun j hj => absurd hj (Nat.not_lt_zero j)⟩
theorem MW.step (O : MW h0 h d r at0 L) {l : List Int} {X : Option Hp} (hl : at0 + L.length + l.length ≤ 1400) (hX : DRm h d r (at0 + L.length) → X = some (wrM h d r (at0 + L.length) l.length (fun j => l.getD j 0))) : wp X (fun h' => MW h0 h' d r at0 (L ++ l)) := by
  obtain ⟨F, D, V⟩ := O
  have rd : r ≠ d := Ne.symm D.1.2.2
  rw [hX D, wp_some]
  unfold MW
  rw [List.length_append]
  refine ⟨⟨F.1, F.2.1, F.2.2.1, fun x k q1 q2 => ?_⟩, ?_, fun j hj => ?_⟩
  · show hI (wrM h d r (at0 + L.length) l.length _) x k = _
    rw [hI_wrM, if_neg (by lia), if_neg q1]
    exact F.2.2.2 x k q1 q2
  · rw [show at0 + (L.length + l.length) = at0 + L.length + l.length by lia]
    exact D.wr hl
  · rw [hI_wrM, getD_app]
    by_cases c3 : j < L.length
    · rw [if_neg (by lia), if_pos c3, if_neg (by lia)]
      exact V j c3
    · rw [if_pos (by lia), if_neg c3, show at0 + j - (at0 + L.length) = j - L.length by lia]
theorem wrM_cg {at_ n : Nat} {C D : Nat → Int} (e : ∀ j, j < n → C j = D j) : wrM h d r at_ n C = wrM h d r at_ n D := by
  refine hp_ext rfl rfl (fun x y => ?_) (fun _ _ => rfl) (fun _ _ => rfl)
  rw [hI_wrM, hI_wrM]
  by_cases c : x = r ∧ at_ ≤ y ∧ y < at_ + n
  · rw [if_pos c, if_pos c, e _ (by lia)]
  · rw [if_neg c, if_neg c]
theorem w_put1 {v : Int} (O : MW h0 h d r at0 L) (hv : 0 ≤ v ∧ v < 256) (hl : at0 + L.length + 1 ≤ 1400) : wp (f_mDraft_put d v 1 h) (fun h' => MW h0 h' d r at0 (L ++ [v])) :=
  O.step hl (fun D => by
    rw [m_put1 hv D hl]
    congr 1
    exact wrM_cg (fun j hj => by have : j = 0 := by lia
                                 subst this; rfl))
theorem w_put {v : Int} {n : Nat} (O : MW h0 h d r at0 L) (hv : c64 v) (hn : n ≤ 8) (hl : at0 + L.length + n ≤ 1400) : wp (f_mDraft_put d v (n : Int) h) (fun h' => MW h0 h' d r at0 (L ++ byL v n)) :=
  O.step (by rw [byL_len]; exact hl) (fun D => by
    rw [m_put hv D hn hl, byL_len]
    congr 1
    exact wrM_cg (fun j hj => by unfold byL; rw [getD_map hj]))
theorem w_sized {v : Int} {n : Nat} (O : MW h0 h d r at0 L) (hn : n ≤ 8) (hl : at0 + L.length + n ≤ 1400) : wp (f_mDraft_sized d v (n : Int) h) (fun h' => MW h0 h' d r at0 (L ++ szL v n)) :=
  O.step (by rw [szL_len]; exact hl) (fun D => by
    rw [m_sized D hn hl, szL_len]
    congr 1
    exact wrM_cg (fun j hj => by unfold szL byL; rw [getD_map hj]))
theorem w_num {v : Int} (O : MW h0 h d r at0 L) (hl : at0 + L.length + szN v ≤ 1400) : wp (f_mDraft_number d v h) (fun h' => MW h0 h' d r at0 (L ++ numL v)) :=
  O.step (by rw [numL_len]; exact hl) (fun D => by
    rw [m_dnum D hl, numL_len]
    congr 1
    exact wrM_cg (fun j hj => by unfold numL szL byL; rw [getD_map hj]))
theorem w_row {x o n : Nat} (O : MW h0 h d r at0 L) (x0 : x ≠ 0) (xr : x ≠ r) (xd : x ≠ d) (hl : at0 + L.length + n ≤ 1400) (hx : o + n ≤ ln h0 x) (hz : o + n < 1000000) (hb : ∀ j, j < n → 0 ≤ hI h0 x (o + j) ∧ hI h0 x (o + j) < 256) : wp (f_mDraft_bytes d x (o : Int) (n : Int) h) (fun h' => MW h0 h' d r at0 (L ++ lB h0 x o n)) :=
  O.step (by rw [lB_len]; exact hl) (fun D => by
    rw [m_bytes D x0 xr xd hl (by rw [O.l]; exact hx) hz (fun j hj => by rw [O.i xd xr]; exact hb j hj), lB_len]
    congr 1
    refine wrM_cg (fun j hj => ?_)
    unfold lB
    have := hb j hj
    rw [getD_map hj, O.i xd xr]
    lia)
end
