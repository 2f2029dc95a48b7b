/-! the book: a packet is sent, the parts -/
theorem mk_new : ∀ e c f : Nat, e < 2 → c < 2 → f < 2 → i8 (i8 (iOr (iOr (iOr 0 (if (e : Int) = 0 then 0 else 4)) (if (c : Int) = 0 then 0 else 8)) (if (f : Int) = 0 then 0 else 16))) = 4 * (e : Int) + 8 * (c : Int) + 16 * (f : Int) := by
  intro e c f he hc hf
  have key : ∀ e : Nat, e < 2 → ∀ c : Nat, c < 2 → ∀ f : Nat, f < 2 → i8 (i8 (iOr (iOr (iOr 0 (if (e : Int) = 0 then 0 else 4)) (if (c : Int) = 0 then 0 else 8)) (if (f : Int) = 0 then 0 else 16))) = 4 * (e : Int) + 8 * (c : Int) + 16 * (f : Int) := by decide
  exact key e he c hc f hf
section
variable {h : Hp} {p s n : Nat} {w : Nat → Nat} {t z el co fi : Int}
theorem c_addB (W : SpW h p s w) (n3 : hI h p 3 = (n : Int)) (n4 : n < 4096) (hl : n < ln h (hR h p 0)) (l1 : ln h (hR h p 1) = ln h (hR h p 0)) (l2 : ln h (hR h p 2) = ln h (hR h p 0)) (hz : 0 < z ∧ z < 32768) (he : el = 0 ∨ el = 1) (hc : co = 0 ∨ co = 1) (hf : fi = 0 ∨ fi = 1) : wp (f_cSpace_add_b16 p t z el co fi h) (fun o => o.1 = (n : Int) ∧ OnI h o.2 ∧ (∀ x y, ¬ (x = hR h p 0 ∧ y = n) → ¬ (x = hR h p 1 ∧ y = n) → ¬ (x = hR h p 2 ∧ y = n) → ¬ (x = p ∧ (y = 3 ∨ y = 4 ∨ y = 5 ∨ y = 7)) → hI o.2 x y = hI h x y) ∧ hI o.2 (hR h p 0) n = t ∧ hI o.2 (hR h p 1) n = z ∧ hI o.2 (hR h p 2) n = 4 * el + 8 * co + 16 * fi ∧ hI o.2 p 3 = ((n + 1 : Nat) : Int) ∧ hI o.2 p 4 = w32 (hI h p 4 + 1) ∧ hI o.2 p 5 = (if el = 0 then hI h p 5 else w32 (hI h p 5 + 1)) ∧ hI o.2 p 7 = (if el = 0 then hI h p 7 else t)) := by
  obtain ⟨w1, w2, w3, w4, w5, w6, w7, w8, w9, w10, w11, w0⟩ := W
  have zT : hR h p 0 ≠ 0 := wne (w := w) (by rw [w2, w0]; lia)
  have zS : hR h p 1 ≠ 0 := wne (w := w) (by rw [w3, w0]; lia)
  have zM : hR h p 2 ≠ 0 := wne (w := w) (by rw [w4, w0]; lia)
  have pT : hR h p 0 ≠ p := wne (w := w) (by rw [w2, w1]; lia)
  have pS : hR h p 1 ≠ p := wne (w := w) (by rw [w3, w1]; lia)
  have pM : hR h p 2 ≠ p := wne (w := w) (by rw [w4, w1]; lia)
  have TS : hR h p 0 ≠ hR h p 1 := wne (w := w) (by rw [w2, w3]; lia)
  have TM : hR h p 0 ≠ hR h p 2 := wne (w := w) (by rw [w2, w4]; lia)
  have SM : hR h p 1 ≠ hR h p 2 := wne (w := w) (by rw [w3, w4]; lia)
  have x0 : ix (n : Int) (ln h (hR h p 0)) := ⟨by lia, by lia⟩
  have x1 : ix (n : Int) (ln h (hR h p 1)) := ⟨by lia, by lia⟩
  have x2 : ix (n : Int) (ln h (hR h p 2)) := ⟨by lia, by lia⟩
  have ez : i16 (i16 z) = z := by unfold i16; lia
  -- from the marks on
  have go : ∀ a3 : Int, a3 = 4 * el + 8 * co + 16 * fi → ∀ s2 s3 : Int, i8 (i8 (iOr s2 s3)) = a3 → wp (f_cSpace_add_b79 p t el (hR h p 2) (n : Int) s2 s3 (sI (sI h (hR h p 0) n t) (hR h p 1) n z)) (fun o => o.1 = (n : Int) ∧ OnI h o.2 ∧ (∀ x y, ¬ (x = hR h p 0 ∧ y = n) → ¬ (x = hR h p 1 ∧ y = n) → ¬ (x = hR h p 2 ∧ y = n) → ¬ (x = p ∧ (y = 3 ∨ y = 4 ∨ y = 5 ∨ y = 7)) → hI o.2 x y = hI h x y) ∧ hI o.2 (hR h p 0) n = t ∧ hI o.2 (hR h p 1) n = z ∧ hI o.2 (hR h p 2) n = 4 * el + 8 * co + 16 * fi ∧ hI o.2 p 3 = ((n + 1 : Nat) : Int) ∧ hI o.2 p 4 = w32 (hI h p 4 + 1) ∧ hI o.2 p 5 = (if el = 0 then hI h p 5 else w32 (hI h p 5 + 1)) ∧ hI o.2 p 7 = (if el = 0 then hI h p 7 else t)) := fun a3 ha3 s2 s3 hs => by
    unfold f_cSpace_add_b79 f_cSpace_add_b111
    obtain ⟨g3, e3⟩ : ∃ g3, g3 = sI (sI (sI h (hR h p 0) n t) (hR h p 1) n z) (hR h p 2) n a3 := ⟨_, rfl⟩
    have r3 : ∀ x y, hI g3 x y = if x = hR h p 2 ∧ y = n then a3 else if x = hR h p 1 ∧ y = n then z else if x = hR h p 0 ∧ y = n then t else hI h x y := fun x y => by rw [e3, hI_sI, hI_sI, hI_sI]
    have O3 : OnI h g3 := by rw [e3]; exact OnI.refl.s.s.s
    have rp : ∀ y, hI g3 p y = hI h p y := fun y => by rw [r3, if_neg (fun q => pM q.1.symm), if_neg (fun q => pS q.1.symm), if_neg (fun q => pT q.1.symm)]
    have rT : hI g3 (hR h p 0) n = t := by rw [r3, if_neg (fun q => TM q.1), if_neg (fun q => TS q.1), if_pos ⟨rfl, rfl⟩]
    have rS : hI g3 (hR h p 1) n = z := by rw [r3, if_neg (fun q => SM q.1), if_pos ⟨rfl, rfl⟩]
    have rM : hI g3 (hR h p 2) n = a3 := by rw [r3, if_pos ⟨rfl, rfl⟩]
    have rF : ∀ x y, ¬ (x = hR h p 0 ∧ y = n) → ¬ (x = hR h p 1 ∧ y = n) → ¬ (x = hR h p 2 ∧ y = n) → hI g3 x y = hI h x y := fun x y q1 q2 q3 => by rw [r3, if_neg q3, if_neg q2, if_neg q1]
    have x2' : ix (n : Int) (ln (sI (sI h (hR h p 0) n t) (hR h p 1) n z) (hR h p 2)) := x2
    rw [if_neg zM, if_pos x2', hs, Int.toNat_natCast, lt1_eq, ← e3, lt1_eq, rp]
    clear e3 r3
    by_cases c : el = 0
    · have b3 : hI (sI g3 p 4 (w32 (hI h p 4 + 1))) p 3 = (n : Int) := by rw [hI_sI, if_neg (by lia), rp]; exact n3
      rw [if_pos c, lt1_eq, b3, wp_some, w_k1 (by lia)]
      simp only [if_pos c]
      refine ⟨by trivial, O3.s.s, fun x y q1 q2 q3 q4 => ?_, ?_, ?_, ?_, ?_, ?_, ?_, ?_⟩
      · rw [hI_sI, if_neg (by lia), hI_sI, if_neg (by lia)]; exact rF x y q1 q2 q3
      · rw [hI_sI, if_neg (fun q => pT q.1), hI_sI, if_neg (fun q => pT q.1)]; exact rT
      · rw [hI_sI, if_neg (fun q => pS q.1), hI_sI, if_neg (fun q => pS q.1)]; exact rS
      · rw [hI_sI, if_neg (fun q => pM q.1), hI_sI, if_neg (fun q => pM q.1), rM]; exact ha3
      · rw [hI_sI, if_pos ⟨rfl, rfl⟩]
      · rw [hI_sI, if_neg (by lia), hI_sI, if_pos ⟨rfl, rfl⟩]
      · rw [hI_sI, if_neg (by lia), hI_sI, if_neg (by lia), rp]
      · rw [hI_sI, if_neg (by lia), hI_sI, if_neg (by lia), rp]
    · have b5 : hI (sI g3 p 4 (w32 (hI h p 4 + 1))) p 5 = hI h p 5 := by rw [hI_sI, if_neg (by lia), rp]
      have b3 : ∀ u, hI (sI (sI (sI g3 p 4 (w32 (hI h p 4 + 1))) p 5 u) p 7 t) p 3 = (n : Int) := fun u => by rw [hI_sI, if_neg (by lia), hI_sI, if_neg (by lia), hI_sI, if_neg (by lia), rp]; exact n3
      rw [if_neg c, lt1_eq, b5, lt1_eq, lt1_eq, b3, wp_some, w_k1 (by lia)]
      simp only [if_neg c]
      refine ⟨by trivial, O3.s.s.s.s, fun x y q1 q2 q3 q4 => ?_, ?_, ?_, ?_, ?_, ?_, ?_, ?_⟩
      · rw [hI_sI, if_neg (by lia), hI_sI, if_neg (by lia), hI_sI, if_neg (by lia), hI_sI, if_neg (by lia)]; exact rF x y q1 q2 q3
      · rw [hI_sI, if_neg (fun q => pT q.1), hI_sI, if_neg (fun q => pT q.1), hI_sI, if_neg (fun q => pT q.1), hI_sI, if_neg (fun q => pT q.1)]; exact rT
      · rw [hI_sI, if_neg (fun q => pS q.1), hI_sI, if_neg (fun q => pS q.1), hI_sI, if_neg (fun q => pS q.1), hI_sI, if_neg (fun q => pS q.1)]; exact rS
      · rw [hI_sI, if_neg (fun q => pM q.1), hI_sI, if_neg (fun q => pM q.1), hI_sI, if_neg (fun q => pM q.1), hI_sI, if_neg (fun q => pM q.1), rM]; exact ha3
      · rw [hI_sI, if_pos ⟨rfl, rfl⟩]
      · rw [hI_sI, if_neg (by lia), hI_sI, if_neg (by lia), hI_sI, if_neg (by lia), hI_sI, if_pos ⟨rfl, rfl⟩]
      · rw [hI_sI, if_neg (by lia), hI_sI, if_neg (by lia), hI_sI, if_pos ⟨rfl, rfl⟩]
      · rw [hI_sI, if_neg (by lia), hI_sI, if_pos ⟨rfl, rfl⟩]
  have b3 : ∀ y, hI (sI h (hR h p 0) n t) p y = hI h p y := fun y => by rw [hI_sI, if_neg (fun q => pT q.1.symm)]
  have b3' : ∀ y, hI (sI (sI h (hR h p 0) n t) (hR h p 1) n z) p y = hI h p y := fun y => by rw [hI_sI, if_neg (fun q => pS q.1.symm), b3]
  unfold f_cSpace_add_b16 f_cSpace_add_b55 f_cSpace_add_b67
  rw [if_neg zT, n3, if_pos x0, lt1_eq, Int.toNat_natCast, hR_sI, if_neg zS, b3, n3, ln_sI, if_pos x1, Int.toNat_natCast, ez, lt1_eq, b3', n3, hR_sI, hR_sI]
  have mk : ∀ e4 c8 f16 : Int, e4 = (if el = 0 then 0 else 4) → c8 = (if co = 0 then 0 else 8) → f16 = (if fi = 0 then 0 else 16) → i8 (i8 (iOr (iOr (iOr 0 e4) c8) f16)) = 4 * el + 8 * co + 16 * fi := fun e4 c8 f16 h1 h2 h3 => by
    have key := fun (e c f : Nat) h h' h'' => mk_new e c f h h' h''
    rw [h1, h2, h3]
    rcases he with rfl | rfl <;> rcases hc with rfl | rfl <;> rcases hf with rfl | rfl
    · exact key 0 0 0 (by decide) (by decide) (by decide)
    · exact key 0 0 1 (by decide) (by decide) (by decide)
    · exact key 0 1 0 (by decide) (by decide) (by decide)
    · exact key 0 1 1 (by decide) (by decide) (by decide)
    · exact key 1 0 0 (by decide) (by decide) (by decide)
    · exact key 1 0 1 (by decide) (by decide) (by decide)
    · exact key 1 1 0 (by decide) (by decide) (by decide)
    · exact key 1 1 1 (by decide) (by decide) (by decide)
  by_cases c1 : el = 0
  · rw [if_pos c1]
    by_cases c2 : co = 0
    · rw [if_pos c2]
      by_cases c3 : fi = 0
      · rw [if_pos c3]; exact go _ rfl _ _ (mk 0 0 0 (by rw [if_pos c1]) (by rw [if_pos c2]) (by rw [if_pos c3]))
      · rw [if_neg c3]; exact go _ rfl _ _ (mk 0 0 16 (by rw [if_pos c1]) (by rw [if_pos c2]) (by rw [if_neg c3]))
    · rw [if_neg c2]
      by_cases c3 : fi = 0
      · rw [if_pos c3]; exact go _ rfl _ _ (mk 0 8 0 (by rw [if_pos c1]) (by rw [if_neg c2]) (by rw [if_pos c3]))
      · rw [if_neg c3]; exact go _ rfl _ _ (mk 0 8 16 (by rw [if_pos c1]) (by rw [if_neg c2]) (by rw [if_neg c3]))
  · rw [if_neg c1]
    by_cases c2 : co = 0
    · rw [if_pos c2]
      by_cases c3 : fi = 0
      · rw [if_pos c3]; exact go _ rfl _ _ (mk 4 0 0 (by rw [if_neg c1]) (by rw [if_pos c2]) (by rw [if_pos c3]))
      · rw [if_neg c3]; exact go _ rfl _ _ (mk 4 0 16 (by rw [if_neg c1]) (by rw [if_pos c2]) (by rw [if_neg c3]))
    · rw [if_neg c2]
      by_cases c3 : fi = 0
      · rw [if_pos c3]; exact go _ rfl _ _ (mk 4 8 0 (by rw [if_neg c1]) (by rw [if_neg c2]) (by rw [if_pos c3]))
      · rw [if_neg c3]; exact go _ rfl _ _ (mk 4 8 16 (by rw [if_neg c1]) (by rw [if_neg c2]) (by rw [if_neg c3]))
end
