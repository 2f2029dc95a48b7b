/-! what is written: copy -/
section
variable {o u np : Nat} {A Z X B : Nat → Int} {to fr n N : Nat} {e : Nat → Nat}
theorem c_stcopyL (t0 : to ≠ 0) (hb : fr + n ≤ N) (Nb : N ≤ 65536) : ∀ (l : List Nat) (f b m : Nat) (kk : Int) (h : Hp), SoP h o u np A Z X B → ¬ SoD h o to → n ≤ ln h to → ChX X kk l → (∀ k, k ∈ l → k < np ∧ 0 ≤ Z k ∧ Z k ≤ 65536 ∧ 0 ≤ A k ∧ A k + Z k ≤ 65536) → PcB A Z e b l → b + totZ Z l = N → b ≤ fr + m → m ≤ n → l.length < f →
    ∃ h', f_cStore_copy_b12_lp f o (fr : Int) to (n : Int) kk (b : Int) (m : Int) h = some h' ∧ (∀ i, m ≤ i → i < n → hI h' to i = B (e (fr + i))) ∧ (∀ i, (i < m ∨ n ≤ i) → hI h' to i = hI h to i) ∧ FX (fun x => x = to) h h' := by
  intro l
  induction l with
  | nil =>
    intro f b m kk h P td tl C mm Pb tot hbm hmn hf
    obtain ⟨f, rfl⟩ : ∃ f', f = f' + 1 := ⟨f - 1, by omega⟩
    have ek : kk = -1 := C
    have et : b + 0 = N := tot
    refine ⟨h, ?_, fun i h1 h2 => by omega, fun _ _ => rfl, FX.rf⟩
    show f_cStore_copy_b12 (f_cStore_copy_b12_lp f) o (fr : Int) to (n : Int) kk (b : Int) (m : Int) h = _
    unfold f_cStore_copy_b12
    rw [if_pos ek]
  | cons k l ih =>
    intro f b m kk h P td tl C mm Pb tot hbm hmn hf
    obtain ⟨f, rfl⟩ : ∃ f', f = f' + 1 := ⟨f - 1, by omega⟩
    obtain ⟨ek, C'⟩ := C
    obtain ⟨c1, c2, c3, c4⟩ := Pb
    have hk := mm k List.mem_cons_self
    have et : b + ((Z k).toNat + totZ Z l) = N := tot
    have npb := P.2.2.2.1.2
    have xk : ix (k : Int) 64 := ⟨by omega, by omega⟩
    have v := P.2.2.2.2.1 k hk.1
    have sk1 : w32 (w32 ((fr : Int) + (m : Int)) - (b : Int)) = ((fr + m - b : Nat) : Int) := by
      rw [w32_id (x := (fr : Int) + (m : Int)) ⟨by omega, by omega⟩, w32_id ⟨by omega, by omega⟩]; omega
    have sk : max (w32 (w32 ((fr : Int) + (m : Int)) - (b : Int))) 0 = ((fr + m - b : Nat) : Int) := by rw [sk1]; clear sk1; omega
    clear sk1
    obtain ⟨Zk, eZ⟩ : ∃ Zk : Nat, Z k = Zk := ⟨(Z k).toNat, by clear sk; omega⟩
    obtain ⟨Ak, eA⟩ : ∃ Ak : Nat, A k = Ak := ⟨(A k).toNat, by clear sk; omega⟩
    rw [eZ, eA] at hk
    rw [eZ, Int.toNat_natCast] at et c3 c4
    rw [eA, Int.toNat_natCast] at c3
    rw [eZ, eA] at v
    show ∃ h', f_cStore_copy_b12 (f_cStore_copy_b12_lp f) o (fr : Int) to (n : Int) kk (b : Int) (m : Int) h = some h' ∧ _
    unfold f_cStore_copy_b12
    rw [ek, if_neg (show ¬ (k : Int) = -1 by lia)]
    by_cases cm : n ≤ m
    · rw [if_pos (show (n : Int) ≤ (m : Int) by lia)]
      exact ⟨h, rfl, fun i h1 h2 => by lia, fun _ _ => rfl, FX.rf⟩
    · rw [if_neg (show ¬ (n : Int) ≤ (m : Int) by lia), sk, lt1_eq, if_neg P.2.1.2.2.1.1, P.2.1.2.2.1.2.2, if_pos xk, Int.toNat_natCast, v.2.1]
      clear sk
      -- the next piece
      have next : ∀ (g : Hp) (m' : Nat), SoP g o u np A Z X B → hR g = hR h → ln g = ln h → m ≤ m' → m' ≤ n → b + Zk ≤ fr + m' ∨ m' = n → (∀ i, m ≤ i → i < m' → hI g to i = B (e (fr + i))) → (∀ i, (i < m ∨ m' ≤ i) → hI g to i = hI h to i) → FX (fun x => x = to) h g → ∃ h', f_cStore_copy_b92 (f_cStore_copy_b12_lp f) o (fr : Int) to (n : Int) (k : Int) (b : Int) (m' : Int) g = some h' ∧ (∀ i, m ≤ i → i < n → hI h' to i = B (e (fr + i))) ∧ (∀ i, (i < m ∨ n ≤ i) → hI h' to i = hI h to i) ∧ FX (fun x => x = to) h h' := fun g m' Pg rg lg h1 h2 h3 vg wg Fg => by
        have v' := Pg.2.2.2.2.1 k hk.1
        rw [eZ, eA] at v'
        have ew : w32 ((b : Int) + (Zk : Int)) = ((b + Zk : Nat) : Int) := by rw [w32_id ⟨by omega, by omega⟩]; rfl
        unfold f_cStore_copy_b92
        rw [if_neg Pg.2.1.2.2.1.1, Pg.2.1.2.2.1.2.2, if_pos xk, Int.toNat_natCast, v'.2.1, ew, lt1_eq, if_neg Pg.2.1.2.2.2.1, Pg.2.1.2.2.2.2.2, if_pos xk, v'.2.2, lt1_eq]
        clear ew
        by_cases cn : m' = n
        · -- all is there
          obtain ⟨f, rfl⟩ : ∃ f', f = f' + 1 := ⟨f - 1, by rw [List.length_cons] at hf; omega⟩
          refine ⟨g, ?_, fun i i1 i2 => vg i i1 (by omega), fun i hi => wg i (by omega), Fg⟩
          show f_cStore_copy_b12 (f_cStore_copy_b12_lp f) o (fr : Int) to (n : Int) (X k) ((b + Zk : Nat) : Int) (m' : Int) g = _
          unfold f_cStore_copy_b12
          by_cases q : X k = -1
          · rw [if_pos q]
          · rw [if_neg q, if_pos (show (n : Int) ≤ (m' : Int) by omega)]
        · obtain ⟨h', q1, q2, q3, q4⟩ := ih f (b + Zk) m' (X k) g Pg (by unfold SoD at *; rw [rg]; exact td) (by rw [lg]; exact tl) C' (fun j hj => mm j (List.mem_cons_of_mem _ hj)) c4 (by omega) (by omega) h2 (by rw [List.length_cons] at hf; omega)
          refine ⟨h', q1, fun i i1 i2 => ?_, fun i hi => ?_, Fg.tr q4⟩
          · by_cases w : m' ≤ i
            · exact q2 i w i2
            · rw [q3 i (by omega)]; exact vg i i1 (by omega)
          · rw [q3 i (by omega)]; exact wg i (by omega)
      have mn : min (w32 ((Zk : Int) - ((fr + m - b : Nat) : Int))) (w32 ((n : Int) - (m : Int))) = min ((Zk : Int) - ((fr + m - b : Nat) : Int)) ((n : Int) - (m : Int)) := by
        rw [w32_id (x := (Zk : Int) - ((fr + m - b : Nat) : Int)) ⟨by omega, by omega⟩, w32_id ⟨by omega, by omega⟩]
      rw [mn, lt1_eq]
      clear mn
      by_cases cz : Zk ≤ fr + m - b
      · rw [if_pos (show min ((Zk : Int) - ((fr + m - b : Nat) : Int)) ((n : Int) - (m : Int)) ≤ 0 by omega)]
        exact next h m P rfl rfl (Nat.le_refl _) hmn (Or.inl (by omega)) (fun i h1 h2 => by omega) (fun _ _ => rfl) FX.rf
      · obtain ⟨w, ew⟩ : ∃ w : Nat, min ((Zk : Int) - ((fr + m - b : Nat) : Int)) ((n : Int) - (m : Int)) = w := ⟨(min ((Zk : Int) - ((fr + m - b : Nat) : Int)) ((n : Int) - (m : Int))).toNat, by omega⟩
        have w1 : 0 < w ∧ w + (fr + m - b) ≤ Zk ∧ m + w ≤ n ∧ (w + (fr + m - b) = Zk ∨ m + w = n) := by omega
        have wa : w32 ((Ak : Int) + ((fr + m - b : Nat) : Int)) = ((Ak + (fr + m - b) : Nat) : Int) := by rw [w32_id ⟨by omega, by omega⟩]; rfl
        have wm : w32 ((m : Int) + (w : Int)) = ((m + w : Nat) : Int) := by clear wa; rw [w32_id ⟨by omega, by omega⟩]; rfl
        have ntd : to ≠ o ∧ to ≠ hR h o 0 ∧ to ≠ hR h o 2 ∧ to ≠ hR h o 3 ∧ to ≠ hR h o 4 := ⟨fun z => td (Or.inl z), fun z => td (Or.inr (Or.inl z)), fun z => td (Or.inr (Or.inr (Or.inl z))), fun z => td (Or.inr (Or.inr (Or.inr (Or.inl z)))), fun z => td (Or.inr (Or.inr (Or.inr (Or.inr z))))⟩
        have ck : cpk ((Ak + (fr + m - b) : Nat) : Int) (m : Int) (w : Int) 65536 (ln h to) := by clear wa wm ntd; exact ⟨by omega, by omega, by omega, by omega, by omega⟩
        rw [ew, if_neg (show ¬ (w : Int) ≤ 0 by lia), if_neg P.2.1.2.1.1, P.2.1.2.1.2.2, if_pos xk, if_neg P.2.1.1.1, if_neg t0, v.1, wa, P.2.1.1.2.2, if_pos ck, Int.toNat_natCast, Int.toNat_natCast, Int.toNat_natCast, lt1_eq, wm, lt1_eq]
        clear wa wm ck
        have Pg : SoP (cpI h (hR h o 0) (Ak + (fr + m - b)) to m w) o u np A Z X B := by
          obtain ⟨⟨p1, p2, p3⟩, q, d, bb, ee, ff⟩ := P
          refine ⟨⟨p1, by rw [hI_cI, if_neg (fun z => ntd.1 z.1.symm)]; exact p2, by rw [hI_cI, if_neg (fun z => ntd.1 z.1.symm)]; exact p3⟩, q, d, bb, fun j hj => ⟨?_, ?_, ?_⟩, fun j hj => ?_⟩
          · show hI (cpI _ _ _ _ _ _) (hR h o 2) j = _
            rw [hI_cI, if_neg (fun z => ntd.2.2.1 z.1.symm)]; exact (ee j hj).1
          · show hI (cpI _ _ _ _ _ _) (hR h o 3) j = _
            rw [hI_cI, if_neg (fun z => ntd.2.2.2.1 z.1.symm)]; exact (ee j hj).2.1
          · show hI (cpI _ _ _ _ _ _) (hR h o 4) j = _
            rw [hI_cI, if_neg (fun z => ntd.2.2.2.2 z.1.symm)]; exact (ee j hj).2.2
          · show hI (cpI _ _ _ _ _ _) (hR h o 0) j = _
            rw [hI_cI, if_neg (fun z => ntd.2.1 z.1.symm)]; exact ff j hj
        refine next _ (m + w) Pg rfl rfl (by omega) w1.2.2.1 (by omega) (fun i i1 i2 => ?_) (fun i hi => ?_) (FX.cI rfl)
        · rw [hI_cI, if_pos ⟨rfl, i1, i2⟩, P.2.2.2.2.2 _ (by omega)]
          have := c3 (fr + i - b) (by omega)
          rw [show b + (fr + i - b) = fr + i by omega] at this
          rw [this]; exact fcg (by omega)
        · rw [hI_cI, if_neg (by omega)]
end
