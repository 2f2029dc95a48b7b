/-! spans: count; how many places have a mark -/
def cnR (F T : Nat → Int) : List Nat → Int
  | [] => 0
  | k :: l => (T k - F k) + cnR F T l
/-- how many of the first n places are marked v -/
def ctV (u : Nat → Int) (v : Int) : Nat → Int
  | 0 => 0
  | n + 1 => ctV u v n + if u n = v then 1 else 0
section
variable {F T X : Nat → Int} {l : List Nat} {lo v : Int} {u : Nat → Int} {p m : Nat} {fr : Int} {h : Hp}
theorem cnR_le (R : RnL F T lo l) : 0 ≤ cnR F T l ∧ cnR F T l ≤ enR T lo l - lo := by
  induction l generalizing lo with
  | nil => show 0 ≤ (0 : Int) ∧ (0 : Int) ≤ lo - lo; omega
  | cons k l ih =>
    have := ih R.2.2
    have := R.1
    have := R.2.1
    show 0 ≤ (T k - F k) + cnR F T l ∧ (T k - F k) + cnR F T l ≤ enR T (T k) l - lo
    omega
theorem c_scountL (P : SpP h p m fr F T X) : ∀ (l : List Nat) (f : Nat) (kk acc lo : Int), ChX X kk l → (∀ k, k ∈ l → k < m) → RnL F T lo l → 0 ≤ acc → -1 ≤ lo → acc + enR T lo l - lo ≤ 70000 → enR T lo l ≤ 65536 → l.length < f → f_cSpans_count_b4_lp f p acc kk h = some (acc + cnR F T l, h) := by
  intro l
  induction l with
  | nil =>
    intro f kk acc lo C mm R h1 h2 h3 h4 hf
    obtain ⟨f, rfl⟩ : ∃ f', f = f' + 1 := ⟨f - 1, by omega⟩
    have ek : kk = -1 := C
    show f_cSpans_count_b4 (f_cSpans_count_b4_lp f) p acc kk h = some (acc + 0, h)
    unfold f_cSpans_count_b4
    rw [if_pos ek, Int.add_zero]
  | cons k l ih =>
    intro f kk acc lo C mm R h1 h2 h3 h4 hf
    obtain ⟨f, rfl⟩ : ∃ f', f = f' + 1 := ⟨f - 1, by omega⟩
    obtain ⟨ek, C'⟩ := C
    obtain ⟨r1, r2, r3⟩ := R
    have hk := mm k List.mem_cons_self
    obtain ⟨z0, z1, z2, pi, pv⟩ := P.i
    have x := P.xk hk
    have vk := pv k hk
    have he : enR T lo (k :: l) = enR T (T k) l := rfl
    have hg := enR_ge r3
    have ew : w32 (acc + w32 (T k - F k)) = acc + (T k - F k) := by rw [w32_id (x := T k - F k) ⟨by omega, by omega⟩, w32_id ⟨by omega, by omega⟩]
    show f_cSpans_count_b4 (f_cSpans_count_b4_lp f) p acc kk h = some (acc + ((T k - F k) + cnR F T l), h)
    unfold f_cSpans_count_b4
    rw [ek, if_neg (show ¬ (k : Int) = -1 by omega), if_neg z1, if_pos x.2.1, if_neg z0, if_pos x.1, Int.toNat_natCast, vk.1, vk.2.1, ew, lt1_eq, if_neg z2, if_pos x.2.2, vk.2.2, lt1_eq, ih f (X k) (acc + (T k - F k)) (T k) C' (fun j hj => mm j (List.mem_cons_of_mem _ hj)) r3 (by omega) (by omega) (by omega) (by omega) (by rw [List.length_cons] at hf; omega), Int.add_assoc]
theorem c_scount {c : Int} (P : SpP h p m fr F T X) (C : ChX X c l) (mm : ∀ k, k ∈ l → k < m) (R : RnL F T (-1) l) (hT : ∀ k, k ∈ l → T k ≤ 65536) : f_cSpans_count p c h = some (cnR F T l, h) := by
  have ll := R.len' hT
  have he : enR T (-1) l ≤ 65536 := by
    rcases enR_mem (T := T) (l := l) (lo := -1) with z | ⟨k, hk, z⟩
    · omega
    · rw [z]; exact hT k hk
  obtain ⟨FF, hF, F9⟩ : ∃ FF, FF = FU ∧ 200000 < FF := ⟨FU, rfl, by decide⟩
  have := c_scountL P l FF c 0 (-1) C mm R (by decide) (by decide) (by omega) he (by omega)
  unfold f_cSpans_count
  rw [← hF, this, Int.zero_add]
theorem ctV_no {a n : Nat} (e : ∀ j, a ≤ j → j < n → u j ≠ v) (h : a ≤ n) : ctV u v n = ctV u v a := by
  induction n with
  | zero => rw [show a = 0 by omega]
  | succ n ih =>
    by_cases c : a = n + 1
    · rw [c]
    · show ctV u v n + (if u n = v then 1 else 0) = _
      rw [if_neg (e n (by omega) (by omega)), Int.add_zero]
      exact ih (fun j h1 h2 => e j h1 (by omega)) (by omega)
theorem ctV_all {a n : Nat} (e : ∀ j, a ≤ j → j < n → u j = v) (h : a ≤ n) : ctV u v n = ctV u v a + (n - a : Int) := by
  induction n with
  | zero => rw [show a = 0 by omega]; rfl
  | succ n ih =>
    by_cases c : a = n + 1
    · rw [c]; omega
    · show ctV u v n + (if u n = v then 1 else 0) = _
      rw [if_pos (e n (by omega) (by omega)), ih (fun j h1 h2 => e j h1 (by omega)) (by omega)]
      omega
theorem cn_ct {n : Nat} : ∀ (l : List Nat) (lo : Int), RnL F T lo l → -1 ≤ lo → lo < n → (∀ j : Nat, lo < j → j < n → (inS F T l j ↔ u j = v)) → (∀ k, k ∈ l → T k ≤ n) → cnR F T l = ctV u v n - ctV u v (lo + 1).toNat := by
  intro l
  induction l with
  | nil =>
    intro lo R h1 h2 e hT
    rw [ctV_no (a := (lo + 1).toNat) (n := n) (fun j h3 h4 z => inS_nil ((e j (by omega) h4).2 z)) (by omega)]
    show (0 : Int) = _
    omega
  | cons k l ih =>
    intro lo R h1 h2 e hT
    obtain ⟨r1, r2, r3⟩ := R
    have hk := hT k List.mem_cons_self
    have later : ∀ j : Int, inS F T l j → T k < j := fun j z => by
      obtain ⟨i, hi, q⟩ := z
      have := r3.le i hi; omega
    have a1 : ctV u v (F k).toNat = ctV u v (lo + 1).toNat := ctV_no (fun j h3 h4 z => by
      have := (e j (by omega) (by omega)).2 z
      rw [inS_cons] at this
      rcases this with w | w
      · omega
      · have := later _ w; omega) (by omega)
    have a2 : ctV u v (T k).toNat = ctV u v (F k).toNat + ((T k).toNat - (F k).toNat : Int) := ctV_all (fun j h3 h4 => (e j (by omega) (by omega)).1 (inS_cons.2 (Or.inl ⟨by omega, by omega⟩))) (by omega)
    by_cases c : T k = n
    · -- the last one
      have hl : l = [] := by
        cases l with
        | nil => rfl
        | cons i l' =>
          have := hT i (List.mem_cons_of_mem _ List.mem_cons_self)
          have := r3.1; have := r3.2.1; omega
      subst hl
      show (T k - F k) + 0 = _
      rw [show n = (T k).toNat by omega, a2, a1]; omega
    · have := ih (T k - 1) (r3.dn (by omega)) (by omega) (by omega) (fun j h3 h4 => by
        rw [← e j (by omega) h4, inS_cons]
        constructor
        · exact fun z => Or.inr z
        · rintro (z | z)
          · omega
          · exact z) (fun i hi => hT i (List.mem_cons_of_mem _ hi))
      show (T k - F k) + cnR F T l = _
      rw [this, show (T k - 1 + 1).toNat = (T k).toNat by omega, a2, a1]; omega
end
