/-! the book: an acknowledgement, what is new of it -/
/-- the spans that were put together: in the class, in the model -/
def SnC (hc : Hp) (a N : Nat) (lo hi : Nat → Int) : Prop := ∀ i, i < N → hJ hc (a + 4) i = lo i ∧ hJ hc (a + 5) i = hi i
def SnM (hm : Hp) (m N : Nat) (lo hi : Nat → Int) : Prop := hI hm m 27 = (N : Int) ∧ ∀ i, i < N → hJ hm (m + 15) i = lo i ∧ hJ hm (m + 16) i = hi i
/-- their bounds -/
def SnB (N n : Nat) (lo hi : Nat → Int) : Prop := (1 ≤ N ∧ N ≤ 64) ∧ RGd N lo hi ∧ ∀ i, i < N → 0 ≤ lo i ∧ hi i < n
def inR (lo hi : Nat → Int) (r i : Nat) : Prop := lo r ≤ i ∧ (i : Int) ≤ hi r
section
variable {hc hm : Hp} {a m p s n N fo : Nat} {tm sz mk lo hi : Nat → Int} {w : Nat → Nat}
theorem SnB.lt (S : SnB N n lo hi) {r r' i : Nat} (h : r' < r) (hr : r < N) (h1 : inR lo hi r i) {i' : Nat} (h2 : inR lo hi r' i') : i < i' := by
  have := RGd_lt S.2.1 r' r h hr
  unfold inR at *
  lia
theorem m_isNewL (K : PkM hm m s n tm sz mk fo) (Sm : SnM hm m N lo hi) (hN : N ≤ 64) {i : Nat} (hi' : i < n) (F : Nat) : ∀ (r : Nat) (v : Int), r ≤ N → N - r < F → (v = 0 ∨ v = 1) → (v = 1 ↔ ∃ r', r' < r ∧ inR lo hi r' i) → wp (f_mBook_isNew_b5_lp F m (s : Int) (i : Int) v (r : Int) hm) (fun o => o.2 = hm ∧ (o.1 = 0 ∨ o.1 = 1) ∧ (o.1 = 1 ↔ (∃ r', r' < N ∧ inR lo hi r' i) ∧ hI hm (m + 9) s = 0 ∧ mk i % 4 = 0)) := by
  induction F with
  | zero => intro r v _ hf; lia
  | succ F ih =>
    intro r v hr hf v01 V
    show wp (f_mBook_isNew_b5 (f_mBook_isNew_b5_lp F) m (s : Int) (i : Int) v (r : Int) hm) _
    unfold f_mBook_isNew_b5 f_mBook_isNew_b44 f_mBook_isNew_b48 f_mBook_isNew_b49
    have L := K.1.1
    have m0 := L.1
    have z1 : ¬ (m + 15 = 0) := by lia
    have z2 : ¬ (m + 16 = 0) := by lia
    simp only [Sm.1, L.r0_28, L.r0_29, L.l15, L.l16, if_neg z1, if_neg z2, Int.toNat_natCast, K.out hi', b2_some]
    by_cases c : (N : Int) ≤ r
    · have e : r = N := by lia
      subst e
      rw [if_pos c]
      by_cases cv : v = 0
      · rw [if_pos cv, wp_some]
        exact ⟨rfl, Or.inl rfl, fun z => absurd (show (0 : Int) = 1 from z) (by decide), fun z => by have := V.mpr z.1; lia⟩
      · rw [if_neg cv]
        by_cases d : hI hm (m + 9) s = 0 ∧ mk i % 4 = 0
        · rw [if_pos d, if_neg (by decide), wp_some]
          exact ⟨rfl, Or.inr rfl, fun _ => ⟨V.mp (by lia), d⟩, fun _ => rfl⟩
        · rw [if_neg d, if_pos rfl, wp_some]
          exact ⟨rfl, Or.inl rfl, fun z => absurd (show (0 : Int) = 1 from z) (by decide), fun z => absurd z.2 d⟩
    · have hrN : r < N := by lia
      have x1 : ix (r : Int) 64 := ⟨by lia, by lia⟩
      have q := Sm.2 r hrN
      rw [if_neg c]
      simp only [if_pos x1, q.1, q.2, w_k1 (show r < 1000000000 by lia)]
      have st : ∀ v' : Int, (v' = 1 ↔ v = 1 ∨ inR lo hi r i) → (v' = 1 ↔ ∃ r', r' < r + 1 ∧ inR lo hi r' i) := fun v' h => by
        rw [h, V]
        constructor
        · rintro (⟨r', h1, h2⟩ | h2)
          · exact ⟨r', by lia, h2⟩
          · exact ⟨r, by lia, h2⟩
        · rintro ⟨r', h1, h2⟩
          by_cases e : r' = r
          · rw [e] at h2; exact Or.inr h2
          · exact Or.inl ⟨r', by lia, h2⟩
      by_cases cv : v = 0
      · rw [if_neg (fun z => z cv)]
        by_cases c1 : (i : Int) < lo r
        · rw [if_pos c1]
          exact ih (r + 1) 0 (by lia) (by lia) (Or.inl rfl) (st 0 ⟨fun z => absurd z (by decide), fun z => by rcases z with z | z; lia; unfold inR at z; lia⟩)
        · rw [if_neg c1]
          by_cases c2 : hi r < i
          · rw [if_pos c2]
            exact ih (r + 1) 0 (by lia) (by lia) (Or.inl rfl) (st 0 ⟨fun z => absurd z (by decide), fun z => by rcases z with z | z; lia; unfold inR at z; lia⟩)
          · rw [if_neg c2]
            exact ih (r + 1) 1 (by lia) (by lia) (Or.inr rfl) (st 1 ⟨fun _ => Or.inr ⟨by lia, by lia⟩, fun _ => rfl⟩)
      · rw [if_pos cv]
        exact ih (r + 1) 1 (by lia) (by lia) (Or.inr rfl) (st 1 ⟨fun _ => Or.inl (by lia), fun _ => rfl⟩)
/-- what is new -/
def newP (lo hi mk : Nat → Int) (N n i : Nat) : Prop := i < n ∧ mk i % 4 = 0 ∧ ∃ r, r < N ∧ inR lo hi r i
theorem m_isNew (K : PkM hm m s n tm sz mk fo) (Sm : SnM hm m N lo hi) (hN : N ≤ 64) (d : hI hm (m + 9) s = 0) {i : Nat} (hi' : i < n) : ∃ v, f_mBook_isNew m (s : Int) (i : Int) hm = some (v, hm) ∧ (v = 0 ∨ v = 1) ∧ (v = 1 ↔ newP lo hi mk N n i) := by
  unfold f_mBook_isNew
  obtain ⟨⟨v, h'⟩, e, q1, q2, q3⟩ := m_isNewL K Sm hN hi' FU 0 0 (Nat.zero_le _) (by unfold FU; lia) (Or.inl rfl) ⟨fun z => absurd z (by decide), fun ⟨r', h1, _⟩ => absurd h1 (Nat.not_lt_zero r')⟩
  dsimp only at q1 q2 q3
  subst q1
  refine ⟨v, e, q2, ?_⟩
  · rw [q3]
    unfold newP
    constructor
    · rintro ⟨h1, _, h2⟩; exact ⟨hi', h2, h1⟩
    · rintro ⟨_, h2, h1⟩; exact ⟨h1, d, h2⟩
end
/-! the class's first round: how many are new, whether some elicit -/
section
variable {hc : Hp} {a p s n N fo top : Nat} {tm sz mk lo hi : Nat → Int} {w : Nat → Nat} {dl tn : Int} {R : Int × Hp → Prop}
/-- what is new up to k of range r -/
def nwU (lo hi mk : Nat → Int) (n r k i : Nat) : Prop := i < n ∧ mk i % 4 = 0 ∧ ((∃ r', r' < r ∧ inR lo hi r' i) ∨ (inR lo hi r i ∧ i < k))
def akI (lo hi mk : Nat → Int) (n r k : Nat) (v6 v7 : Int) : Prop := (0 ≤ v7 ∧ v7 ≤ 5000 * r + k) ∧ (v6 = 0 ∨ v6 = 1) ∧ (v7 ≠ 0 ↔ ∃ i, nwU lo hi mk n r k i) ∧ (v6 = 1 ↔ ∃ i, nwU lo hi mk n r k i ∧ mk i / 4 % 2 = 1)
theorem c_ak81 (L : LBk hc a) (W : SpW hc p s w) (K : PkC hc p n tm sz mk fo) (d : hI hc p 10 = 0) (Sc : SnC hc a N lo hi) (Sb : SnB N n lo hi) {r : Nat} (hr : r < N) (k54 : Nat → Int → Int → Nat → Int → Int → Int → Int → Int → Hp → Option (Int × Hp)) (KK : ∀ (v6 v7 : Int) (k : Nat), hi r < (k : Int) → k ≤ n → akI lo hi mk n r k v6 v7 → wp (k54 a (s : Int) dl p (top : Int) tn v6 v7 ((r + 1 : Nat) : Int) hc) R) (F : Nat) : ∀ (k : Nat) (v6 v7 : Int), lo r ≤ k → k ≤ n → n - k < F → akI lo hi mk n r k v6 v7 → wp (f_cBook_acknowledge_b81_lp k54 F a (s : Int) dl p (top : Int) tn v6 v7 (r : Int) (k : Int) hc) R := by
  induction F with
  | zero => intro k v6 v7 _ _ hf; lia
  | succ F ih =>
    intro k v6 v7 hlo hkn hf I
    show wp (f_cBook_acknowledge_b81 k54 (f_cBook_acknowledge_b81_lp k54 F) a (s : Int) dl p (top : Int) tn v6 v7 (r : Int) (k : Int) hc) R
    unfold f_cBook_acknowledge_b81 f_cBook_acknowledge_b125 f_cBook_acknowledge_b130 f_cBook_acknowledge_b132
    have a0 := L.1
    have z5 : ¬ (a + 5 = 0) := by lia
    have p0 : ¬ (p = 0) := wne (w := w) (by rw [W.1, W.2.2.2.2.2.2.2.2.2.2.2]; lia)
    have x1 : ix (r : Int) 64 := ⟨by lia, by have := Sb.1; lia⟩
    have nb := K.2.2.1
    have Nb := Sb.1
    have b := Sb.2.2 r hr
    rw [L.r0_9, if_neg z5, L.l5, if_pos x1, Int.toNat_natCast, (Sc r hr).2]
    by_cases c : hi r < k
    · rw [if_pos c, w_k1 (by lia)]
      exact KK v6 v7 k c hkn I
    · have hk : k < n := by lia
      obtain ⟨I1, I2, I3, I4⟩ := I
      rw [if_neg c, if_neg p0, c_state W K hk d, b2_some]
      have inr : inR lo hi r k := ⟨hlo, by lia⟩
      have nx : ∀ i, nwU lo hi mk n r (k + 1) i ↔ nwU lo hi mk n r k i ∨ (i = k ∧ mk k % 4 = 0) := fun i => by
        unfold nwU
        constructor
        · rintro ⟨h1, h2, h3 | ⟨h3, h4⟩⟩
          · exact Or.inl ⟨h1, h2, Or.inl h3⟩
          · by_cases e : i = k
            · rw [e] at h2; exact Or.inr ⟨e, h2⟩
            · exact Or.inl ⟨h1, h2, Or.inr ⟨h3, by lia⟩⟩
        · rintro (⟨h1, h2, h3 | ⟨h3, h4⟩⟩ | ⟨h1, h2⟩)
          · exact ⟨h1, h2, Or.inl h3⟩
          · exact ⟨h1, h2, Or.inr ⟨h3, by lia⟩⟩
          · subst h1; exact ⟨hk, h2, Or.inr ⟨inr, by lia⟩⟩
      have wk := w_k1 (show k < 1000000000 by lia)
      by_cases cm : mk k % 4 = 0
      · have wv : w32 (v7 + 1) = v7 + 1 := w32_id ⟨by lia, by lia⟩
        have n7 : v7 + 1 ≠ 0 ↔ ∃ i, nwU lo hi mk n r (k + 1) i := ⟨fun _ => ⟨k, (nx k).mpr (Or.inr ⟨rfl, cm⟩)⟩, fun _ => by lia⟩
        rw [if_pos cm, wv, wk]
        by_cases c6 : v6 = 0
        · rw [if_neg (fun z => z c6), c_is W K hk (b := 4) (by decide), b2_some]
          by_cases ce : mk k / 4 % 2 = 0
          · rw [if_pos ce]
            refine ih (k + 1) 0 (v7 + 1) (by lia) (by lia) (by lia) ⟨by lia, Or.inl rfl, n7, fun z => absurd z (by decide), fun ⟨i, h1, h2⟩ => ?_⟩
            rcases (nx i).mp h1 with h | ⟨h, _⟩
            · have := I4.mpr ⟨i, h, h2⟩; lia
            · rw [h] at h2; lia
          · rw [if_neg ce]
            exact ih (k + 1) 1 (v7 + 1) (by lia) (by lia) (by lia) ⟨by lia, Or.inr rfl, n7, fun _ => ⟨k, (nx k).mpr (Or.inr ⟨rfl, cm⟩), by lia⟩, fun _ => rfl⟩
        · rw [if_pos c6]
          refine ih (k + 1) 1 (v7 + 1) (by lia) (by lia) (by lia) ⟨by lia, Or.inr rfl, n7, fun _ => ?_, fun _ => rfl⟩
          obtain ⟨i, h1, h2⟩ := I4.mp (by lia)
          exact ⟨i, (nx i).mpr (Or.inl h1), h2⟩
      · rw [if_neg cm, wk]
        refine ih (k + 1) v6 v7 (by lia) (by lia) (by lia) ⟨by lia, I2, ?_, ?_⟩
        · rw [I3]
          exact ⟨fun ⟨i, h⟩ => ⟨i, (nx i).mpr (Or.inl h)⟩, fun ⟨i, h⟩ => by
            rcases (nx i).mp h with h | ⟨_, h⟩
            · exact ⟨i, h⟩
            · exact absurd h cm⟩
        · rw [I4]
          exact ⟨fun ⟨i, h, h2⟩ => ⟨i, (nx i).mpr (Or.inl h), h2⟩, fun ⟨i, h, h2⟩ => by
            rcases (nx i).mp h with h | ⟨_, h⟩
            · exact ⟨i, h, h2⟩
            · exact absurd h cm⟩
theorem c_ak54 (L : LBk hc a) (W : SpW hc p s w) (K : PkC hc p n tm sz mk fo) (d : hI hc p 10 = 0) (Sc : SnC hc a N lo hi) (e10 : hI hc a 10 = (N : Int)) (Sb : SnB N n lo hi) (KK : ∀ v6 v7, akI lo hi mk n N 0 v6 v7 → wp (f_cBook_acknowledge_b54 (fun _ _ _ _ _ _ _ _ _ _ => none) a (s : Int) dl p (top : Int) tn v6 v7 (N : Int) hc) R) (F : Nat) : ∀ (r : Nat) (v6 v7 : Int), r ≤ N → N - r < F → akI lo hi mk n r 0 v6 v7 → wp (f_cBook_acknowledge_b54_lp F a (s : Int) dl p (top : Int) tn v6 v7 (r : Int) hc) R := by
  induction F with
  | zero => intro r v6 v7 _ hf; lia
  | succ F ih =>
    intro r v6 v7 hr hf I
    show wp (f_cBook_acknowledge_b54 (f_cBook_acknowledge_b54_lp F) a (s : Int) dl p (top : Int) tn v6 v7 (r : Int) hc) R
    by_cases c : (N : Int) ≤ r
    · have e : r = N := by lia
      subst e
      have t := KK v6 v7 I
      unfold f_cBook_acknowledge_b54 at t ⊢
      rw [e10, if_pos c] at t ⊢
      exact t
    · have hrN : r < N := by lia
      unfold f_cBook_acknowledge_b54
      have a0 := L.1
      have z4 : ¬ (a + 4 = 0) := by lia
      have p0 : ¬ (p = 0) := wne (w := w) (by rw [W.1, W.2.2.2.2.2.2.2.2.2.2.2]; lia)
      have x1 : ix (r : Int) 64 := ⟨by lia, by have := Sb.1; lia⟩
      have b := Sb.2.2 r hrN
      have D := Sb.2.1.1 r hrN
      have nb := K.2.2.1
      have fon := K.2.2.2.1.1
      rw [e10, if_neg c, L.r0_8, if_neg z4, L.l4, if_pos x1, if_neg p0, lt1_eq, Int.toNat_natCast, (Sc r hrN).1, K.2.1]
      obtain ⟨k0, hk0⟩ : ∃ k0 : Nat, max (lo r) (fo : Int) = (k0 : Int) := ⟨(max (lo r) (fo : Int)).toNat, by lia⟩
      rw [hk0, w32_id ⟨by lia, by lia⟩]
      obtain ⟨I1, I2, I3, I4⟩ := I
      -- below the first that is out nothing is new
      have eqv : ∀ i, nwU lo hi mk n r k0 i ↔ nwU lo hi mk n r 0 i := fun i => by
        unfold nwU
        constructor
        · rintro ⟨h1, h2, h3 | ⟨h3, h4⟩⟩
          · exact ⟨h1, h2, Or.inl h3⟩
          · exfalso
            by_cases q : i < fo
            · exact K.2.2.2.1.2.1 i q h2
            · unfold inR at h3; lia
        · rintro ⟨h1, h2, h3 | ⟨h3, h4⟩⟩
          · exact ⟨h1, h2, Or.inl h3⟩
          · exact absurd h4 (Nat.not_lt_zero i)
      obtain ⟨F', hF', F9⟩ := fu_ex
      rw [← hF']
      refine c_ak81 L W K d Sc Sb hrN (f_cBook_acknowledge_b54_lp F) (fun v6' v7' k' hk' hkn' I' => ?_) F' k0 v6 v7 (by lia) (by lia) (by lia) ⟨by lia, I2, ?_, ?_⟩
      · obtain ⟨J1, J2, J3, J4⟩ := I'
        have eqn : ∀ i, nwU lo hi mk n r k' i ↔ nwU lo hi mk n (r + 1) 0 i := fun i => by
          unfold nwU
          constructor
          · rintro ⟨h1, h2, ⟨r', h3, h4⟩ | ⟨h3, h4⟩⟩
            · exact ⟨h1, h2, Or.inl ⟨r', by lia, h4⟩⟩
            · exact ⟨h1, h2, Or.inl ⟨r, by lia, h3⟩⟩
          · rintro ⟨h1, h2, ⟨r', h3, h4⟩ | ⟨h3, h4⟩⟩
            · by_cases e : r' = r
              · rw [e] at h4; exact ⟨h1, h2, Or.inr ⟨h4, by unfold inR at h4; lia⟩⟩
              · exact ⟨h1, h2, Or.inl ⟨r', by lia, h4⟩⟩
            · exact absurd h4 (Nat.not_lt_zero i)
        refine ih (r + 1) v6' v7' (by lia) (by lia) ⟨by lia, J2, ?_, ?_⟩
        · rw [J3]; exact ⟨fun ⟨i, h⟩ => ⟨i, (eqn i).mp h⟩, fun ⟨i, h⟩ => ⟨i, (eqn i).mpr h⟩⟩
        · rw [J4]; exact ⟨fun ⟨i, h, h2⟩ => ⟨i, (eqn i).mp h, h2⟩, fun ⟨i, h, h2⟩ => ⟨i, (eqn i).mpr h, h2⟩⟩
      · rw [I3]; exact ⟨fun ⟨i, h⟩ => ⟨i, (eqv i).mpr h⟩, fun ⟨i, h⟩ => ⟨i, (eqv i).mp h⟩⟩
      · rw [I4]; exact ⟨fun ⟨i, h, h2⟩ => ⟨i, (eqv i).mpr h, h2⟩, fun ⟨i, h, h2⟩ => ⟨i, (eqv i).mp h, h2⟩⟩
theorem akI_new {v6 v7 : Int} (I : akI lo hi mk n N 0 v6 v7) : (v7 ≠ 0 ↔ ∃ i, newP lo hi mk N n i) ∧ (v6 = 1 ↔ ∃ i, newP lo hi mk N n i ∧ mk i / 4 % 2 = 1) := by
  have e : ∀ i, nwU lo hi mk n N 0 i ↔ newP lo hi mk N n i := fun i => by
    unfold nwU newP
    constructor
    · rintro ⟨h1, h2, h3 | ⟨h3, h4⟩⟩
      · exact ⟨h1, h2, h3⟩
      · exact absurd h4 (Nat.not_lt_zero i)
    · rintro ⟨h1, h2, h3⟩; exact ⟨h1, h2, Or.inl h3⟩
  obtain ⟨_, _, I3, I4⟩ := I
  exact ⟨by rw [I3]; exact ⟨fun ⟨i, h⟩ => ⟨i, (e i).mp h⟩, fun ⟨i, h⟩ => ⟨i, (e i).mpr h⟩⟩, by rw [I4]; exact ⟨fun ⟨i, h, h2⟩ => ⟨i, (e i).mp h, h2⟩, fun ⟨i, h, h2⟩ => ⟨i, (e i).mpr h, h2⟩⟩⟩
end
