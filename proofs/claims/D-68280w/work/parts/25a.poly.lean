/-! Poly: limbs of 26 bits -/
def PP : Int := 1361129467683753853853498429727072845819
def val (S : Nat → Int) : Int := S 0 + S 1 * 67108864 + S 2 * 4503599627370496 + S 3 * 302231454903657293676544 + S 4 * 20282409603651670423947251286016
def SPL (u v : Int) (i : Nat) : Int := if i = 0 then u % 67108864 else if i = 1 then u / 67108864 % 67108864 else if i = 2 then u / 4503599627370496 + v % 16384 * 4096 else if i = 3 then v / 16384 % 67108864 else v / 1099511627776
theorem val_SPL {u v : Int} (hu : 0 ≤ u ∧ u < 18446744073709551616) (hv : 0 ≤ v ∧ v < 18446744073709551616) : val (SPL u v) = u + v * 18446744073709551616 := by
  show u % 67108864 + u / 67108864 % 67108864 * 67108864 + (u / 4503599627370496 + v % 16384 * 4096) * 4503599627370496 + v / 16384 % 67108864 * 302231454903657293676544 + v / 1099511627776 * 20282409603651670423947251286016 = _
  omega
def lb (S : Nat → Int) (B : Int) : Prop := ∀ i, i < 5 → 0 ≤ S i ∧ S i < B
theorem SPL_lb {u v : Int} (hu : 0 ≤ u ∧ u < 18446744073709551616) (hv : 0 ≤ v ∧ v < 18446744073709551616) : lb (SPL u v) 67108864 := by
  intro i hi
  unfold SPL
  rcases (by omega : i = 0 ∨ i = 1 ∨ i = 2 ∨ i = 3 ∨ i = 4) with e | e | e | e | e <;> subst e <;> simp <;> omega
/-- carries go up, what is above comes round -/
def CR (S : Nat → Int) (i : Nat) : Int :=
  let t1 := S 1 + S 0 / 67108864
  let t2 := S 2 + t1 / 67108864
  let t3 := S 3 + t2 / 67108864
  let t4 := S 4 + t3 / 67108864
  if i = 0 then S 0 % 67108864 + 5 * (t4 / 67108864) else if i = 1 then t1 % 67108864 else if i = 2 then t2 % 67108864 else if i = 3 then t3 % 67108864 else t4 % 67108864
def CRq (S : Nat → Int) : Int := (S 4 + (S 3 + (S 2 + (S 1 + S 0 / 67108864) / 67108864) / 67108864) / 67108864) / 67108864
theorem val_CR (S : Nat → Int) : val S = val (CR S) + PP * CRq S := by
  show val S = (S 0 % 67108864 + 5 * CRq S) + ((S 1 + S 0 / 67108864) % 67108864) * 67108864 + ((S 2 + (S 1 + S 0 / 67108864) / 67108864) % 67108864) * 4503599627370496 + ((S 3 + (S 2 + (S 1 + S 0 / 67108864) / 67108864) / 67108864) % 67108864) * 302231454903657293676544 + ((S 4 + (S 3 + (S 2 + (S 1 + S 0 / 67108864) / 67108864) / 67108864) / 67108864) % 67108864) * 20282409603651670423947251286016 + PP * CRq S
  unfold CRq val PP
  generalize S 0 = a
  generalize S 1 = b
  generalize S 2 = c
  generalize S 3 = d
  generalize S 4 = e
  omega
theorem CR_lb {S : Nat → Int} {B : Int} (h : lb S B) (hB : B ≤ 2305843009213693952) : (0 ≤ CR S 0 ∧ CR S 0 < 67108864 + 5 * (B / 33554432 + 2)) ∧ ∀ i, 0 < i → i < 5 → 0 ≤ CR S i ∧ CR S i < 67108864 := by
  have h0 := h 0 (by omega)
  have h1 := h 1 (by omega)
  have h2 := h 2 (by omega)
  have h3 := h 3 (by omega)
  have h4 := h 4 (by omega)
  constructor
  · show 0 ≤ S 0 % 67108864 + 5 * ((S 4 + (S 3 + (S 2 + (S 1 + S 0 / 67108864) / 67108864) / 67108864) / 67108864) / 67108864) ∧ S 0 % 67108864 + 5 * ((S 4 + (S 3 + (S 2 + (S 1 + S 0 / 67108864) / 67108864) / 67108864) / 67108864) / 67108864) < _
    generalize S 0 = a at *
    generalize S 1 = b at *
    generalize S 2 = c at *
    generalize S 3 = d at *
    generalize S 4 = e at *
    omega
  · intro i hi0 hi
    unfold CR
    rcases (by omega : i = 1 ∨ i = 2 ∨ i = 3 ∨ i = 4) with e | e | e | e <;> subst e <;> simp <;> omega
/-- two carries bring all near -/
def near (S : Nat → Int) : Prop := (0 ≤ S 0 ∧ S 0 < 67108869) ∧ ∀ i, 0 < i → i < 5 → 0 ≤ S i ∧ S i < 67108864
theorem CR2 {S : Nat → Int} (h : lb S 2305843009213693952) : near (CR (CR S)) := by
  obtain ⟨⟨a0, a1⟩, b⟩ := CR_lb h (by decide)
  generalize CR S = T at *
  have b1 := b 1 (by omega) (by omega)
  have b2 := b 2 (by omega) (by omega)
  have b3 := b 3 (by omega) (by omega)
  have b4 := b 4 (by omega) (by omega)
  clear b h
  constructor
  · show 0 ≤ T 0 % 67108864 + 5 * ((T 4 + (T 3 + (T 2 + (T 1 + T 0 / 67108864) / 67108864) / 67108864) / 67108864) / 67108864) ∧ T 0 % 67108864 + 5 * ((T 4 + (T 3 + (T 2 + (T 1 + T 0 / 67108864) / 67108864) / 67108864) / 67108864) / 67108864) < _
    generalize T 0 = a at *
    generalize T 1 = b at *
    generalize T 2 = c at *
    generalize T 3 = d at *
    generalize T 4 = e at *
    omega
  · intro i hi0 hi
    unfold CR
    rcases (by omega : i = 1 ∨ i = 2 ∨ i = 3 ∨ i = 4) with e | e | e | e <;> subst e <;> simp <;> omega
/-- in a near number two more carries make all limbs small -/
theorem CR4 {S : Nat → Int} (h : near S) : lb (CR (CR S)) 67108864 := by
  obtain ⟨⟨a0, a1⟩, b⟩ := h
  have b1 := b 1 (by omega) (by omega)
  have b2 := b 2 (by omega) (by omega)
  have b3 := b 3 (by omega) (by omega)
  have b4 := b 4 (by omega) (by omega)
  clear b
  have key : ∀ a b c d e : Int, 0 ≤ a → a < 67108869 → 0 ≤ b → b < 67108864 → 0 ≤ c → c < 67108864 → 0 ≤ d → d < 67108864 → 0 ≤ e → e < 67108864 → ∀ T : Nat → Int, T 0 = a % 67108864 + 5 * ((e + (d + (c + (b + a / 67108864) / 67108864) / 67108864) / 67108864) / 67108864) → T 1 = (b + a / 67108864) % 67108864 → T 2 = (c + (b + a / 67108864) / 67108864) % 67108864 → T 3 = (d + (c + (b + a / 67108864) / 67108864) / 67108864) % 67108864 → T 4 = (e + (d + (c + (b + a / 67108864) / 67108864) / 67108864) / 67108864) % 67108864 → lb (CR T) 67108864 := by
    intro a b c d e h1 h2 h3 h4 h5 h6 h7 h8 h9 h10 T t0 t1 t2 t3 t4
    have q0 : T 0 < 67108864 ∧ 0 ≤ T 0 := by rw [t0]; omega
    have r1 : 0 ≤ T 1 ∧ T 1 < 67108864 := by rw [t1]; omega
    have r2 : 0 ≤ T 2 ∧ T 2 < 67108864 := by rw [t2]; omega
    have r3 : 0 ≤ T 3 ∧ T 3 < 67108864 := by rw [t3]; omega
    have r4 : 0 ≤ T 4 ∧ T 4 < 67108864 := by rw [t4]; omega
    clear t0 t1 t2 t3 t4
    intro i hi
    unfold CR
    rcases (by omega : i = 0 ∨ i = 1 ∨ i = 2 ∨ i = 3 ∨ i = 4) with z | z | z | z | z <;> subst z <;> simp <;> omega
  exact key (S 0) (S 1) (S 2) (S 3) (S 4) a0 a1 b1.1 b1.2 b2.1 b2.2 b3.1 b3.2 b4.1 b4.2 (CR S) rfl rfl rfl rfl rfl
