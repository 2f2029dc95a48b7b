/-! streams: the streams of one side as plain rows -/
/-- numbers; per stream numbers, marks of written bytes (0 new, 1 out, 2 lost, 3 here), where these lie, what came, its bytes; what is written.
numbers: 1 limit of all data, 2 told as blocking, 3 sent, 4 received, 5 consumed, 6 granted, 7 last stream, 8 tells, 9 written; 10 + 10 way: opened, there, granted, limit, refused, told, tells; 30 .. 35 grants; 41 .. 43 limits; 50 how often was written.
of a stream: 0 there, 1 state, 2 written, 3 sent, 4 end, 5 limit, 6 code, 7 told, 8 resets; 10 state, 11 read, 12 ready, 13 highest, 14 size, 15 grant, 16 code, 17 stop code, 18 tells, 19 stops, 20 stopped -/
abbrev HSt : Type := (Nat → Int) × (Nat → Nat → Int) × (Nat → Nat → Int) × (Nat → Nat → Nat) × (Nat → Nat → Prop) × (Nat → Nat → Int) × (Nat → Int)
def zQ (x : HSt) (k : Nat) : Int := x.1 k
def zP (x : HSt) (f i : Nat) : Int := x.2.1 f i
def zM (x : HSt) (i : Nat) : Nat → Int := x.2.2.1 i
def zE (x : HSt) (i : Nat) : Nat → Nat := x.2.2.2.1 i
def zH (x : HSt) (i : Nat) : Nat → Prop := x.2.2.2.2.1 i
def zW (x : HSt) (i : Nat) : Nat → Int := x.2.2.2.2.2.1 i
def zB (x : HSt) : Nat → Int := x.2.2.2.2.2.2
def uQ (x : HSt) (k : Nat) (v : Int) : HSt := (up1 x.1 k v, x.2)
def uP (x : HSt) (f i : Nat) (v : Int) : HSt := (x.1, up2 x.2.1 f i v, x.2.2)
def uM (x : HSt) (i : Nat) (m : Nat → Int) : HSt := (x.1, x.2.1, (fun k => if k = i then m else x.2.2.1 k), x.2.2.2)
def uS (x : HSt) (i : Nat) (e : Nat → Nat) (b : Nat → Int) : HSt := (x.1, x.2.1, x.2.2.1, (fun k => if k = i then e else x.2.2.2.1 k), x.2.2.2.2.1, x.2.2.2.2.2.1, b)
def uC (x : HSt) (i : Nat) (H : Nat → Prop) (W : Nat → Int) : HSt := (x.1, x.2.1, x.2.2.1, x.2.2.2.1, (fun k => if k = i then H else x.2.2.2.2.1 k), (fun k => if k = i then W else x.2.2.2.2.2.1 k), x.2.2.2.2.2.2)
section
variable {x : HSt} {k j f g i : Nat} {v u' : Int} {m b W : Nat → Int} {e : Nat → Nat} {H : Nat → Prop}
theorem zQ_uQ : zQ (uQ x k v) j = if j = k then v else zQ x j := rfl
theorem zQ_uP : zQ (uP x f i v) = zQ x := rfl
theorem zQ_uM : zQ (uM x i m) = zQ x := rfl
theorem zQ_uS : zQ (uS x i e b) = zQ x := rfl
theorem zQ_uC : zQ (uC x i H W) = zQ x := rfl
theorem zP_uQ : zP (uQ x k v) = zP x := rfl
theorem zP_uP : zP (uP x f i v) g j = if g = f ∧ j = i then v else zP x g j := rfl
theorem zP_uPn (h : g ≠ f) : zP (uP x f i v) g = zP x g := funext fun j => if_neg (fun z => h z.1)
theorem zP_uM : zP (uM x i m) = zP x := rfl
theorem zP_uS : zP (uS x i e b) = zP x := rfl
theorem zP_uC : zP (uC x i H W) = zP x := rfl
theorem zM_uQ : zM (uQ x k v) = zM x := rfl
theorem zM_uP : zM (uP x f i v) = zM x := rfl
theorem zM_uM : zM (uM x i m) j = if j = i then m else zM x j := rfl
theorem zM_uS : zM (uS x i e b) = zM x := rfl
theorem zM_uC : zM (uC x i H W) = zM x := rfl
theorem zE_uQ : zE (uQ x k v) = zE x := rfl
theorem zE_uP : zE (uP x f i v) = zE x := rfl
theorem zE_uM : zE (uM x i m) = zE x := rfl
theorem zE_uS : zE (uS x i e b) j = if j = i then e else zE x j := rfl
theorem zE_uC : zE (uC x i H W) = zE x := rfl
theorem zH_uQ : zH (uQ x k v) = zH x := rfl
theorem zH_uP : zH (uP x f i v) = zH x := rfl
theorem zH_uM : zH (uM x i m) = zH x := rfl
theorem zH_uS : zH (uS x i e b) = zH x := rfl
theorem zH_uC : zH (uC x i H W) j = if j = i then H else zH x j := rfl
theorem zW_uQ : zW (uQ x k v) = zW x := rfl
theorem zW_uP : zW (uP x f i v) = zW x := rfl
theorem zW_uM : zW (uM x i m) = zW x := rfl
theorem zW_uS : zW (uS x i e b) = zW x := rfl
theorem zW_uC : zW (uC x i H W) j = if j = i then W else zW x j := rfl
theorem zB_uQ : zB (uQ x k v) = zB x := rfl
theorem zB_uP : zB (uP x f i v) = zB x := rfl
theorem zB_uM : zB (uM x i m) = zB x := rfl
theorem zB_uS : zB (uS x i e b) = b := rfl
theorem zB_uC : zB (uC x i H W) = zB x := rfl
theorem zQ_uQe : zQ (uQ x k v) k = v := if_pos rfl
theorem zQ_uQn (h : j ≠ k) : zQ (uQ x k v) j = zQ x j := if_neg h
theorem zP_uPe : zP (uP x f i v) f i = v := if_pos ⟨rfl, rfl⟩
theorem zP_uPj (h : j ≠ i) : zP (uP x f i v) g j = zP x g j := if_neg (fun z => h z.2)
theorem zM_uMe : zM (uM x i m) i = m := if_pos rfl
theorem zM_uMn (h : j ≠ i) : zM (uM x i m) j = zM x j := if_neg h
theorem zE_uSe : zE (uS x i e b) i = e := if_pos rfl
theorem zE_uSn (h : j ≠ i) : zE (uS x i e b) j = zE x j := if_neg h
theorem zH_uCe : zH (uC x i H W) i = H := if_pos rfl
theorem zH_uCn (h : j ≠ i) : zH (uC x i H W) j = zH x j := if_neg h
theorem zW_uCe : zW (uC x i H W) i = W := if_pos rfl
theorem zW_uCn (h : j ≠ i) : zW (uC x i H W) j = zW x j := if_neg h
theorem uP_cm {l : Nat} {u : Int} (h : f ≠ g ∨ i ≠ l) : uP (uP x f i v) g l u = uP (uP x g l u) f i v := by
  have : up2 (up2 x.2.1 f i v) g l u = up2 (up2 x.2.1 g l u) f i v := funext fun p => funext fun q => by
    show (if p = g ∧ q = l then u else if p = f ∧ q = i then v else x.2.1 p q) = if p = f ∧ q = i then v else if p = g ∧ q = l then u else x.2.1 p q
    by_cases c : p = g ∧ q = l
    · rw [if_pos c, if_neg (by omega), if_pos c]
    · rw [if_neg c, if_neg c]
  show (x.1, up2 (up2 x.2.1 f i v) g l u, x.2.2) = (x.1, up2 (up2 x.2.1 g l u) f i v, x.2.2)
  rw [this]
theorem uP_uQ : uP (uQ x k v) f i u' = uQ (uP x f i u') k v := rfl
end
/-! sums over streams -/
def sm (f : Nat → Int) : Nat → Int
  | 0 => 0
  | n + 1 => sm f n + f n
section
variable {f g : Nat → Int} {n k : Nat} {c : Int}
theorem sm_cg (e : ∀ i, i < n → f i = g i) : sm f n = sm g n := by
  induction n with
  | zero => rfl
  | succ n ih => show sm f n + f n = sm g n + g n; rw [ih (fun i hi => e i (by omega)), e n (by omega)]
theorem sm_up (hk : k < n) (e : ∀ i, i < n → i ≠ k → g i = f i) : sm g n = sm f n + (g k - f k) := by
  induction n with
  | zero => omega
  | succ n ih =>
    show sm g n + g n = sm f n + f n + _
    by_cases q : k = n
    · rw [q, sm_cg (f := g) (g := f) (fun i hi => e i (by omega) (by omega))]; omega
    · rw [ih (by omega) (fun i hi => e i (by omega)), e n (by omega) (fun z => q z.symm)]; omega
theorem sm_le (e : ∀ i, i < n → f i ≤ g i) : sm f n ≤ sm g n := by
  induction n with
  | zero => exact Int.le_refl _
  | succ n ih =>
    have := ih (fun i hi => e i (by omega))
    have := e n (by omega)
    show sm f n + f n ≤ sm g n + g n; omega
theorem sm_c : sm (fun _ => c) n = n * c := by
  induction n with
  | zero => show (0 : Int) = ((0 : Nat) : Int) * c; rw [show ((0 : Nat) : Int) = 0 from rfl, Int.zero_mul]
  | succ n ih => show sm (fun _ => c) n + c = ((n + 1 : Nat) : Int) * c; rw [ih, Int.natCast_add, Int.add_mul]; omega
theorem sm_add : sm (fun i => f i + g i) n = sm f n + sm g n := by
  induction n with
  | zero => rfl
  | succ n ih => show sm (fun i => f i + g i) n + (f n + g n) = sm f n + f n + (sm g n + g n); rw [ih]; omega
theorem sm_mul : sm (fun i => c * f i) n = c * sm f n := by
  induction n with
  | zero => show (0 : Int) = c * 0; omega
  | succ n ih => show sm (fun i => c * f i) n + c * f n = c * (sm f n + f n); rw [ih, Int.mul_add]
theorem sm_0 (e : ∀ i, i < n → 0 ≤ f i) : 0 ≤ sm f n := by
  have := sm_le (f := fun _ => 0) (g := f) (n := n) e
  rw [sm_c] at this; omega
theorem sm_mem (e : ∀ i, i < n → 0 ≤ f i) (hk : k < n) : f k ≤ sm f n := by
  have h1 := sm_up (f := fun i => if i = k then 0 else f i) (g := f) hk (fun i _ hi => by show f i = if i = k then 0 else f i; rw [if_neg hi])
  have h2 := sm_0 (f := fun i => if i = k then 0 else f i) (n := n) (fun i hi => by show 0 ≤ if i = k then 0 else f i; split; omega; exact e i hi)
  rw [h1]; show f k ≤ _ + (f k - if k = k then 0 else f k); rw [if_pos rfl]; omega
end
/-! the first of n that is so; n without one -/
noncomputable def fst1 (c : Nat → Prop) : Nat → Nat
  | 0 => 0
  | n + 1 => if fst1 c n < n then fst1 c n else @ite _ (c n) (Classical.propDecidable _) n (n + 1)
section
variable {c d : Nat → Prop} {n i j : Nat}
theorem fst1_w : fst1 c n ≤ n ∧ (∀ j, j < fst1 c n → ¬ c j) ∧ (fst1 c n < n → c (fst1 c n)) := by
  induction n with
  | zero => exact ⟨Nat.le_refl _, (fun j hj => by cases hj), (fun h => by cases h)⟩
  | succ n ih =>
    show (if fst1 c n < n then fst1 c n else @ite _ (c n) (Classical.propDecidable _) n (n + 1)) ≤ n + 1 ∧ (∀ j, j < (if fst1 c n < n then fst1 c n else @ite _ (c n) (Classical.propDecidable _) n (n + 1)) → ¬ c j) ∧ ((if fst1 c n < n then fst1 c n else @ite _ (c n) (Classical.propDecidable _) n (n + 1)) < n + 1 → c (if fst1 c n < n then fst1 c n else @ite _ (c n) (Classical.propDecidable _) n (n + 1)))
    by_cases q : fst1 c n < n
    · rw [if_pos q]; exact ⟨by omega, ih.2.1, fun _ => ih.2.2 q⟩
    · have e : fst1 c n = n := by omega
      rw [if_neg q]
      rw [e] at ih
      by_cases r : c n
      · rw [if_pos r]; exact ⟨by omega, ih.2.1, fun _ => r⟩
      · rw [if_neg r]
        refine ⟨Nat.le_refl _, fun j hj => ?_, fun z => by omega⟩
        by_cases e2 : j = n
        · rw [e2]; exact r
        · exact ih.2.1 j (by omega)
theorem fst1_eq (h : i < n) (ci : c i) (e : ∀ j, j < i → ¬ c j) : fst1 c n = i := by
  have w := fst1_w (c := c) (n := n)
  by_cases q : fst1 c n < i
  · exact absurd (w.2.2 (by omega)) (e _ q)
  · by_cases r : i < fst1 c n
    · exact absurd ci (w.2.1 i r)
    · omega
theorem fst1_no (e : ∀ j, j < n → ¬ c j) : fst1 c n = n := by
  have w := fst1_w (c := c) (n := n)
  by_cases q : fst1 c n < n
  · exact absurd (w.2.2 q) (e _ q)
  · omega
theorem fst1_cg (e : ∀ j, j < n → (c j ↔ d j)) : fst1 c n = fst1 d n := by
  have w := fst1_w (c := d) (n := n)
  by_cases q : fst1 d n < n
  · exact fst1_eq q ((e _ q).2 (w.2.2 q)) (fun j hj z => w.2.1 j hj ((e j (by omega)).1 z))
  · rw [show fst1 d n = n by omega]
    exact fst1_no (fun j hj z => w.2.1 j (by omega) ((e j hj).1 z))
end
/-- the first place that is not there -/
noncomputable def zRdy (H : Nat → Prop) : Nat := @dite _ (∃ r, (∀ q, q < r → H q) ∧ ¬ H r) (Classical.propDecidable _) Classical.choose (fun _ => 0)
theorem zRdy_eq {H : Nat → Prop} {r : Nat} (h1 : ∀ q, q < r → H q) (h2 : ¬ H r) : zRdy H = r := by
  have ex : ∃ r, (∀ q, q < r → H q) ∧ ¬ H r := ⟨r, h1, h2⟩
  unfold zRdy
  rw [dif_pos ex]
  have w := Classical.choose_spec ex
  by_cases q : Classical.choose ex < r
  · exact absurd (h1 _ q) w.2
  · by_cases s : r < Classical.choose ex
    · exact absurd (w.1 _ s) h2
    · omega
