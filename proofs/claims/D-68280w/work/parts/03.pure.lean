/-! THE PURE LAYER: an abstract heap and the arithmetic of ints and longs over Int -/
/-- next address and slots used; kind and length of a cell; int slots; long slots; reference slots (0: null) -/
abbrev Hp : Type := (Nat × Nat) × (Nat → Nat × Nat) × (Nat → Nat → Int) × (Nat → Nat → Int) × (Nat → Nat → Nat)
def hN (h : Hp) : Nat := h.1.1
def hZ (h : Hp) : Nat := h.1.2
def kd (h : Hp) (a : Nat) : Nat := (h.2.1 a).1
def ln (h : Hp) (a : Nat) : Nat := (h.2.1 a).2
def hI (h : Hp) (a k : Nat) : Int := h.2.2.1 a k
def hJ (h : Hp) (a k : Nat) : Int := h.2.2.2.1 a k
def hR (h : Hp) (a k : Nat) : Nat := h.2.2.2.2 a k
def up2 {α : Type} (f : Nat → Nat → α) (a k : Nat) (v : α) : Nat → Nat → α := fun x y => if x = a ∧ y = k then v else f x y
def sI (h : Hp) (a k : Nat) (v : Int) : Hp := (h.1, h.2.1, up2 h.2.2.1 a k v, h.2.2.2.1, h.2.2.2.2)
def sJ (h : Hp) (a k : Nat) (v : Int) : Hp := (h.1, h.2.1, h.2.2.1, up2 h.2.2.2.1 a k v, h.2.2.2.2)
def sR (h : Hp) (a k : Nat) (v : Nat) : Hp := (h.1, h.2.1, h.2.2.1, h.2.2.2.1, up2 h.2.2.2.2 a k v)
def zro {α : Type} (f : Nat → Nat → α) (a : Nat) (z : α) : Nat → Nat → α := fun x y => if x = a then z else f x y
/-- a new cell of a kind, with so many slots, of a length -/
def nwC (h : Hp) (k len z : Nat) : Hp := ((hN h + 1, hZ h + z), (fun x => if x = hN h then (k, len) else h.2.1 x), zro h.2.2.1 (hN h) 0, zro h.2.2.2.1 (hN h) 0, zro h.2.2.2.2 (hN h) 0)
def cpy {α : Type} (f : Nat → Nat → α) (src sp dst dp n : Nat) : Nat → Nat → α := fun x y => if x = dst ∧ dp ≤ y ∧ y < dp + n then f src (sp + (y - dp)) else f x y
def cpI (h : Hp) (src sp dst dp n : Nat) : Hp := (h.1, h.2.1, cpy h.2.2.1 src sp dst dp n, h.2.2.2.1, h.2.2.2.2)
def cpJ (h : Hp) (src sp dst dp n : Nat) : Hp := (h.1, h.2.1, h.2.2.1, cpy h.2.2.2.1 src sp dst dp n, h.2.2.2.2)
/-- the room of the claim -/
def CN : Nat := 600128 + 64
def CZ : Nat := 7301098
def lt1 {α β : Type} (e : α) (f : α → β) : β := f e
def b1 {α β : Type} (x : Option α) (f : α → Option β) : Option β := match x with
  | some a => f a
  | none => none
def b2 {α β : Type} (x : Option (α × Hp)) (f : α → Hp → Option β) : Option β := match x with
  | some a => f a.1 a.2
  | none => none
/-- the fuel of every loop -/
def FU : Nat := 1000000000
abbrev c32 (x : Int) : Prop := -2147483648 ≤ x ∧ x < 2147483648
abbrev c64 (x : Int) : Prop := -9223372036854775808 ≤ x ∧ x < 9223372036854775808
def w32 (x : Int) : Int := (x + 2147483648) % 4294967296 - 2147483648
def w64 (x : Int) : Int := (x + 9223372036854775808) % 18446744073709551616 - 9223372036854775808
def iAnd (x y : Int) : Int := (Int32.ofInt x &&& Int32.ofInt y).toInt
def iOr (x y : Int) : Int := (Int32.ofInt x ||| Int32.ofInt y).toInt
def iXor (x y : Int) : Int := (Int32.ofInt x ^^^ Int32.ofInt y).toInt
def iDiv (x y : Int) : Int := (Int32.ofInt x / Int32.ofInt y).toInt
def iRem (x y : Int) : Int := (Int32.ofInt x - Int32.ofInt x / Int32.ofInt y * Int32.ofInt y).toInt
def iShl (x y : Int) : Int := (Int32.ofInt x <<< (Int32.ofInt y &&& 31)).toInt
def iShr (x y : Int) : Int := (Int32.ofInt x >>> (Int32.ofInt y &&& 31)).toInt
def iUshr (x y : Int) : Int := ((Int32.ofInt x).toUInt32 >>> ((Int32.ofInt y).toUInt32 &&& Int32.toUInt32 31)).toInt32.toInt
def lAnd (x y : Int) : Int := (Int64.ofInt x &&& Int64.ofInt y).toInt
def lOr (x y : Int) : Int := (Int64.ofInt x ||| Int64.ofInt y).toInt
def lXor (x y : Int) : Int := (Int64.ofInt x ^^^ Int64.ofInt y).toInt
def lDiv (x y : Int) : Int := (Int64.ofInt x / Int64.ofInt y).toInt
def lRem (x y : Int) : Int := (Int64.ofInt x - Int64.ofInt x / Int64.ofInt y * Int64.ofInt y).toInt
def lShl (x y : Int) : Int := (Int64.ofInt x <<< ((Int32.ofInt y).toInt64 &&& 63)).toInt
def lShr (x y : Int) : Int := (Int64.ofInt x >>> ((Int32.ofInt y).toInt64 &&& 63)).toInt
def lUshr (x y : Int) : Int := ((Int64.ofInt x).toUInt64 >>> ((Int32.ofInt y).toInt64.toUInt64 &&& Int64.toUInt64 63)).toInt64.toInt
def lCmp (x y : Int) : Int := if y < x then 1 else if x = y then 0 else -1
def i8 (x : Int) : Int := (x + 128) % 256 - 128
def i16 (x : Int) : Int := (x + 32768) % 65536 - 32768
def i1 (x : Int) : Int := x % 2
/-- an index is in an array's length -/
abbrev ix (i : Int) (n : Nat) : Prop := 0 ≤ i ∧ i < n
theorem w32_bmod (x : Int) : w32 x = x.bmod 4294967296 := by
  unfold w32 Int.bmod
  simp only [show ((4294967296 : Nat) : Int) = 4294967296 from rfl]
  split <;> omega
theorem w64_bmod (x : Int) : w64 x = x.bmod 18446744073709551616 := by
  unfold w64 Int.bmod
  simp only [show ((18446744073709551616 : Nat) : Int) = 18446744073709551616 from rfl]
  split <;> omega
theorem w32_id {x : Int} (h : c32 x) : w32 x = x := by unfold w32; unfold c32 at h; omega
theorem w64_id {x : Int} (h : c64 x) : w64 x = x := by unfold w64; unfold c64 at h; omega
theorem c32_w (x : Int) : c32 (w32 x) := by unfold w32 c32; omega
theorem c64_w (x : Int) : c64 (w64 x) := by unfold w64 c64; omega
theorem of32_toInt (x : Int) : (Int32.ofInt x).toInt = w32 x := by rw [Int32.toInt_ofInt, w32_bmod]
theorem of64_toInt (x : Int) : (Int64.ofInt x).toInt = w64 x := by rw [Int64.toInt_ofInt, w64_bmod]
theorem of32_id {x : Int} (h : c32 x) : (Int32.ofInt x).toInt = x := by rw [of32_toInt, w32_id h]
theorem of64_id {x : Int} (h : c64 x) : (Int64.ofInt x).toInt = x := by rw [of64_toInt, w64_id h]
theorem of32_w (x : Int) : Int32.ofInt (w32 x) = Int32.ofInt x := Int32.toInt_inj.mp (by rw [of32_toInt, of32_toInt, w32_id (c32_w x)])
theorem of64_w (x : Int) : Int64.ofInt (w64 x) = Int64.ofInt x := Int64.toInt_inj.mp (by rw [of64_toInt, of64_toInt, w64_id (c64_w x)])
theorem c32_toInt (x : Int32) : c32 x.toInt := ⟨Int32.le_toInt x, Int32.toInt_lt x⟩
theorem c64_toInt (x : Int64) : c64 x.toInt := ⟨Int64.le_toInt x, Int64.toInt_lt x⟩
theorem of32_lt {x y : Int} (hx : c32 x) (hy : c32 y) : Int32.ofInt x < Int32.ofInt y ↔ x < y := by rw [Int32.lt_iff_toInt_lt, of32_id hx, of32_id hy]
theorem of32_le {x y : Int} (hx : c32 x) (hy : c32 y) : Int32.ofInt x ≤ Int32.ofInt y ↔ x ≤ y := by rw [Int32.le_iff_toInt_le, of32_id hx, of32_id hy]
theorem of32_eq {x y : Int} (hx : c32 x) (hy : c32 y) : Int32.ofInt x = Int32.ofInt y ↔ x = y := by rw [← Int32.toInt_inj, of32_id hx, of32_id hy]
theorem of64_lt {x y : Int} (hx : c64 x) (hy : c64 y) : Int64.ofInt x < Int64.ofInt y ↔ x < y := by rw [Int64.lt_iff_toInt_lt, of64_id hx, of64_id hy]
theorem of64_eq {x y : Int} (hx : c64 x) (hy : c64 y) : Int64.ofInt x = Int64.ofInt y ↔ x = y := by rw [← Int64.toInt_inj, of64_id hx, of64_id hy]
theorem of32_clamp {x : Int} (hx : c32 x) : (Int32.ofInt x).toNatClampNeg = x.toNat := by
  show (Int32.ofInt x).toInt.toNat = x.toNat
  rw [of32_id hx]
theorem of32_add (x y : Int) : Int32.ofInt x + Int32.ofInt y = Int32.ofInt (w32 (x + y)) := by rw [of32_w, Int32.ofInt_add]
theorem of32_sub (x y : Int) : Int32.ofInt x - Int32.ofInt y = Int32.ofInt (w32 (x - y)) := by rw [of32_w, Int32.ofInt_sub]
theorem of32_mul (x y : Int) : Int32.ofInt x * Int32.ofInt y = Int32.ofInt (w32 (x * y)) := by rw [of32_w, Int32.ofInt_mul]
theorem of32_neg (x : Int) : -Int32.ofInt x = Int32.ofInt (w32 (-x)) := by rw [of32_w, Int32.ofInt_neg]
theorem of64_add (x y : Int) : Int64.ofInt x + Int64.ofInt y = Int64.ofInt (w64 (x + y)) := by rw [of64_w, Int64.ofInt_add]
theorem of64_sub (x y : Int) : Int64.ofInt x - Int64.ofInt y = Int64.ofInt (w64 (x - y)) := by rw [of64_w, Int64.ofInt_sub]
theorem of64_mul (x y : Int) : Int64.ofInt x * Int64.ofInt y = Int64.ofInt (w64 (x * y)) := by rw [of64_w, Int64.ofInt_mul]
theorem of64_neg (x : Int) : -Int64.ofInt x = Int64.ofInt (w64 (-x)) := by rw [of64_w, Int64.ofInt_neg]
theorem of32_i8 (x : Int) : (Int32.ofInt x).toInt8.toInt32 = Int32.ofInt (i8 x) := Int32.toInt_inj.mp (by
  rw [Int8.toInt_toInt32, Int32.toInt_toInt8, of32_toInt, of32_toInt]
  unfold w32 i8 Int.bmod
  simp only [show ((2 ^ 8 : Nat) : Int) = 256 from rfl]
  split <;> omega)
theorem of32_i16 (x : Int) : (Int32.ofInt x).toInt16.toInt32 = Int32.ofInt (i16 x) := Int32.toInt_inj.mp (by
  rw [Int16.toInt_toInt32, Int32.toInt_toInt16, of32_toInt, of32_toInt]
  unfold w32 i16 Int.bmod
  simp only [show ((2 ^ 16 : Nat) : Int) = 65536 from rfl]
  split <;> omega)
theorem of32_l {x : Int} (h : c32 x) : (Int32.ofInt x).toInt64 = Int64.ofInt x := Int64.toInt_inj.mp (by
  rw [Int32.toInt_toInt64, of32_id h, of64_id (by unfold c32 at h; unfold c64; omega)])
theorem of64_i (x : Int) : (Int64.ofInt x).toInt32 = Int32.ofInt (w32 x) := Int32.toInt_inj.mp (by
  rw [Int64.toInt_toInt32, of64_toInt, of32_w, of32_toInt, ← w32_bmod]
  unfold w32 w64
  omega)
theorem of64_cmp {x y : Int} (hx : c64 x) (hy : c64 y) : lg_cmp (Int64.ofInt x) (Int64.ofInt y) = Int32.ofInt (lCmp x y) := by
  unfold lg_cmp lCmp
  have h1 : (Int64.ofInt x > Int64.ofInt y) ↔ y < x := of64_lt hy hx
  have h2 := of64_eq hx hy
  by_cases q : y < x
  · rw [if_pos (h1.mpr q), if_pos q]; decide
  · rw [if_neg (fun z => q (h1.mp z)), if_neg q]
    by_cases r : x = y
    · rw [if_pos (h2.mpr r), if_pos r]; decide
    · rw [if_neg (fun z => r (h2.mp z)), if_neg r]; decide
theorem c32_cmp (x y : Int) : c32 (lCmp x y) := by unfold lCmp c32; split; omega; split <;> omega
theorem c32_i8 (x : Int) : c32 (i8 x) := by unfold i8 c32; omega
theorem c32_i16 (x : Int) : c32 (i16 x) := by unfold i16 c32; omega
theorem c32_i1 (x : Int) : c32 (i1 x) := by unfold i1 c32; omega
theorem c64_of32 {x : Int} (h : c32 x) : c64 x := by unfold c32 at h; unfold c64; omega
