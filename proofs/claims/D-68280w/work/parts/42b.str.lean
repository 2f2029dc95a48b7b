/-! streams: what is done, as plain functions -/
/-- whether a side (s) sends, or gets, in a stream -/
abbrev zSd (s i : Nat) : Prop := i / 2 % 2 = 0 ∨ i % 2 = s
abbrev zRc (s i : Nat) : Prop := i / 2 % 2 = 0 ∨ i % 2 ≠ s
def zGr (s : Nat) (x : HSt) (i : Nat) : Int := if i / 2 % 2 = 1 then zQ x 33 else if i % 2 = s then zQ x 31 else zQ x 32
def zLi (s : Nat) (x : HSt) (i : Nat) : Int := if i / 2 % 2 = 1 then zQ x 43 else if i % 2 = s then zQ x 42 else zQ x 41
def zBeg (s : Nat) (x : HSt) (i : Nat) : HSt := uP (uP (uP x 0 i 1) 5 i (zLi s x i)) 15 i (zGr s x i)
abbrev zOv (s : Nat) (x : HSt) (i : Nat) : Prop := (zSd s i → zP x 1 i = 2 ∨ zP x 1 i = 4) ∧ (zRc s i → 3 ≤ zP x 10 i)
def zOI (s : Nat) (x : HSt) (i : Nat) : Int := if zOv s x i then 1 else 0
/-- the stream may be over here just now; was: it was already -/
def zMay (s : Nat) (was : Int) (x : HSt) (i : Nat) : HSt := if was ≠ 0 ∨ i % 2 = s ∨ ¬ zOv s x i then x else if zQ x (12 + 10 * (i / 2 % 2)) < 64 then uQ (uQ x (16 + 10 * (i / 2 % 2)) 1) (12 + 10 * (i / 2 % 2)) (zQ x (12 + 10 * (i / 2 % 2)) + 1) else x
/-- w: 0 both ways, 1 one way -/
def zOpen (s w : Nat) (x : HSt) : Int × HSt := if zQ x (13 + 10 * w) ≤ zQ x (10 + 10 * w) then (-1, uQ x (14 + 10 * w) 1) else (4 * zQ x (10 + 10 * w) + 2 * w + s, zBeg s (uQ x (10 + 10 * w) (zQ x (10 + 10 * w) + 1)) (4 * (zQ x (10 + 10 * w)).toNat + 2 * w + s))
/-- other side's streams of a kind: n more are there -/
def zCms (s r : Nat) : Nat → HSt → HSt
  | 0, x => x
  | n + 1, x => zCms s r n (uQ (zBeg s x (4 * (zQ x (11 + 10 * (r / 2 % 2))).toNat + r)) (11 + 10 * (r / 2 % 2)) (zQ x (11 + 10 * (r / 2 % 2)) + 1))
def zCome (s : Nat) (x : HSt) (i : Nat) : HSt := if i % 2 = s then x else zCms s (i % 4) (i / 4 + 1 - (zQ x (11 + 10 * (i / 2 % 2))).toNat) x
/-- n bytes F are written -/
def zWr (x : HSt) (i n : Nat) (F : Nat → Int) : HSt :=
  uQ (uQ (uP (uS x i (fun j => if j < (zP x 2 i).toNat then zE x i j else (zQ x 9).toNat + (j - (zP x 2 i).toNat)) (fun j => if (zQ x 9).toNat ≤ j ∧ j < (zQ x 9).toNat + n then F (j - (zQ x 9).toNat) else zB x j)) 2 i (zP x 2 i + n)) 9 (zQ x 9 + n)) 50 (zQ x 50 + 1)
def zFin (x : HSt) (i : Nat) : HSt := uP (uP x 1 i 1) 4 i 1
def zRst (x : HSt) (i : Nat) (c : Int) : HSt := uP (uP (uP x 1 i 3) 6 i c) 8 i 1
def zStp (x : HSt) (i : Nat) (c : Int) : HSt := uP (uP (uP x 20 i 1) 19 i 1) 17 i c
def zGrow (x : HSt) : HSt := if 2 * (zQ x 5 + zQ x 30 - zQ x 6) < zQ x 30 ∨ min (zQ x 5 + zQ x 30) 65536 ≤ zQ x 6 then x else uQ (uQ x 6 (min (zQ x 5 + zQ x 30) 65536)) 8 1
def zGroR (s : Nat) (x : HSt) (i : Nat) : HSt := if 2 * (zP x 11 i + zGr s x i - zP x 15 i) < zGr s x i ∨ min (zP x 11 i + zGr s x i) 65536 ≤ zP x 15 i then x else uP (uP x 15 i (min (zP x 11 i + zGr s x i) 65536)) 18 i 1
/-- the state of what comes -/
def zRs (size read ready : Int) : Int := if size < 0 then 0 else if read = size then 3 else if ready = size then 2 else 1
def zSet (x : HSt) (i : Nat) : HSt := if zP x 10 i = 4 then x else uP x 10 i (zRs (zP x 14 i) (zP x 11 i) (zP x 12 i))
/-- n bytes are read (n up to ready) -/
def zRead (s : Nat) (x : HSt) (i : Nat) (n : Int) : HSt :=
  let x1 := if n ≤ 0 then x else zGrow (uQ (uP x 11 i (zP x 11 i + n)) 5 (zQ x 5 + n))
  let x2 := if n ≤ 0 ∨ zP x 10 i ≠ 0 then x1 else zGroR s x1 i
  zMay s (zOI s x i) (zSet x2 i) i
/-- 0, or the error of a frame about a stream -/
def zAlw (s : Nat) (x : HSt) (i sends : Int) : Int :=
  if (i % 2 = s ∧ zQ x (10 + 10 * (i / 2 % 2).toNat) ≤ i / 4) ∨ ¬ (i / 2 % 2 = 0 ∨ (if i % 2 = s then 1 else 0) = sends) then 5
  else if i % 2 ≠ s ∧ zQ x (12 + 10 * (i / 2 % 2).toNat) ≤ i / 4 then 4 else 0
def zFit (s : Nat) (x : HSt) (i : Nat) (e last : Int) : Int :=
  if (0 ≤ zP x 14 i ∧ (zP x 14 i < e ∨ last = 1 ∧ e ≠ zP x 14 i)) ∨ last = 1 ∧ e < zP x 13 i then 6
  else if (if zP x 0 i = 1 then zP x 15 i else zGr s x i) < e ∨ zQ x 6 < zQ x 4 + max (e - zP x 13 i) 0 then 3 else 0
def zRch (x : HSt) (i : Nat) (e : Int) : HSt := uP (uQ x 4 (zQ x 4 + max (e - zP x 13 i) 0)) 13 i (max (zP x 13 i) e)
def zHn (H : Nat → Prop) (p n : Nat) : Nat → Prop := fun q => H q ∨ (p ≤ q ∧ q < p + n)
noncomputable def zWn (H : Nat → Prop) (W : Nat → Int) (p : Nat) (F : Nat → Int) : Nat → Int := fun q => @ite _ (H q) (Classical.propDecidable _) (W q) (F (q - p))
/-- bytes of a stream come -/
noncomputable def zCm (x : HSt) (i p n : Nat) (last : Int) (F : Nat → Int) : HSt :=
  let x1 := zRch x i (p + n : Nat)
  let x2 := if last = 1 then uP x1 14 i (p + n : Nat) else x1
  if zP x2 10 i = 0 ∨ zP x2 10 i = 1 then zSet (uP (uC x2 i (zHn (zH x2 i) p n) (zWn (zH x2 i) (zW x2 i) p F)) 12 i (zRdy (zHn (zH x2 i) p n))) i else x2
def zIsR (x : HSt) (i : Nat) (c e : Int) : HSt :=
  let x1 := zRch x i e
  if zP x1 10 i = 0 ∨ zP x1 10 i = 1 then zGrow (uQ (uP (uP (uP x1 10 i 4) 16 i c) 14 i e) 5 (zQ x1 5 + (e - zP x1 11 i))) else x1
/-- a frame is taken: its kind and numbers, the bytes -/
noncomputable def zTake (s : Nat) (x : HSt) (kind a b c : Int) (n : Nat) (F : Nat → Int) : Int × HSt :=
  let x0 := if kind = 16 then uQ x 1 (max (zQ x 1) a) else x
  let x1 := if kind = 18 ∨ kind = 19 then (let w := (kind - 18).toNat; let l := max (zQ x0 (13 + 10 * w)) (min a 64); uQ (if zQ x0 (13 + 10 * w) < l then uQ x0 (14 + 10 * w) 0 else x0) (13 + 10 * w) l) else x0
  if ¬ (kind = 4 ∨ kind = 5 ∨ kind = 8 ∨ kind = 17 ∨ kind = 21) then (0, x1) else
  let e1 := zAlw s x a (if kind = 5 ∨ kind = 17 then 1 else 0)
  if e1 > 0 then (e1, x) else
  let i := a.toNat
  let e2 := if kind = 8 then zFit s x i (b + n) (if c = 1 then 1 else 0) else if kind = 4 then zFit s x i c 1 else 0
  if e2 > 0 then (e2, x) else
  let y := zCome s x i
  let y1 := if kind = 17 then uP y 5 i (max (zP y 5 i) b) else if kind = 5 then (if zP y 1 i = 0 ∨ zP y 1 i = 1 then zRst y i b else y) else if kind = 8 then zCm y i b.toNat n c F else if kind = 4 then zIsR y i b c else y
  (0, zMay s (zOI s y i) y1 i)
/-! streams: the next frame: kind, its numbers, how many bytes -/
abbrev Frm : Type := Int × Int × Int × Int × Nat
def zWt (x : HSt) (i : Nat) : Prop := (zP x 1 i = 0 ∨ zP x 1 i = 1) ∧ zP x 3 i < zP x 2 i
/-- where the first byte lies that is lost, else the first new one -/
noncomputable def zLo (x : HSt) (i : Nat) : Nat := fst1 (fun j => zM x i j = 2) (zP x 3 i).toNat
noncomputable def zRun (x : HSt) (i : Nat) : Nat := fst1 (fun j => zM x i (zLo x i + j) ≠ 2) ((zP x 3 i).toNat - zLo x i)
def zOpn (x : HSt) (i : Nat) : Int := max (min (zP x 2 i) (min (zP x 5 i) (zP x 3 i + zQ x 1 - zQ x 3)) - zP x 3 i) 0
noncomputable def zMny (x : HSt) (i : Nat) : Int := if (zLo x i : Int) < zP x 3 i then zRun x i else zOpn x i
abbrev zEnd (x : HSt) (i : Nat) : Prop := zMny x i = 0 ∧ zP x 3 i = zP x 2 i ∧ (zP x 4 i = 1 ∨ zP x 4 i = 3)
noncomputable def zMost (x : HSt) (i : Nat) (room : Int) : Int :=
  let left := room - 1 - szN i - (if zLo x i = 0 then 0 else (szN (zLo x i) : Int))
  if left < 66 then min (left - 1) 63 else left - 2
def zCan (x : HSt) (i : Nat) (room : Int) : Prop := (zP x 1 i = 0 ∨ zP x 1 i = 1) ∧ ¬ zMost x i room < (if zEnd x i then 0 else 1) ∧ (zMny x i ≠ 0 ∨ zEnd x i)
noncomputable def zCnt (x : HSt) (i : Nat) (room : Int) : Nat := (min (zMny x i) (zMost x i room)).toNat
noncomputable def zFc (x : HSt) (i : Nat) (n : Nat) : Int := if zP x 1 i = 1 ∧ ((zLo x i + n : Nat) : Int) = zP x 2 i then 1 else 0
noncomputable def zSent (x : HSt) (i : Nat) (room : Int) : Frm × HSt :=
  let n := zCnt x i room
  let f := zLo x i
  let x1 := uM x i (fun j => if f ≤ j ∧ j < f + n then 1 else zM x i j)
  let x2 := uP (uQ x1 3 (zQ x 3 + max ((f + n : Nat) - zP x 3 i) 0)) 3 i (max (zP x 3 i) (f + n : Nat))
  ((8, i, f, zFc x i n, n), uQ (if zFc x i n = 1 ∧ zP x 4 i ≠ 4 then uP x2 4 i 2 else x2) 7 i)
noncomputable def zFEnd (x : HSt) (room : Int) : Option (Frm × HSt) :=
  let i4 := fst1 (fun i => (zP x 1 i = 3 ∧ zP x 8 i = 1) ∧ 1 + (szN i : Int) + szN (zP x 6 i) + szN (zP x 3 i) ≤ room) 256
  if i4 < 256 then some ((4, i4, zP x 6 i4, zP x 3 i4, 0), uP x 8 i4 0) else
  let i5 := fst1 (fun i => ((zP x 10 i = 0 ∨ zP x 10 i = 1) ∧ zP x 19 i = 1) ∧ 1 + (szN i : Int) + szN (zP x 17 i) ≤ room) 256
  if i5 < 256 then some ((5, i5, zP x 17 i5, 0, 0), uP x 19 i5 0) else none
noncomputable def zFGra (x : HSt) (room : Int) : Option (Frm × HSt) :=
  if zQ x 8 = 1 ∧ 1 + (szN (zQ x 6) : Int) ≤ room then some ((16, zQ x 6, 0, 0, 0), uQ x 8 0) else
  let i := fst1 (fun i => (zP x 10 i = 0 ∧ zP x 18 i = 1) ∧ 1 + (szN i : Int) + szN (zP x 15 i) ≤ room) 256
  if i < 256 then some ((17, i, zP x 15 i, 0, 0), uP x 18 i 0) else
  let w := fst1 (fun w => zQ x (16 + 10 * w) = 1 ∧ 1 + (szN (zQ x (12 + 10 * w)) : Int) ≤ room) 2
  if w < 2 then some ((18 + w, zQ x (12 + 10 * w), 0, 0, 0), uQ x (16 + 10 * w) 0) else none
noncomputable def zFBlo (x : HSt) (room : Int) : Option (Frm × HSt) :=
  if fst1 (zWt x) 256 < 256 ∧ zQ x 3 = zQ x 1 ∧ zQ x 2 ≠ zQ x 1 ∧ 1 + (szN (zQ x 1) : Int) ≤ room then some ((20, zQ x 1, 0, 0, 0), uQ x 2 (zQ x 1)) else
  let i := fst1 (fun i => (zWt x i ∧ zP x 3 i = zP x 5 i ∧ zP x 7 i ≠ zP x 5 i) ∧ 1 + (szN i : Int) + szN (zP x 5 i) ≤ room) 256
  if i < 256 then some ((21, i, zP x 5 i, 0, 0), uP x 7 i (zP x 5 i)) else
  let w := fst1 (fun w => (zQ x (14 + 10 * w) = 1 ∧ zQ x (15 + 10 * w) ≠ zQ x (13 + 10 * w)) ∧ 1 + (szN (zQ x (13 + 10 * w)) : Int) ≤ room) 2
  if w < 2 then some ((22 + w, zQ x (13 + 10 * w), 0, 0, 0), uQ x (15 + 10 * w) (zQ x (13 + 10 * w))) else none
noncomputable def zFStr (x : HSt) (room : Int) : Option (Frm × HSt) :=
  let k := fst1 (fun k => zCan x (((zQ x 7).toNat + k + 1) % 256) room) 256
  if k < 256 then some (zSent x (((zQ x 7).toNat + k + 1) % 256) room) else none
noncomputable def zFill (x : HSt) (room : Int) : Option (Frm × HSt) :=
  match zFEnd x room with
  | some r => some r
  | none => match zFGra x room with
    | some r => some r
    | none => match zFBlo x room with
      | some r => some r
      | none => zFStr x room
/-! streams: what became of a frame -/
def zGm (x : HSt) (i p n : Nat) (arr : Int) : Nat → Int := fun j => if p ≤ j ∧ j < p + n then (if zM x i j = 3 then 3 else if arr = 1 then 3 else 2) else zM x i j
def zG4 (x : HSt) (i : Nat) (last arr : Int) : Int := if last = 1 ∧ zP x 4 i ≠ 4 then (if arr = 1 then 4 else 3) else zP x 4 i
def zG1 (x : HSt) (i p n : Nat) (last arr : Int) : Int := if zP x 1 i = 1 ∧ zG4 x i last arr = 4 ∧ ctV (zGm x i p n arr) 3 (zP x 2 i).toNat = zP x 2 i then 2 else zP x 1 i
def zGoS (x : HSt) (i p n : Nat) (last arr : Int) : HSt := uP (uP (uM x i (zGm x i p n arr)) 4 i (zG4 x i last arr)) 1 i (zG1 x i p n last arr)
def zGone (s : Nat) (x : HSt) (kind a b c : Int) (n : Nat) (arr : Int) : HSt :=
  let i := if a < 256 then a.toNat else 0
  if kind = 8 then zMay s (zOI s x i) (zGoS x i b.toNat n c arr) i
  else if kind = 4 then zMay s (zOI s x i) (if arr = 1 then uP x 1 i 4 else if zP x 1 i = 3 then uP x 8 i 1 else x) i
  else if arr = 1 then x
  else if kind = 5 then uP x 19 i 1
  else if kind = 16 then (if a = zQ x 6 then uQ x 8 1 else x)
  else if kind = 17 then (if b = zP x 15 i then uP x 18 i 1 else x)
  else if kind = 18 ∨ kind = 19 then (if a = zQ x (12 + 10 * (kind - 18).toNat) then uQ x (16 + 10 * (kind - 18).toNat) 1 else x)
  else if kind = 20 then (if a = zQ x 2 then uQ x 2 (-1) else x)
  else if kind = 21 then (if b = zP x 7 i then uP x 7 i (-1) else x)
  else if kind = 22 ∨ kind = 23 then (if a = zQ x (15 + 10 * (kind - 22).toNat) then uQ x (15 + 10 * (kind - 22).toNat) (-1) else x)
  else x
