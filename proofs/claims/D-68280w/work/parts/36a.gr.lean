/-! the greeting: its state as rows and numbers, held by the class and by the model -/
/-- only cells of D differ; nothing is made -/
def FX (D : Nat → Prop) (h h' : Hp) : Prop := (h'.1 = h.1 ∧ h'.2.1 = h.2.1 ∧ hR h' = hR h) ∧ (∀ x y, ¬ D x → hI h' x y = hI h x y) ∧ ∀ x y, ¬ D x → hJ h' x y = hJ h x y
section
variable {D E : Nat → Prop} {h h' h'' : Hp} {x y : Nat} {A B : Nat → Nat → Prop}
theorem FX.r (F : FX D h h') : hR h' = hR h := F.1.2.2
theorem FX.l (F : FX D h h') : ln h' = ln h := by unfold ln; rw [F.1.2.1]
theorem FX.n (F : FX D h h') : hN h' = hN h := by unfold hN; rw [F.1.1]
theorem FX.z (F : FX D h h') : hZ h' = hZ h := by unfold hZ; rw [F.1.1]
theorem FX.i (F : FX D h h') (q : ¬ D x) : hI h' x y = hI h x y := F.2.1 x y q
theorem FX.j (F : FX D h h') (q : ¬ D x) : hJ h' x y = hJ h x y := F.2.2 x y q
theorem FX.rf : FX D h h := ⟨⟨rfl, rfl, rfl⟩, fun _ _ _ => rfl, fun _ _ _ => rfl⟩
theorem FX.tr (F : FX D h h') (G : FX D h' h'') : FX D h h'' := ⟨⟨G.1.1.trans F.1.1, G.1.2.1.trans F.1.2.1, G.1.2.2.trans F.1.2.2⟩, fun x y q => (G.2.1 x y q).trans (F.2.1 x y q), fun x y q => (G.2.2 x y q).trans (F.2.2 x y q)⟩
theorem FX.mono (F : FX D h h') (m : ∀ x, D x → E x) : FX E h h' := ⟨F.1, fun x y q => F.2.1 x y (fun z => q (m x z)), fun x y q => F.2.2 x y (fun z => q (m x z))⟩
theorem FX.fe (F : Fe A B h h') (a : ∀ x k, A x k → D x) (b : ∀ x k, B x k → D x) : FX D h h' := ⟨⟨F.1.1, F.1.2.1, F.r⟩, fun x y q => F.2.1 x y (fun z => q (a x y z)), fun x y q => F.2.2 x y (fun z => q (b x y z))⟩
theorem FX.sI {a k : Nat} {v : Int} (m : D a) : FX D h (sI h a k v) := ⟨⟨rfl, rfl, rfl⟩, fun x y q => by rw [hI_sI, if_neg (fun z => q (by rw [z.1]; exact m))], fun _ _ _ => rfl⟩
theorem FX.cI {s sp d dp n : Nat} (m : D d) : FX D h (cpI h s sp d dp n) := ⟨⟨rfl, rfl, rfl⟩, fun x y q => by rw [hI_cI, if_neg (fun z => q (by rw [z.1]; exact m))], fun _ _ _ => rfl⟩
end
theorem up1_ne {f : Nat → Int} {k j : Nat} {v : Int} (hj : j ≠ k) : up1 f k v j = f j := by unfold up1; rw [if_neg hj]
theorem up1_eq {f : Nat → Int} {k : Nat} {v : Int} : up1 f k v k = v := by unfold up1; rw [if_pos rfl]
/-- numbers: 0 side, 1 own size, 2 waits, 3 finished, 4 fault, 5 their size, 6 level, 7 told, 8 9 sent, 10 11 waiting, 12 (kept nowhere): the class's told row is another; rows: 0 key, 1 random, 2 own, 3 told, 4 5 sent, 6 7 waiting, 8 theirs, 9 greet, 10 .. 15 secrets -/
abbrev GSt : Type := (Nat → Int) × (Nat → Nat → Int)
def gCc (k : Nat) : Nat := [0, 0, 0, 0, 0, 0, 0, 23, 26, 28, 31, 33].getD k 0
def gCs (k : Nat) : Nat := [0, 4, 20, 22, 19, 18, 0, 1, 1, 1, 1, 1].getD k 0
def gMc (k : Nat) : Nat := [0, 0, 0, 0, 0, 0, 0, 0, 5, 5, 7, 7].getD k 0
def gMs (k : Nat) : Nat := [0, 5, 6, 7, 8, 14, 18, 16, 0, 1, 0, 1].getD k 0
def gCr (r : Nat) : Nat := [1, 2, 3, 24, 27, 29, 32, 34, 48, 43, 36, 37, 38, 39, 40, 41].getD r 0
def gMr (r : Nat) : Nat := [1, 2, 3, 9, 4, 4, 6, 6, 8, 11, 10, 10, 10, 10, 10, 10].getD r 0
def gMo (r : Nat) : Nat := [0, 0, 0, 0, 0, 1024, 0, 1024, 0, 0, 0, 32, 64, 96, 128, 160].getD r 0
/-- how many bytes of a row count; r = 2 own, 3 told, 4 5 sent, 6 7 waiting, 8 theirs -/
def gLn (s : GSt) (r : Nat) : Nat := if r = 2 then (s.1 1).toNat else if r = 8 then (s.1 5).toNat else if 3 ≤ r ∧ r < 8 then (s.1 (r + 4)).toNat else 32
/-- the level, by the class's flags -/
def gLv (h : Hp) (g : Nat) : Int := if hI h (g + 42) 2 = 1 then 2 else if hI h (g + 42) 1 = 1 then 1 else if hI h (g + 42) 0 = 1 then 0 else -1
/-- a row that both hold: not the first secrets ahead of the beginning; what was told as long as it is needed -/
def gHas (s : GSt) (r : Nat) : Prop := ((r = 10 ∨ r = 11) → 0 ≤ s.1 6) ∧ (r = 3 → s.1 12 = 0)
def GX (h : Hp) (g : Nat) : Prop := LGr h g ∧ SC h ∧ LC h
def GC (h : Hp) (g : Nat) (s : GSt) : Prop := GX h g ∧ (∀ k, k < 12 → k ≠ 6 → (k = 7 → s.1 12 = 0) → hI h (g + gCc k) (gCs k) = s.1 k) ∧ (gLv h g = s.1 6 ∧ ∀ k, k < 3 → hI h (g + 42) k = 0 ∨ hI h (g + 42) k = 1) ∧ ∀ r, r < 16 → gHas s r → ∀ j, j < gLn s r → hI h (g + gCr r) j = i8 (s.2 r j)
def GY (h : Hp) (e S : Nat) : Prop := MGr h e ∧ LSeals h S ∧ MCs h S ∧ hR h e 1 = S ∧ S + 23 < e
def GM (h : Hp) (e S : Nat) (s : GSt) : Prop := GY h e S ∧ (∀ k, k < 12 → (k = 7 → s.1 12 = 0) → hI h (e + gMc k) (gMs k) = s.1 k) ∧ ∀ r, r < 16 → gHas s r → ∀ j, j < gLn s r → hI h (e + gMr r) (gMo r + j) = s.2 r j
/-- numbers in their bounds, bytes -/
def GV (s : GSt) : Prop := (s.1 0 = 0 ∨ s.1 0 = 1) ∧ (0 ≤ s.1 1 ∧ s.1 1 ≤ 300) ∧ (-1 ≤ s.1 5 ∧ s.1 5 ≤ 300) ∧ (-1 ≤ s.1 6 ∧ s.1 6 ≤ 2) ∧ (∀ k, 7 ≤ k → k < 12 → 0 ≤ s.1 k ∧ s.1 k ≤ 1024) ∧ ∀ r, r < 16 → gHas s r → ∀ j, j < gLn s r → 0 ≤ s.2 r j ∧ s.2 r j < 256
theorem GX.fx {h h' : Hp} {g : Nat} {D : Nat → Prop} (X : GX h g) (F : FX D h h') (c : ∀ x, D x → 64 ≤ x) : GX h' g := by
  have n : ∀ x, x < 64 → ¬ D x := fun x hx q => by have := c x q; lia
  exact ⟨X.1.of F.r F.l, X.2.1.of F.r F.l (fun k => F.i (n _ (by decide))) (fun k => F.i (n _ (by decide))), X.2.2.of F.r F.l (fun x k hx => F.i (n x hx))⟩
theorem gLn_num {s : GSt} {r : Nat} (h : 3 ≤ r ∧ r < 8) : gLn s r = (s.1 (r + 4)).toNat := by unfold gLn; rw [if_neg (by lia), if_neg (by lia), if_pos h]
theorem gLn_32 {s : GSt} {r : Nat} (h : r < 2 ∨ 8 < r) : gLn s r = 32 := by unfold gLn; rw [if_neg (by lia), if_neg (by lia), if_neg (by lia)]
theorem gLn_2 {s : GSt} : gLn s 2 = (s.1 1).toNat := rfl
theorem gLn_8 {s : GSt} : gLn s 8 = (s.1 5).toNat := rfl
theorem gLn_le {s : GSt} (V : GV s) {r : Nat} (hr : r < 16) : gLn s r ≤ 1024 := by
  obtain ⟨v0, v1, v2, v3, v4, v5⟩ := V
  unfold gLn
  by_cases c : r = 2
  · rw [if_pos c]; lia
  · rw [if_neg c]
    by_cases d : r = 8
    · rw [if_pos d]; lia
    · rw [if_neg d]
      by_cases f : 3 ≤ r ∧ r < 8
      · rw [if_pos f]; have := v4 (r + 4) (by lia) (by lia); lia
      · rw [if_neg f]; decide
theorem gLn_eq {s s' : GSt} {r : Nat} (e1 : r = 2 → s'.1 1 = s.1 1) (e5 : r = 8 → s'.1 5 = s.1 5) (e : 3 ≤ r ∧ r < 8 → s'.1 (r + 4) = s.1 (r + 4)) : gLn s' r = gLn s r := by
  unfold gLn
  by_cases c : r = 2
  · rw [if_pos c, if_pos c, e1 c]
  · rw [if_neg c, if_neg c]
    by_cases d : r = 8
    · rw [if_pos d, if_pos d, e5 d]
    · rw [if_neg d, if_neg d]
      by_cases f : 3 ≤ r ∧ r < 8
      · rw [if_pos f, if_pos f, e f]
      · rw [if_neg f, if_neg f]
theorem gHas_eq {s s' : GSt} {r : Nat} (e6 : s'.1 6 = s.1 6) (e12 : s'.1 12 = s.1 12) : gHas s' r ↔ gHas s r := by unfold gHas; rw [e6, e12]
/-! the greeting as a plain thing -/
def sNum (s : GSt) (k : Nat) (v : Int) : GSt := (up1 s.1 k v, s.2)
/-- a row grows by N bytes: row k - 4, number k -/
def sApp (s : GSt) (k N : Nat) (F : Nat → Int) : GSt := (up1 s.1 k (s.1 k + N), fun r j => if r + 4 = k ∧ (s.1 k).toNat ≤ j then F (j - (s.1 k).toNat) else s.2 r j)
theorem sNum_eq {s : GSt} {k : Nat} {v : Int} : (sNum s k v).1 k = v := by show up1 s.1 k v k = v; exact up1_eq
theorem sNum_ne {s : GSt} {k j : Nat} {v : Int} (h : j ≠ k) : (sNum s k v).1 j = s.1 j := by show up1 s.1 k v j = _; exact up1_ne h
theorem sApp_eq {s : GSt} {k N : Nat} {F : Nat → Int} : (sApp s k N F).1 k = s.1 k + N := by show up1 s.1 k _ k = _; exact up1_eq
theorem sApp_ne {s : GSt} {k j N : Nat} {F : Nat → Int} (h : j ≠ k) : (sApp s k N F).1 j = s.1 j := by show up1 s.1 k _ j = _; exact up1_ne h
def sDig (s : GSt) : Nat → Int := SHA (s.1 7).toNat (s.2 3)
def sGre (s : GSt) : Nat → Int := HMAC 32 (s.2 0) 32 (sDig s)
def sGreets (s : GSt) : GSt := (up1 s.1 6 1, fun r => if r = 9 then sGre s else if r = 12 then LAB 6 32 32 (sGre s) (sDig s) else if r = 13 then LAB 7 32 32 (sGre s) (sDig s) else s.2 r)
def sTlk (s : GSt) : Nat → Int := HMAC 32 (s.2 9) 32 (sDig s)
def sTalks (s : GSt) : GSt := (up1 s.1 6 2, fun r => if r = 14 then LAB 8 32 32 (sTlk s) (sDig s) else if r = 15 then LAB 9 32 32 (sTlk s) (sDig s) else s.2 r)
def sPrf (s : GSt) (p : Nat) : Nat → Int := HMAC 32 (LAB 10 32 0 (s.2 (12 + p)) Z0) 32 (sDig s)
def sBody (t n : Nat) (B : Nat → Int) (j : Nat) : Int := if j = 0 then t else if j = 1 then 0 else if j = 2 then (n : Int) / 256 else if j = 3 then (n : Int) % 256 else B (j - 4)
def sSend (s : GSt) (l t n : Nat) (B : Nat → Int) : GSt := sApp s (8 + l) (4 + n) (sBody t n B)
def sSays (s : GSt) (l t n : Nat) (B : Nat → Int) : GSt := sApp (sSend s l t n B) 7 (4 + n) (sBody t n B)
def sKeep (s : GSt) (l p n : Nat) : GSt := (up1 s.1 5 n, fun r j => if r = 8 then s.2 (6 + l) (p + j) else s.2 r j)
def sFail (s : GSt) (w : Int) : GSt := sNum (sNum (sNum (sNum s 4 w) 2 0) 10 0) 11 0
def sHello (s : GSt) (n : Nat) : GSt :=
  let s1 := sKeep (sApp s 7 n (s.2 6)) 0 36 (n - 36)
  let s2 := sGreets (sSays s1 0 2 32 (s.2 1))
  let s3 := sSays s2 1 8 (s.1 1).toNat (s.2 2)
  sNum (sTalks (sSays s3 1 20 32 (sPrf s3 1))) 2 20
noncomputable def sDone (s : GSt) (n : Nat) : GSt := by
  classical
  exact if ∀ k, k < 32 → s.2 7 (4 + k) = sPrf s (1 - s.1 0).toNat k then
    if s.1 0 = 1 then sNum (sNum s 2 0) 3 1
    else sNum (sSend (sTalks (sApp (sNum (sNum s 2 0) 3 1) 7 n (s.2 7))) 1 20 32 (sPrf (sApp s 7 n (s.2 7)) 0)) 12 1
  else sFail s 307
noncomputable def sMsg (s : GSt) (n : Nat) : GSt :=
  if s.1 2 = 1 then sHello s n
  else if s.1 2 = 2 then sNum (sGreets (sApp s 7 n (s.2 6))) 2 8
  else if s.1 2 = 8 then sNum (sKeep (sApp s 7 n (s.2 7)) 1 4 (n - 4)) 2 20
  else sDone s n
def gLev (w : Int) : Nat := if 8 ≤ w then 1 else 0
def gFit (w n : Int) : Bool := if w = 1 then decide (32 ≤ n ∧ n ≤ 332) else if w = 8 then decide (n ≤ 300) else decide (n = 32)
def sN (s : GSt) (l : Nat) : Int := 65536 * s.2 (6 + l) 1 + 256 * s.2 (6 + l) 2 + s.2 (6 + l) 3
/-- what waits at a level: nothing whole yet, a fault below 0, a message of so many bytes -/
def sLook (s : GSt) (l : Nat) : Int := if s.1 (10 + l) = 0 then 0 else if s.1 2 = 0 ∨ gLev (s.1 2) ≠ l ∨ s.2 (6 + l) 0 ≠ s.1 2 then -266 else if s.1 (10 + l) < 4 then 0 else if gFit (s.1 2) (sN s l) = false then -306 else if s.1 (10 + l) < 4 + sN s l then 0 else 4 + sN s l
