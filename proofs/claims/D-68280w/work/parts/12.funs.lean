/-! the program as pure functions (gen/build.py) -/
set_option maxRecDepth 100000
def f_cP_word (v0 : Nat) (v1 : Int) (h : Hp) : Option (Int × Hp) :=
  if v0 = 0 then none else
  if ix v1 (ln h v0) then
    if ix (w32 (v1 + 1)) (ln h v0) then
      if ix (w32 (v1 + 2)) (ln h v0) then
        if ix (w32 (v1 + 3)) (ln h v0) then
          some (iOr (iOr (iOr (iAnd (hI h v0 v1.toNat) 255) (iShl (iAnd (hI h v0 ((w32 (v1 + 1)).toNat)) 255) 8)) (iShl (iAnd (hI h v0 ((w32 (v1 + 2)).toNat)) 255) 16)) (iShl (iAnd (hI h v0 ((w32 (v1 + 3)).toNat)) 255) 24), h)
        else none
      else none
    else none
  else none
def f_cP_sizeOf (v0 : Int) (h : Hp) : Option (Int × Hp) :=
  if 64 ≤ v0 then (
    if 16384 ≤ v0 then (
      if 1073741824 ≤ v0 then (
        some (8, h)
      ) else
      some (4, h)
    ) else
    some (2, h)
  ) else
  some (1, h)
def f_cHash_init (v0 : Nat) (h : Hp) : Option (Hp) :=
  if (0 : Int) ≤ 8 ∧ hN h + 1 ≤ CN ∧ hZ h + Int.toNat 8 ≤ CZ then
    lt1 (nwC h 101 (Int.toNat 8) (Int.toNat 8)) fun h2 =>
    lt1 (sR h2 v0 0 (hN h)) fun h4 =>
    if (0 : Int) ≤ 64 ∧ hN h4 + 1 ≤ CN ∧ hZ h4 + Int.toNat 64 ≤ CZ then
      lt1 (nwC h4 101 (Int.toNat 64) (Int.toNat 64)) fun h6 =>
      lt1 (sR h6 v0 1 (hN h4)) fun h8 =>
      if (0 : Int) ≤ 64 ∧ hN h8 + 1 ≤ CN ∧ hZ h8 + Int.toNat 64 ≤ CZ then
        lt1 (nwC h8 102 (Int.toNat 64) (Int.toNat 64)) fun h10 =>
        lt1 (sR h10 v0 2 (hN h8)) fun h12 =>
        some h12
      else none
    else none
  else none
def f_cMac_init (v0 : Nat) (h : Hp) : Option (Hp) :=
  if hN h + 1 ≤ CN ∧ hZ h + 5 ≤ CZ then
    lt1 (nwC h 6 0 5) fun h2 =>
    b1 (f_cHash_init (hN h) h2) fun h4 =>
    lt1 (sR h4 v0 0 (hN h)) fun h6 =>
    if hN h6 + 1 ≤ CN ∧ hZ h6 + 5 ≤ CZ then
      lt1 (nwC h6 6 0 5) fun h8 =>
      b1 (f_cHash_init (hN h6) h8) fun h10 =>
      lt1 (sR h10 v0 1 (hN h6)) fun h12 =>
      if (0 : Int) ≤ 64 ∧ hN h12 + 1 ≤ CN ∧ hZ h12 + Int.toNat 64 ≤ CZ then
        lt1 (nwC h12 102 (Int.toNat 64) (Int.toNat 64)) fun h14 =>
        lt1 (sR h14 v0 2 (hN h12)) fun h16 =>
        if (0 : Int) ≤ 32 ∧ hN h16 + 1 ≤ CN ∧ hZ h16 + Int.toNat 32 ≤ CZ then
          lt1 (nwC h16 102 (Int.toNat 32) (Int.toNat 32)) fun h18 =>
          lt1 (sR h18 v0 3 (hN h16)) fun h20 =>
          some h20
        else none
      else none
    else none
  else none
def f_cStretch_init (v0 : Nat) (h : Hp) : Option (Hp) :=
  if hN h + 1 ≤ CN ∧ hZ h + 4 ≤ CZ then
    lt1 (nwC h 5 0 4) fun h2 =>
    b1 (f_cMac_init (hN h) h2) fun h4 =>
    lt1 (sR h4 v0 0 (hN h)) fun h6 =>
    if (0 : Int) ≤ 32 ∧ hN h6 + 1 ≤ CN ∧ hZ h6 + Int.toNat 32 ≤ CZ then
      lt1 (nwC h6 102 (Int.toNat 32) (Int.toNat 32)) fun h8 =>
      lt1 (sR h8 v0 1 (hN h6)) fun h10 =>
      if (0 : Int) ≤ 287 ∧ hN h10 + 1 ≤ CN ∧ hZ h10 + Int.toNat 287 ≤ CZ then
        lt1 (nwC h10 102 (Int.toNat 287) (Int.toNat 287)) fun h12 =>
        lt1 (sR h12 v0 2 (hN h10)) fun h14 =>
        if (0 : Int) ≤ 1 ∧ hN h14 + 1 ≤ CN ∧ hZ h14 + Int.toNat 1 ≤ CZ then
          lt1 (nwC h14 102 (Int.toNat 1) (Int.toNat 1)) fun h16 =>
          lt1 (sR h16 v0 3 (hN h14)) fun h18 =>
          some h18
        else none
      else none
    else none
  else none
def f_cKeystream_init (v0 : Nat) (h : Hp) : Option (Hp) :=
  if (0 : Int) ≤ 16 ∧ hN h + 1 ≤ CN ∧ hZ h + Int.toNat 16 ≤ CZ then
    lt1 (nwC h 101 (Int.toNat 16) (Int.toNat 16)) fun h2 =>
    lt1 (sR h2 v0 0 (hN h)) fun h4 =>
    if (0 : Int) ≤ 16 ∧ hN h4 + 1 ≤ CN ∧ hZ h4 + Int.toNat 16 ≤ CZ then
      lt1 (nwC h4 101 (Int.toNat 16) (Int.toNat 16)) fun h6 =>
      lt1 (sR h6 v0 1 (hN h4)) fun h8 =>
      if (0 : Int) ≤ 64 ∧ hN h8 + 1 ≤ CN ∧ hZ h8 + Int.toNat 64 ≤ CZ then
        lt1 (nwC h8 102 (Int.toNat 64) (Int.toNat 64)) fun h10 =>
        lt1 (sR h10 v0 2 (hN h8)) fun h12 =>
        some h12
      else none
    else none
  else none
def f_cTally_init (v0 : Nat) (h : Hp) : Option (Hp) :=
  if (0 : Int) ≤ 5 ∧ hN h + 1 ≤ CN ∧ hZ h + Int.toNat 5 ≤ CZ then
    lt1 (nwC h 105 (Int.toNat 5) (Int.toNat 5)) fun h2 =>
    lt1 (sR h2 v0 0 (hN h)) fun h4 =>
    if (0 : Int) ≤ 5 ∧ hN h4 + 1 ≤ CN ∧ hZ h4 + Int.toNat 5 ≤ CZ then
      lt1 (nwC h4 105 (Int.toNat 5) (Int.toNat 5)) fun h6 =>
      lt1 (sR h6 v0 1 (hN h4)) fun h8 =>
      if (0 : Int) ≤ 5 ∧ hN h8 + 1 ≤ CN ∧ hZ h8 + Int.toNat 5 ≤ CZ then
        lt1 (nwC h8 105 (Int.toNat 5) (Int.toNat 5)) fun h10 =>
        lt1 (sR h10 v0 2 (hN h8)) fun h12 =>
        if (0 : Int) ≤ 16 ∧ hN h12 + 1 ≤ CN ∧ hZ h12 + Int.toNat 16 ≤ CZ then
          lt1 (nwC h12 102 (Int.toNat 16) (Int.toNat 16)) fun h14 =>
          lt1 (sR h14 v0 3 (hN h12)) fun h16 =>
          some h16
        else none
      else none
    else none
  else none
def f_cBench_init (v0 : Nat) (h : Hp) : Option (Hp) :=
  if hN h + 1 ≤ CN ∧ hZ h + 4 ≤ CZ then
    lt1 (nwC h 4 0 4) fun h2 =>
    b1 (f_cStretch_init (hN h) h2) fun h4 =>
    lt1 (sR h4 v0 0 (hN h)) fun h6 =>
    if hN h6 + 1 ≤ CN ∧ hZ h6 + 3 ≤ CZ then
      lt1 (nwC h6 7 0 3) fun h8 =>
      b1 (f_cKeystream_init (hN h6) h8) fun h10 =>
      lt1 (sR h10 v0 1 (hN h6)) fun h12 =>
      if hN h12 + 1 ≤ CN ∧ hZ h12 + 7 ≤ CZ then
        lt1 (nwC h12 8 0 7) fun h14 =>
        b1 (f_cTally_init (hN h12) h14) fun h16 =>
        lt1 (sR h16 v0 2 (hN h12)) fun h18 =>
        if (0 : Int) ≤ 0 ∧ hN h18 + 1 ≤ CN ∧ hZ h18 + Int.toNat 0 ≤ CZ then
          lt1 (nwC h18 102 (Int.toNat 0) (Int.toNat 0)) fun h20 =>
          lt1 (sR h20 v0 3 (hN h18)) fun h22 =>
          if (0 : Int) ≤ 12 ∧ hN h22 + 1 ≤ CN ∧ hZ h22 + Int.toNat 12 ≤ CZ then
            lt1 (nwC h22 102 (Int.toNat 12) (Int.toNat 12)) fun h24 =>
            lt1 (sR h24 v0 4 (hN h22)) fun h26 =>
            if (0 : Int) ≤ 16 ∧ hN h26 + 1 ≤ CN ∧ hZ h26 + Int.toNat 16 ≤ CZ then
              lt1 (nwC h26 102 (Int.toNat 16) (Int.toNat 16)) fun h28 =>
              lt1 (sR h28 v0 5 (hN h26)) fun h30 =>
              if (0 : Int) ≤ 16 ∧ hN h30 + 1 ≤ CN ∧ hZ h30 + Int.toNat 16 ≤ CZ then
                lt1 (nwC h30 102 (Int.toNat 16) (Int.toNat 16)) fun h32 =>
                lt1 (sR h32 v0 6 (hN h30)) fun h34 =>
                some h34
              else none
            else none
          else none
        else none
      else none
    else none
  else none
def f_cGuard_init (v0 : Nat) (h : Hp) : Option (Hp) :=
  if (0 : Int) ≤ 32 ∧ hN h + 1 ≤ CN ∧ hZ h + Int.toNat 32 ≤ CZ then
    lt1 (nwC h 102 (Int.toNat 32) (Int.toNat 32)) fun h2 =>
    lt1 (sR h2 v0 0 (hN h)) fun h4 =>
    if (0 : Int) ≤ 32 ∧ hN h4 + 1 ≤ CN ∧ hZ h4 + Int.toNat 32 ≤ CZ then
      lt1 (nwC h4 102 (Int.toNat 32) (Int.toNat 32)) fun h6 =>
      lt1 (sR h6 v0 1 (hN h4)) fun h8 =>
      if (0 : Int) ≤ 12 ∧ hN h8 + 1 ≤ CN ∧ hZ h8 + Int.toNat 12 ≤ CZ then
        lt1 (nwC h8 102 (Int.toNat 12) (Int.toNat 12)) fun h10 =>
        lt1 (sR h10 v0 2 (hN h8)) fun h12 =>
        if (0 : Int) ≤ 32 ∧ hN h12 + 1 ≤ CN ∧ hZ h12 + Int.toNat 32 ≤ CZ then
          lt1 (nwC h12 102 (Int.toNat 32) (Int.toNat 32)) fun h14 =>
          lt1 (sR h14 v0 3 (hN h12)) fun h16 =>
          some h16
        else none
      else none
    else none
  else none
def f_cCrypto_init (v0 : Nat) (h : Hp) : Option (Hp) :=
  if (0 : Int) ≤ 2048 ∧ hN h + 1 ≤ CN ∧ hZ h + Int.toNat 2048 ≤ CZ then
    lt1 (nwC h 102 (Int.toNat 2048) (Int.toNat 2048)) fun h2 =>
    lt1 (sR h2 v0 0 (hN h)) fun h4 =>
    if (0 : Int) ≤ 2048 ∧ hN h4 + 1 ≤ CN ∧ hZ h4 + Int.toNat 2048 ≤ CZ then
      lt1 (nwC h4 102 (Int.toNat 2048) (Int.toNat 2048)) fun h6 =>
      lt1 (sR h6 v0 2 (hN h4)) fun h8 =>
      if (0 : Int) ≤ 2048 ∧ hN h8 + 1 ≤ CN ∧ hZ h8 + Int.toNat 2048 ≤ CZ then
        lt1 (nwC h8 103 (Int.toNat 2048) (Int.toNat 2048)) fun h10 =>
        lt1 (sR h10 v0 3 (hN h8)) fun h12 =>
        some h12
      else none
    else none
  else none
def f_cTrip_init (v0 : Nat) (h : Hp) : Option (Hp) :=
  lt1 (sI h v0 0 800) fun h1 =>
  lt1 (sI h1 v0 1 200) fun h2 =>
  lt1 (sI h2 v0 3 (-1)) fun h3 =>
  lt1 (sI h3 v0 4 (-1)) fun h4 =>
  some h4
def f_cWindow_init (v0 : Nat) (h : Hp) : Option (Hp) :=
  lt1 (sI h v0 0 12000) fun h1 =>
  lt1 (sI h1 v0 1 (-1)) fun h2 =>
  lt1 (sI h2 v0 2 (-1)) fun h3 =>
  some h3
def f_cQueue_init (v0 : Nat) (h : Hp) : Option (Hp) :=
  if (0 : Int) ≤ 16 ∧ hN h + 1 ≤ CN ∧ hZ h + Int.toNat 16 ≤ CZ then
    lt1 (nwC h 101 (Int.toNat 16) (Int.toNat 16)) fun h2 =>
    lt1 (sR h2 v0 0 (hN h)) fun h4 =>
    some h4
  else none
def f_cRanges_init (v0 : Nat) (h : Hp) : Option (Hp) :=
  if (0 : Int) ≤ 65 ∧ hN h + 1 ≤ CN ∧ hZ h + Int.toNat 65 ≤ CZ then
    lt1 (nwC h 105 (Int.toNat 65) (Int.toNat 65)) fun h2 =>
    lt1 (sR h2 v0 0 (hN h)) fun h4 =>
    if (0 : Int) ≤ 65 ∧ hN h4 + 1 ≤ CN ∧ hZ h4 + Int.toNat 65 ≤ CZ then
      lt1 (nwC h4 105 (Int.toNat 65) (Int.toNat 65)) fun h6 =>
      lt1 (sR h6 v0 1 (hN h4)) fun h8 =>
      some h8
    else none
  else none
def f_cSpace_init (v0 : Nat) (h : Hp) : Option (Hp) :=
  if (0 : Int) ≤ 32 ∧ hN h + 1 ≤ CN ∧ hZ h + Int.toNat 32 ≤ CZ then
    lt1 (nwC h 101 (Int.toNat 32) (Int.toNat 32)) fun h2 =>
    lt1 (sR h2 v0 0 (hN h)) fun h4 =>
    if (0 : Int) ≤ 32 ∧ hN h4 + 1 ≤ CN ∧ hZ h4 + Int.toNat 32 ≤ CZ then
      lt1 (nwC h4 104 (Int.toNat 32) (Int.toNat 32)) fun h6 =>
      lt1 (sR h6 v0 1 (hN h4)) fun h8 =>
      if (0 : Int) ≤ 32 ∧ hN h8 + 1 ≤ CN ∧ hZ h8 + Int.toNat 32 ≤ CZ then
        lt1 (nwC h8 102 (Int.toNat 32) (Int.toNat 32)) fun h10 =>
        lt1 (sR h10 v0 2 (hN h8)) fun h12 =>
        lt1 (sI h12 v0 6 (-1)) fun h13 =>
        lt1 (sI h13 v0 7 (-1)) fun h14 =>
        lt1 (sI h14 v0 8 (-1)) fun h15 =>
        if hN h15 + 1 ≤ CN ∧ hZ h15 + 3 ≤ CZ then
          lt1 (nwC h15 15 0 3) fun h17 =>
          b1 (f_cQueue_init (hN h15) h17) fun h19 =>
          lt1 (sR h19 v0 11 (hN h15)) fun h21 =>
          if hN h21 + 1 ≤ CN ∧ hZ h21 + 3 ≤ CZ then
            lt1 (nwC h21 15 0 3) fun h23 =>
            b1 (f_cQueue_init (hN h21) h23) fun h25 =>
            lt1 (sR h25 v0 12 (hN h21)) fun h27 =>
            if hN h27 + 1 ≤ CN ∧ hZ h27 + 4 ≤ CZ then
              lt1 (nwC h27 16 0 4) fun h29 =>
              b1 (f_cRanges_init (hN h27) h29) fun h31 =>
              lt1 (sR h31 v0 13 (hN h27)) fun h33 =>
              some h33
            else none
          else none
        else none
      else none
    else none
  else none
def f_cBook_init_b52 (k52 : Nat → Int → Hp → Option (Hp)) (v0 : Nat) (v1 : Int) (h : Hp) : Option (Hp) :=
  if 3 ≤ v1 then (
    some h
  ) else
  if hN h + 1 ≤ CN ∧ hZ h + 18 ≤ CZ then
    lt1 (nwC h 14 0 18) fun h26 =>
    b1 (f_cSpace_init (hN h) h26) fun h28 =>
    if hR h v0 0 = 0 then none else
    if ix v1 (ln h28 (hR h v0 0)) then
      lt1 (sR h28 (hR h v0 0) v1.toNat (hN h)) fun h32 =>
      k52 v0 (w32 (v1 + 1)) h32
    else none
  else none
def f_cBook_init_b52_lp : Nat → Nat → Int → Hp → Option (Hp)
  | 0, _, _, _ => none
  | n + 1, v0, v1, h => f_cBook_init_b52 (f_cBook_init_b52_lp n) v0 v1 h
def f_cBook_init (v0 : Nat) (h : Hp) : Option (Hp) :=
  if (0 : Int) ≤ 3 ∧ hN h + 1 ≤ CN ∧ hZ h + Int.toNat 3 ≤ CZ then
    lt1 (nwC h 109 (Int.toNat 3) (Int.toNat 3)) fun h2 =>
    lt1 (sR h2 v0 0 (hN h)) fun h4 =>
    if hN h4 + 1 ≤ CN ∧ hZ h4 + 5 ≤ CZ then
      lt1 (nwC h4 12 0 5) fun h6 =>
      b1 (f_cTrip_init (hN h4) h6) fun h8 =>
      lt1 (sR h8 v0 1 (hN h4)) fun h10 =>
      if hN h10 + 1 ≤ CN ∧ hZ h10 + 4 ≤ CZ then
        lt1 (nwC h10 13 0 4) fun h12 =>
        b1 (f_cWindow_init (hN h10) h12) fun h14 =>
        lt1 (sR h14 v0 2 (hN h10)) fun h16 =>
        if (0 : Int) ≤ 64 ∧ hN h16 + 1 ≤ CN ∧ hZ h16 + Int.toNat 64 ≤ CZ then
          lt1 (nwC h16 105 (Int.toNat 64) (Int.toNat 64)) fun h18 =>
          lt1 (sR h18 v0 8 (hN h16)) fun h20 =>
          if (0 : Int) ≤ 64 ∧ hN h20 + 1 ≤ CN ∧ hZ h20 + Int.toNat 64 ≤ CZ then
            lt1 (nwC h20 105 (Int.toNat 64) (Int.toNat 64)) fun h22 =>
            lt1 (sR h22 v0 9 (hN h20)) fun h24 =>
            f_cBook_init_b52_lp FU v0 0 h24
          else none
        else none
      else none
    else none
  else none
def f_cCargo_init (v0 : Nat) (h : Hp) : Option (Hp) :=
  if (0 : Int) ≤ 64 ∧ hN h + 1 ≤ CN ∧ hZ h + Int.toNat 64 ≤ CZ then
    lt1 (nwC h 101 (Int.toNat 64) (Int.toNat 64)) fun h2 =>
    lt1 (sR h2 v0 0 (hN h)) fun h4 =>
    if (0 : Int) ≤ 128 ∧ hN h4 + 1 ≤ CN ∧ hZ h4 + Int.toNat 128 ≤ CZ then
      lt1 (nwC h4 101 (Int.toNat 128) (Int.toNat 128)) fun h6 =>
      lt1 (sR h6 v0 1 (hN h4)) fun h8 =>
      if (0 : Int) ≤ 128 ∧ hN h8 + 1 ≤ CN ∧ hZ h8 + Int.toNat 128 ≤ CZ then
        lt1 (nwC h8 102 (Int.toNat 128) (Int.toNat 128)) fun h10 =>
        lt1 (sR h10 v0 2 (hN h8)) fun h12 =>
        if (0 : Int) ≤ 128 ∧ hN h12 + 1 ≤ CN ∧ hZ h12 + Int.toNat 128 ≤ CZ then
          lt1 (nwC h12 105 (Int.toNat 128) (Int.toNat 128)) fun h14 =>
          lt1 (sR h14 v0 3 (hN h12)) fun h16 =>
          if (0 : Int) ≤ 128 ∧ hN h16 + 1 ≤ CN ∧ hZ h16 + Int.toNat 128 ≤ CZ then
            lt1 (nwC h16 105 (Int.toNat 128) (Int.toNat 128)) fun h18 =>
            lt1 (sR h18 v0 4 (hN h16)) fun h20 =>
            if (0 : Int) ≤ 128 ∧ hN h20 + 1 ≤ CN ∧ hZ h20 + Int.toNat 128 ≤ CZ then
              lt1 (nwC h20 105 (Int.toNat 128) (Int.toNat 128)) fun h22 =>
              lt1 (sR h22 v0 5 (hN h20)) fun h24 =>
              some h24
            else none
          else none
        else none
      else none
    else none
  else none
def f_cParameters_isBytes_b21 (h : Hp) : Option (Int × Hp) :=
  some (1, h)
def f_cParameters_isBytes (v0 : Int) (h : Hp) : Option (Int × Hp) :=
  if v0 = 0 then (
    f_cParameters_isBytes_b21  h
  ) else
  if v0 = 2 then (
    f_cParameters_isBytes_b21  h
  ) else
  if v0 = 13 then (
    f_cParameters_isBytes_b21  h
  ) else
  if v0 ≤ 14 then (
    some (0, h)
  ) else
  f_cParameters_isBytes_b21  h
def f_cParameters_forget_b34 (k2 : Nat → Int → Hp → Option (Hp)) (v0 : Nat) (v1 : Int) (s0 : Nat) (s1 : Int) (s2 : Int) (h : Hp) : Option (Hp) :=
  if s0 = 0 then none else
  if ix s1 (ln h s0) then
    lt1 (sJ h s0 s1.toNat s2) fun h21 =>
    if hR h21 v0 2 = 0 then none else
    if ix v1 (ln h21 (hR h21 v0 2)) then
      lt1 (sI h21 (hR h21 v0 2) v1.toNat 0) fun h24 =>
      k2 v0 (w32 (v1 + 1)) h24
    else none
  else none
def f_cParameters_forget_b2 (k2 : Nat → Int → Hp → Option (Hp)) (v0 : Nat) (v1 : Int) (h : Hp) : Option (Hp) :=
  if 17 ≤ v1 then (
    if hR h v0 0 = 0 then none else
    if ix 3 (ln h (hR h v0 0)) then
      lt1 (sJ h (hR h v0 0) (Int.toNat 3) 65527) fun h3 =>
      if hR h3 v0 0 = 0 then none else
      if ix 10 (ln h3 (hR h3 v0 0)) then
        lt1 (sJ h3 (hR h3 v0 0) (Int.toNat 10) 3) fun h6 =>
        if hR h6 v0 0 = 0 then none else
        if ix 11 (ln h6 (hR h6 v0 0)) then
          lt1 (sJ h6 (hR h6 v0 0) (Int.toNat 11) 25) fun h9 =>
          if hR h9 v0 0 = 0 then none else
          if ix 14 (ln h9 (hR h9 v0 0)) then
            lt1 (sJ h9 (hR h9 v0 0) (Int.toNat 14) 2) fun h12 =>
            some h12
          else none
        else none
      else none
    else none
  ) else
  if hR h v0 1 = 0 then none else
  if ix v1 (ln h (hR h v0 1)) then
    lt1 (sI h (hR h v0 1) v1.toNat 0) fun h15 =>
    b2 (f_cParameters_isBytes v1 h15) fun r18 h16 =>
    if r18 = 0 then (
      f_cParameters_forget_b34 k2 v0 v1 (hR h15 v0 0) v1 0 h16
    ) else
    f_cParameters_forget_b34 k2 v0 v1 (hR h15 v0 0) v1 (-1) h16
  else none
def f_cParameters_forget_b2_lp : Nat → Nat → Int → Hp → Option (Hp)
  | 0, _, _, _ => none
  | n + 1, v0, v1, h => f_cParameters_forget_b2 (f_cParameters_forget_b2_lp n) v0 v1 h
def f_cParameters_forget (v0 : Nat) (h : Hp) : Option (Hp) :=
  f_cParameters_forget_b2_lp FU v0 0 h
def f_cParameters_init (v0 : Nat) (h : Hp) : Option (Hp) :=
  if (0 : Int) ≤ 17 ∧ hN h + 1 ≤ CN ∧ hZ h + Int.toNat 17 ≤ CZ then
    lt1 (nwC h 105 (Int.toNat 17) (Int.toNat 17)) fun h2 =>
    lt1 (sR h2 v0 0 (hN h)) fun h4 =>
    if (0 : Int) ≤ 17 ∧ hN h4 + 1 ≤ CN ∧ hZ h4 + Int.toNat 17 ≤ CZ then
      lt1 (nwC h4 103 (Int.toNat 17) (Int.toNat 17)) fun h6 =>
      lt1 (sR h6 v0 1 (hN h4)) fun h8 =>
      if (0 : Int) ≤ 17 ∧ hN h8 + 1 ≤ CN ∧ hZ h8 + Int.toNat 17 ≤ CZ then
        lt1 (nwC h8 101 (Int.toNat 17) (Int.toNat 17)) fun h10 =>
        lt1 (sR h10 v0 2 (hN h8)) fun h12 =>
        b1 (f_cParameters_forget v0 h12) fun h13 =>
        some h13
      else none
    else none
  else none
def f_cBytes_init (v0 : Nat) (h : Hp) : Option (Hp) :=
  some h
def f_cHeader_init (v0 : Nat) (h : Hp) : Option (Hp) :=
  some h
def f_cFrame_init (v0 : Nat) (h : Hp) : Option (Hp) :=
  if (0 : Int) ≤ 3 ∧ hN h + 1 ≤ CN ∧ hZ h + Int.toNat 3 ≤ CZ then
    lt1 (nwC h 105 (Int.toNat 3) (Int.toNat 3)) fun h2 =>
    lt1 (sR h2 v0 6 (hN h)) fun h4 =>
    if (0 : Int) ≤ 16 ∧ hN h4 + 1 ≤ CN ∧ hZ h4 + Int.toNat 16 ≤ CZ then
      lt1 (nwC h4 105 (Int.toNat 16) (Int.toNat 16)) fun h6 =>
      lt1 (sR h6 v0 12 (hN h4)) fun h8 =>
      if (0 : Int) ≤ 16 ∧ hN h8 + 1 ≤ CN ∧ hZ h8 + Int.toNat 16 ≤ CZ then
        lt1 (nwC h8 105 (Int.toNat 16) (Int.toNat 16)) fun h10 =>
        lt1 (sR h10 v0 13 (hN h8)) fun h12 =>
        some h12
      else none
    else none
  else none
def f_cRow_init (v0 : Nat) (h : Hp) : Option (Hp) :=
  if (0 : Int) ≤ 1024 ∧ hN h + 1 ≤ CN ∧ hZ h + Int.toNat 1024 ≤ CZ then
    lt1 (nwC h 102 (Int.toNat 1024) (Int.toNat 1024)) fun h2 =>
    lt1 (sR h2 v0 0 (hN h)) fun h4 =>
    some h4
  else none
def f_cGreeting_init (v0 : Nat) (v1 : Int) (h : Hp) : Option (Hp) :=
  if (0 : Int) ≤ 32 ∧ hN h + 1 ≤ CN ∧ hZ h + Int.toNat 32 ≤ CZ then
    lt1 (nwC h 102 (Int.toNat 32) (Int.toNat 32)) fun h2 =>
    lt1 (sR h2 v0 1 (hN h)) fun h4 =>
    if (0 : Int) ≤ 32 ∧ hN h4 + 1 ≤ CN ∧ hZ h4 + Int.toNat 32 ≤ CZ then
      lt1 (nwC h4 102 (Int.toNat 32) (Int.toNat 32)) fun h6 =>
      lt1 (sR h6 v0 2 (hN h4)) fun h8 =>
      if (0 : Int) ≤ 300 ∧ hN h8 + 1 ≤ CN ∧ hZ h8 + Int.toNat 300 ≤ CZ then
        lt1 (nwC h8 102 (Int.toNat 300) (Int.toNat 300)) fun h10 =>
        lt1 (sR h10 v0 3 (hN h8)) fun h12 =>
        if hN h12 + 1 ≤ CN ∧ hZ h12 + 5 ≤ CZ then
          lt1 (nwC h12 6 0 5) fun h14 =>
          b1 (f_cHash_init (hN h12) h14) fun h16 =>
          lt1 (sR h16 v0 5 (hN h12)) fun h18 =>
          if hN h18 + 1 ≤ CN ∧ hZ h18 + 4 ≤ CZ then
            lt1 (nwC h18 4 0 4) fun h20 =>
            b1 (f_cStretch_init (hN h18) h20) fun h22 =>
            lt1 (sR h22 v0 6 (hN h18)) fun h24 =>
            if hN h24 + 1 ≤ CN ∧ hZ h24 + 2 ≤ CZ then
              lt1 (nwC h24 23 0 2) fun h26 =>
              b1 (f_cRow_init (hN h24) h26) fun h28 =>
              lt1 (sR h28 v0 7 (hN h24)) fun h30 =>
              if (0 : Int) ≤ 2 ∧ hN h30 + 1 ≤ CN ∧ hZ h30 + Int.toNat 2 ≤ CZ then
                lt1 (nwC h30 112 (Int.toNat 2) (Int.toNat 2)) fun h32 =>
                if hN h32 + 1 ≤ CN ∧ hZ h32 + 2 ≤ CZ then
                  lt1 (nwC h32 23 0 2) fun h35 =>
                  b1 (f_cRow_init (hN h32) h35) fun h37 =>
                  if ix 0 (ln h37 (hN h30)) then
                    lt1 (sR h37 (hN h30) (Int.toNat 0) (hN h32)) fun h40 =>
                    if hN h40 + 1 ≤ CN ∧ hZ h40 + 2 ≤ CZ then
                      lt1 (nwC h40 23 0 2) fun h42 =>
                      b1 (f_cRow_init (hN h40) h42) fun h44 =>
                      if ix 1 (ln h44 (hN h30)) then
                        lt1 (sR h44 (hN h30) (Int.toNat 1) (hN h40)) fun h47 =>
                        lt1 (sR h47 v0 8 (hN h30)) fun h48 =>
                        if (0 : Int) ≤ 2 ∧ hN h48 + 1 ≤ CN ∧ hZ h48 + Int.toNat 2 ≤ CZ then
                          lt1 (nwC h48 112 (Int.toNat 2) (Int.toNat 2)) fun h50 =>
                          if hN h50 + 1 ≤ CN ∧ hZ h50 + 2 ≤ CZ then
                            lt1 (nwC h50 23 0 2) fun h53 =>
                            b1 (f_cRow_init (hN h50) h53) fun h55 =>
                            if ix 0 (ln h55 (hN h48)) then
                              lt1 (sR h55 (hN h48) (Int.toNat 0) (hN h50)) fun h58 =>
                              if hN h58 + 1 ≤ CN ∧ hZ h58 + 2 ≤ CZ then
                                lt1 (nwC h58 23 0 2) fun h60 =>
                                b1 (f_cRow_init (hN h58) h60) fun h62 =>
                                if ix 1 (ln h62 (hN h48)) then
                                  lt1 (sR h62 (hN h48) (Int.toNat 1) (hN h58)) fun h65 =>
                                  lt1 (sR h65 v0 9 (hN h48)) fun h66 =>
                                  if hN h66 + 1 + 6 ≤ CN ∧ hZ h66 + 6 + 6 * 32 ≤ CZ then
                                    lt1 (nwM h66 111 102 6 32 6) fun h68 =>
                                    lt1 (sR h68 v0 10 (hN h66)) fun h70 =>
                                    if (0 : Int) ≤ 3 ∧ hN h70 + 1 ≤ CN ∧ hZ h70 + Int.toNat 3 ≤ CZ then
                                      lt1 (nwC h70 103 (Int.toNat 3) (Int.toNat 3)) fun h72 =>
                                      lt1 (sR h72 v0 11 (hN h70)) fun h74 =>
                                      if (0 : Int) ≤ 32 ∧ hN h74 + 1 ≤ CN ∧ hZ h74 + Int.toNat 32 ≤ CZ then
                                        lt1 (nwC h74 102 (Int.toNat 32) (Int.toNat 32)) fun h76 =>
                                        lt1 (sR h76 v0 12 (hN h74)) fun h78 =>
                                        if (0 : Int) ≤ 32 ∧ hN h78 + 1 ≤ CN ∧ hZ h78 + Int.toNat 32 ≤ CZ then
                                          lt1 (nwC h78 102 (Int.toNat 32) (Int.toNat 32)) fun h80 =>
                                          lt1 (sR h80 v0 13 (hN h78)) fun h82 =>
                                          if (0 : Int) ≤ 32 ∧ hN h82 + 1 ≤ CN ∧ hZ h82 + Int.toNat 32 ≤ CZ then
                                            lt1 (nwC h82 102 (Int.toNat 32) (Int.toNat 32)) fun h84 =>
                                            lt1 (sR h84 v0 14 (hN h82)) fun h86 =>
                                            if (0 : Int) ≤ 32 ∧ hN h86 + 1 ≤ CN ∧ hZ h86 + Int.toNat 32 ≤ CZ then
                                              lt1 (nwC h86 102 (Int.toNat 32) (Int.toNat 32)) fun h88 =>
                                              lt1 (sR h88 v0 15 (hN h86)) fun h90 =>
                                              if (0 : Int) ≤ 0 ∧ hN h90 + 1 ≤ CN ∧ hZ h90 + Int.toNat 0 ≤ CZ then
                                                lt1 (nwC h90 102 (Int.toNat 0) (Int.toNat 0)) fun h92 =>
                                                lt1 (sR h92 v0 16 (hN h90)) fun h94 =>
                                                if (0 : Int) ≤ 300 ∧ hN h94 + 1 ≤ CN ∧ hZ h94 + Int.toNat 300 ≤ CZ then
                                                  lt1 (nwC h94 102 (Int.toNat 300) (Int.toNat 300)) fun h96 =>
                                                  lt1 (sR h96 v0 17 (hN h94)) fun h98 =>
                                                  lt1 (sI h98 v0 18 (-1)) fun h99 =>
                                                  lt1 (sI h99 v0 0 v1) fun h100 =>
                                                  some h100
                                                else none
                                              else none
                                            else none
                                          else none
                                        else none
                                      else none
                                    else none
                                  else none
                                else none
                              else none
                            else none
                          else none
                        else none
                      else none
                    else none
                  else none
                else none
              else none
            else none
          else none
        else none
      else none
    else none
  else none
def f_cWay_init (v0 : Nat) (h : Hp) : Option (Hp) :=
  lt1 (sJ h v0 4 (-1)) fun h1 =>
  lt1 (sJ h1 v0 5 (-1)) fun h2 =>
  some h2
def f_cSpans_init (v0 : Nat) (h : Hp) : Option (Hp) :=
  if (0 : Int) ≤ 64 ∧ hN h + 1 ≤ CN ∧ hZ h + Int.toNat 64 ≤ CZ then
    lt1 (nwC h 101 (Int.toNat 64) (Int.toNat 64)) fun h2 =>
    lt1 (sR h2 v0 0 (hN h)) fun h4 =>
    if (0 : Int) ≤ 64 ∧ hN h4 + 1 ≤ CN ∧ hZ h4 + Int.toNat 64 ≤ CZ then
      lt1 (nwC h4 101 (Int.toNat 64) (Int.toNat 64)) fun h6 =>
      lt1 (sR h6 v0 1 (hN h4)) fun h8 =>
      if (0 : Int) ≤ 64 ∧ hN h8 + 1 ≤ CN ∧ hZ h8 + Int.toNat 64 ≤ CZ then
        lt1 (nwC h8 101 (Int.toNat 64) (Int.toNat 64)) fun h10 =>
        lt1 (sR h10 v0 2 (hN h8)) fun h12 =>
        lt1 (sI h12 v0 4 (-1)) fun h13 =>
        some h13
      else none
    else none
  else none
def f_cStore_init (v0 : Nat) (h : Hp) : Option (Hp) :=
  if (0 : Int) ≤ 65536 ∧ hN h + 1 ≤ CN ∧ hZ h + Int.toNat 65536 ≤ CZ then
    lt1 (nwC h 102 (Int.toNat 65536) (Int.toNat 65536)) fun h2 =>
    lt1 (sR h2 v0 0 (hN h)) fun h4 =>
    if (0 : Int) ≤ 64 ∧ hN h4 + 1 ≤ CN ∧ hZ h4 + Int.toNat 64 ≤ CZ then
      lt1 (nwC h4 101 (Int.toNat 64) (Int.toNat 64)) fun h6 =>
      lt1 (sR h6 v0 2 (hN h4)) fun h8 =>
      if (0 : Int) ≤ 64 ∧ hN h8 + 1 ≤ CN ∧ hZ h8 + Int.toNat 64 ≤ CZ then
        lt1 (nwC h8 101 (Int.toNat 64) (Int.toNat 64)) fun h10 =>
        lt1 (sR h10 v0 3 (hN h8)) fun h12 =>
        if (0 : Int) ≤ 64 ∧ hN h12 + 1 ≤ CN ∧ hZ h12 + Int.toNat 64 ≤ CZ then
          lt1 (nwC h12 101 (Int.toNat 64) (Int.toNat 64)) fun h14 =>
          lt1 (sR h14 v0 4 (hN h12)) fun h16 =>
          some h16
        else none
      else none
    else none
  else none
def f_cBlocks_init (v0 : Nat) (h : Hp) : Option (Hp) :=
  if (0 : Int) ≤ 4096 ∧ hN h + 1 ≤ CN ∧ hZ h + Int.toNat 4096 ≤ CZ then
    lt1 (nwC h 102 (Int.toNat 4096) (Int.toNat 4096)) fun h2 =>
    lt1 (sR h2 v0 0 (hN h)) fun h4 =>
    if (0 : Int) ≤ 64 ∧ hN h4 + 1 ≤ CN ∧ hZ h4 + Int.toNat 64 ≤ CZ then
      lt1 (nwC h4 105 (Int.toNat 64) (Int.toNat 64)) fun h6 =>
      lt1 (sR h6 v0 1 (hN h4)) fun h8 =>
      if (0 : Int) ≤ 64 ∧ hN h8 + 1 ≤ CN ∧ hZ h8 + Int.toNat 64 ≤ CZ then
        lt1 (nwC h8 101 (Int.toNat 64) (Int.toNat 64)) fun h10 =>
        lt1 (sR h10 v0 2 (hN h8)) fun h12 =>
        if (0 : Int) ≤ 64 ∧ hN h12 + 1 ≤ CN ∧ hZ h12 + Int.toNat 64 ≤ CZ then
          lt1 (nwC h12 101 (Int.toNat 64) (Int.toNat 64)) fun h14 =>
          lt1 (sR h14 v0 3 (hN h12)) fun h16 =>
          lt1 (sI h16 v0 5 (-1)) fun h17 =>
          some h17
        else none
      else none
    else none
  else none
def f_cHall_init (v0 : Nat) (v1 : Int) (h : Hp) : Option (Hp) :=
  if (0 : Int) ≤ 256 ∧ hN h + 1 ≤ CN ∧ hZ h + Int.toNat 256 ≤ CZ then
    lt1 (nwC h 113 (Int.toNat 256) (Int.toNat 256)) fun h2 =>
    lt1 (sR h2 v0 1 (hN h)) fun h4 =>
    if (0 : Int) ≤ 256 ∧ hN h4 + 1 ≤ CN ∧ hZ h4 + Int.toNat 256 ≤ CZ then
      lt1 (nwC h4 114 (Int.toNat 256) (Int.toNat 256)) fun h6 =>
      lt1 (sR h6 v0 2 (hN h4)) fun h8 =>
      if (0 : Int) ≤ 2 ∧ hN h8 + 1 ≤ CN ∧ hZ h8 + Int.toNat 2 ≤ CZ then
        lt1 (nwC h8 115 (Int.toNat 2) (Int.toNat 2)) fun h10 =>
        if hN h10 + 1 ≤ CN ∧ hZ h10 + 7 ≤ CZ then
          lt1 (nwC h10 25 0 7) fun h13 =>
          b1 (f_cWay_init (hN h10) h13) fun h15 =>
          if ix 0 (ln h15 (hN h8)) then
            lt1 (sR h15 (hN h8) (Int.toNat 0) (hN h10)) fun h18 =>
            if hN h18 + 1 ≤ CN ∧ hZ h18 + 7 ≤ CZ then
              lt1 (nwC h18 25 0 7) fun h20 =>
              b1 (f_cWay_init (hN h18) h20) fun h22 =>
              if ix 1 (ln h22 (hN h8)) then
                lt1 (sR h22 (hN h8) (Int.toNat 1) (hN h18)) fun h25 =>
                lt1 (sR h25 v0 3 (hN h8)) fun h26 =>
                if (0 : Int) ≤ 6 ∧ hN h26 + 1 ≤ CN ∧ hZ h26 + Int.toNat 6 ≤ CZ then
                  lt1 (nwC h26 101 (Int.toNat 6) (Int.toNat 6)) fun h28 =>
                  if ix 0 (ln h28 (hN h26)) then
                    lt1 (sI h28 (hN h26) (Int.toNat 0) 4096) fun h31 =>
                    if ix 1 (ln h31 (hN h26)) then
                      lt1 (sI h31 (hN h26) (Int.toNat 1) 1024) fun h33 =>
                      if ix 2 (ln h33 (hN h26)) then
                        lt1 (sI h33 (hN h26) (Int.toNat 2) 1024) fun h35 =>
                        if ix 3 (ln h35 (hN h26)) then
                          lt1 (sI h35 (hN h26) (Int.toNat 3) 1024) fun h37 =>
                          if ix 4 (ln h37 (hN h26)) then
                            lt1 (sI h37 (hN h26) (Int.toNat 4) 4) fun h39 =>
                            if ix 5 (ln h39 (hN h26)) then
                              lt1 (sI h39 (hN h26) (Int.toNat 5) 4) fun h41 =>
                              lt1 (sR h41 v0 4 (hN h26)) fun h42 =>
                              if (0 : Int) ≤ 6 ∧ hN h42 + 1 ≤ CN ∧ hZ h42 + Int.toNat 6 ≤ CZ then
                                lt1 (nwC h42 105 (Int.toNat 6) (Int.toNat 6)) fun h44 =>
                                lt1 (sR h44 v0 5 (hN h42)) fun h46 =>
                                if hN h46 + 1 ≤ CN ∧ hZ h46 + 5 ≤ CZ then
                                  lt1 (nwC h46 26 0 5) fun h48 =>
                                  b1 (f_cSpans_init (hN h46) h48) fun h50 =>
                                  lt1 (sR h50 v0 6 (hN h46)) fun h52 =>
                                  if hN h52 + 1 ≤ CN ∧ hZ h52 + 6 ≤ CZ then
                                    lt1 (nwC h52 27 0 6) fun h54 =>
                                    b1 (f_cStore_init (hN h52) h54) fun h56 =>
                                    lt1 (sR h56 v0 7 (hN h52)) fun h58 =>
                                    if hN h58 + 1 ≤ CN ∧ hZ h58 + 6 ≤ CZ then
                                      lt1 (nwC h58 28 0 6) fun h60 =>
                                      b1 (f_cBlocks_init (hN h58) h60) fun h62 =>
                                      lt1 (sR h62 v0 8 (hN h58)) fun h64 =>
                                      lt1 (sJ h64 v0 10 (-1)) fun h65 =>
                                      lt1 (sI h65 v0 15 255) fun h66 =>
                                      if (0 : Int) ≤ 1200 ∧ hN h66 + 1 ≤ CN ∧ hZ h66 + Int.toNat 1200 ≤ CZ then
                                        lt1 (nwC h66 102 (Int.toNat 1200) (Int.toNat 1200)) fun h68 =>
                                        lt1 (sR h68 v0 22 (hN h66)) fun h70 =>
                                        lt1 (sI h70 v0 0 v1) fun h71 =>
                                        some h71
                                      else none
                                    else none
                                  else none
                                else none
                              else none
                            else none
                          else none
                        else none
                      else none
                    else none
                  else none
                else none
              else none
            else none
          else none
        else none
      else none
    else none
  else none
def f_cHall_grants (v0 : Nat) (v1 : Int) (v2 : Int) (v3 : Int) (v4 : Int) (v5 : Int) (v6 : Int) (h : Hp) : Option (Hp) :=
  if hR h v0 4 = 0 then none else
  if ix 0 (ln h (hR h v0 4)) then
    lt1 (sI h (hR h v0 4) (Int.toNat 0) v1) fun h3 =>
    if hR h3 v0 4 = 0 then none else
    if ix 1 (ln h3 (hR h3 v0 4)) then
      lt1 (sI h3 (hR h3 v0 4) (Int.toNat 1) v2) fun h6 =>
      if hR h6 v0 4 = 0 then none else
      if ix 2 (ln h6 (hR h6 v0 4)) then
        lt1 (sI h6 (hR h6 v0 4) (Int.toNat 2) v3) fun h9 =>
        if hR h9 v0 4 = 0 then none else
        if ix 3 (ln h9 (hR h9 v0 4)) then
          lt1 (sI h9 (hR h9 v0 4) (Int.toNat 3) v4) fun h12 =>
          if hR h12 v0 4 = 0 then none else
          if ix 4 (ln h12 (hR h12 v0 4)) then
            lt1 (sI h12 (hR h12 v0 4) (Int.toNat 4) v5) fun h15 =>
            if hR h15 v0 4 = 0 then none else
            if ix 5 (ln h15 (hR h15 v0 4)) then
              lt1 (sI h15 (hR h15 v0 4) (Int.toNat 5) v6) fun h18 =>
              lt1 (sI h18 v0 14 v1) fun h19 =>
              if hR h19 v0 3 = 0 then none else
              if ix 0 (ln h19 (hR h19 v0 3)) then
                if hR h19 (hR h19 v0 3) (Int.toNat 0) = 0 then none else
                lt1 (sI h19 (hR h19 (hR h19 v0 3) (Int.toNat 0)) 2 v5) fun h23 =>
                if hR h23 v0 3 = 0 then none else
                if ix 1 (ln h23 (hR h23 v0 3)) then
                  if hR h23 (hR h23 v0 3) (Int.toNat 1) = 0 then none else
                  lt1 (sI h23 (hR h23 (hR h23 v0 3) (Int.toNat 1)) 2 v6) fun h27 =>
                  some h27
                else none
              else none
            else none
          else none
        else none
      else none
    else none
  else none
def f_cSide_grants (v0 : Nat) (h : Hp) : Option (Hp) :=
  if hR h v0 33 = 0 then none else
  if ix 4 (ln h (hR h v0 33)) then
    if ix 5 (ln h (hR h v0 33)) then
      if ix 6 (ln h (hR h v0 33)) then
        if ix 7 (ln h (hR h v0 33)) then
          if ix 8 (ln h (hR h v0 33)) then
            if ix 9 (ln h (hR h v0 33)) then
              if hR h v0 11 = 0 then none else
              b1 (f_cHall_grants (hR h v0 11) (hI h (hR h v0 33) (Int.toNat 4)) (hI h (hR h v0 33) (Int.toNat 5)) (hI h (hR h v0 33) (Int.toNat 6)) (hI h (hR h v0 33) (Int.toNat 7)) (hI h (hR h v0 33) (Int.toNat 8)) (hI h (hR h v0 33) (Int.toNat 9)) h) fun h9 =>
              some h9
            else none
          else none
        else none
      else none
    else none
  else none
def f_cSide_init_b359 (k359 : Nat → Int → Hp → Option (Hp)) (v0 : Nat) (v2 : Int) (h : Hp) : Option (Hp) :=
  if 8 ≤ v2 then (
    if hR h v0 33 = 0 then none else
    if ix 8 (ln h (hR h v0 33)) then
      lt1 (sI h (hR h v0 33) (Int.toNat 8) 16) fun h201 =>
      if hR h201 v0 33 = 0 then none else
      if ix 9 (ln h201 (hR h201 v0 33)) then
        lt1 (sI h201 (hR h201 v0 33) (Int.toNat 9) 8) fun h204 =>
        b1 (f_cSide_grants v0 h204) fun h205 =>
        some h205
      else none
    else none
  ) else
  if hR h v0 33 = 0 then none else
  if ix v2 (ln h (hR h v0 33)) then
    lt1 (sI h (hR h v0 33) v2.toNat 16384) fun h209 =>
    k359 v0 (w32 (v2 + 1)) h209
  else none
def f_cSide_init_b359_lp : Nat → Nat → Int → Hp → Option (Hp)
  | 0, _, _, _ => none
  | n + 1, v0, v2, h => f_cSide_init_b359 (f_cSide_init_b359_lp n) v0 v2 h
def f_cSide_init (v0 : Nat) (v1 : Int) (h : Hp) : Option (Hp) :=
  if hN h + 1 ≤ CN ∧ hZ h + 7 ≤ CZ then
    lt1 (nwC h 3 0 7) fun h2 =>
    b1 (f_cBench_init (hN h) h2) fun h4 =>
    lt1 (sR h4 v0 3 (hN h)) fun h6 =>
    if (0 : Int) ≤ 3 ∧ hN h6 + 1 ≤ CN ∧ hZ h6 + Int.toNat 3 ≤ CZ then
      lt1 (nwC h6 107 (Int.toNat 3) (Int.toNat 3)) fun h8 =>
      if hN h8 + 1 ≤ CN ∧ hZ h8 + 6 ≤ CZ then
        lt1 (nwC h8 9 0 6) fun h11 =>
        b1 (f_cGuard_init (hN h8) h11) fun h13 =>
        if ix 0 (ln h13 (hN h6)) then
          lt1 (sR h13 (hN h6) (Int.toNat 0) (hN h8)) fun h16 =>
          if hN h16 + 1 ≤ CN ∧ hZ h16 + 6 ≤ CZ then
            lt1 (nwC h16 9 0 6) fun h18 =>
            b1 (f_cGuard_init (hN h16) h18) fun h20 =>
            if ix 1 (ln h20 (hN h6)) then
              lt1 (sR h20 (hN h6) (Int.toNat 1) (hN h16)) fun h23 =>
              if hN h23 + 1 ≤ CN ∧ hZ h23 + 6 ≤ CZ then
                lt1 (nwC h23 9 0 6) fun h25 =>
                b1 (f_cGuard_init (hN h23) h25) fun h27 =>
                if ix 2 (ln h27 (hN h6)) then
                  lt1 (sR h27 (hN h6) (Int.toNat 2) (hN h23)) fun h30 =>
                  lt1 (sR h30 v0 4 (hN h6)) fun h31 =>
                  if (0 : Int) ≤ 3 ∧ hN h31 + 1 ≤ CN ∧ hZ h31 + Int.toNat 3 ≤ CZ then
                    lt1 (nwC h31 107 (Int.toNat 3) (Int.toNat 3)) fun h33 =>
                    if hN h33 + 1 ≤ CN ∧ hZ h33 + 6 ≤ CZ then
                      lt1 (nwC h33 9 0 6) fun h36 =>
                      b1 (f_cGuard_init (hN h33) h36) fun h38 =>
                      if ix 0 (ln h38 (hN h31)) then
                        lt1 (sR h38 (hN h31) (Int.toNat 0) (hN h33)) fun h41 =>
                        if hN h41 + 1 ≤ CN ∧ hZ h41 + 6 ≤ CZ then
                          lt1 (nwC h41 9 0 6) fun h43 =>
                          b1 (f_cGuard_init (hN h41) h43) fun h45 =>
                          if ix 1 (ln h45 (hN h31)) then
                            lt1 (sR h45 (hN h31) (Int.toNat 1) (hN h41)) fun h48 =>
                            if hN h48 + 1 ≤ CN ∧ hZ h48 + 6 ≤ CZ then
                              lt1 (nwC h48 9 0 6) fun h50 =>
                              b1 (f_cGuard_init (hN h48) h50) fun h52 =>
                              if ix 2 (ln h52 (hN h31)) then
                                lt1 (sR h52 (hN h31) (Int.toNat 2) (hN h48)) fun h55 =>
                                lt1 (sR h55 v0 5 (hN h31)) fun h56 =>
                                if (0 : Int) ≤ 3 ∧ hN h56 + 1 ≤ CN ∧ hZ h56 + Int.toNat 3 ≤ CZ then
                                  lt1 (nwC h56 103 (Int.toNat 3) (Int.toNat 3)) fun h58 =>
                                  lt1 (sR h58 v0 6 (hN h56)) fun h60 =>
                                  if (0 : Int) ≤ 2 ∧ hN h60 + 1 ≤ CN ∧ hZ h60 + Int.toNat 2 ≤ CZ then
                                    lt1 (nwC h60 108 (Int.toNat 2) (Int.toNat 2)) fun h62 =>
                                    if hN h62 + 1 ≤ CN ∧ hZ h62 + 5 ≤ CZ then
                                      lt1 (nwC h62 10 0 5) fun h65 =>
                                      b1 (f_cCrypto_init (hN h62) h65) fun h67 =>
                                      if ix 0 (ln h67 (hN h60)) then
                                        lt1 (sR h67 (hN h60) (Int.toNat 0) (hN h62)) fun h70 =>
                                        if hN h70 + 1 ≤ CN ∧ hZ h70 + 5 ≤ CZ then
                                          lt1 (nwC h70 10 0 5) fun h72 =>
                                          b1 (f_cCrypto_init (hN h70) h72) fun h74 =>
                                          if ix 1 (ln h74 (hN h60)) then
                                            lt1 (sR h74 (hN h60) (Int.toNat 1) (hN h70)) fun h77 =>
                                            lt1 (sR h77 v0 8 (hN h60)) fun h78 =>
                                            if hN h78 + 1 ≤ CN ∧ hZ h78 + 11 ≤ CZ then
                                              lt1 (nwC h78 11 0 11) fun h80 =>
                                              b1 (f_cBook_init (hN h78) h80) fun h82 =>
                                              lt1 (sR h82 v0 9 (hN h78)) fun h84 =>
                                              if (0 : Int) ≤ 3 ∧ hN h84 + 1 ≤ CN ∧ hZ h84 + Int.toNat 3 ≤ CZ then
                                                lt1 (nwC h84 110 (Int.toNat 3) (Int.toNat 3)) fun h86 =>
                                                if hN h86 + 1 ≤ CN ∧ hZ h86 + 8 ≤ CZ then
                                                  lt1 (nwC h86 17 0 8) fun h89 =>
                                                  b1 (f_cCargo_init (hN h86) h89) fun h91 =>
                                                  if ix 0 (ln h91 (hN h84)) then
                                                    lt1 (sR h91 (hN h84) (Int.toNat 0) (hN h86)) fun h94 =>
                                                    if hN h94 + 1 ≤ CN ∧ hZ h94 + 8 ≤ CZ then
                                                      lt1 (nwC h94 17 0 8) fun h96 =>
                                                      b1 (f_cCargo_init (hN h94) h96) fun h98 =>
                                                      if ix 1 (ln h98 (hN h84)) then
                                                        lt1 (sR h98 (hN h84) (Int.toNat 1) (hN h94)) fun h101 =>
                                                        if hN h101 + 1 ≤ CN ∧ hZ h101 + 8 ≤ CZ then
                                                          lt1 (nwC h101 17 0 8) fun h103 =>
                                                          b1 (f_cCargo_init (hN h101) h103) fun h105 =>
                                                          if ix 2 (ln h105 (hN h84)) then
                                                            lt1 (sR h105 (hN h84) (Int.toNat 2) (hN h101)) fun h108 =>
                                                            lt1 (sR h108 v0 10 (hN h84)) fun h109 =>
                                                            if (0 : Int) ≤ 24 ∧ hN h109 + 1 ≤ CN ∧ hZ h109 + Int.toNat 24 ≤ CZ then
                                                              lt1 (nwC h109 102 (Int.toNat 24) (Int.toNat 24)) fun h111 =>
                                                              lt1 (sR h111 v0 12 (hN h109)) fun h113 =>
                                                              if (0 : Int) ≤ 3 ∧ hN h113 + 1 ≤ CN ∧ hZ h113 + Int.toNat 3 ≤ CZ then
                                                                lt1 (nwC h113 101 (Int.toNat 3) (Int.toNat 3)) fun h115 =>
                                                                lt1 (sR h115 v0 32 (hN h113)) fun h117 =>
                                                                if (0 : Int) ≤ 10 ∧ hN h117 + 1 ≤ CN ∧ hZ h117 + Int.toNat 10 ≤ CZ then
                                                                  lt1 (nwC h117 101 (Int.toNat 10) (Int.toNat 10)) fun h119 =>
                                                                  lt1 (sR h119 v0 33 (hN h117)) fun h121 =>
                                                                  if hN h121 + 1 ≤ CN ∧ hZ h121 + 5 ≤ CZ then
                                                                    lt1 (nwC h121 18 0 5) fun h123 =>
                                                                    b1 (f_cParameters_init (hN h121) h123) fun h125 =>
                                                                    lt1 (sR h125 v0 34 (hN h121)) fun h127 =>
                                                                    if hN h127 + 1 ≤ CN ∧ hZ h127 + 4 ≤ CZ then
                                                                      lt1 (nwC h127 19 0 4) fun h129 =>
                                                                      b1 (f_cBytes_init (hN h127) h129) fun h131 =>
                                                                      lt1 (sR h131 v0 35 (hN h127)) fun h133 =>
                                                                      if hN h133 + 1 ≤ CN ∧ hZ h133 + 4 ≤ CZ then
                                                                        lt1 (nwC h133 19 0 4) fun h135 =>
                                                                        b1 (f_cBytes_init (hN h133) h135) fun h137 =>
                                                                        lt1 (sR h137 v0 36 (hN h133)) fun h139 =>
                                                                        if hN h139 + 1 ≤ CN ∧ hZ h139 + 13 ≤ CZ then
                                                                          lt1 (nwC h139 20 0 13) fun h141 =>
                                                                          b1 (f_cHeader_init (hN h139) h141) fun h143 =>
                                                                          lt1 (sR h143 v0 37 (hN h139)) fun h145 =>
                                                                          if hN h145 + 1 ≤ CN ∧ hZ h145 + 14 ≤ CZ then
                                                                            lt1 (nwC h145 21 0 14) fun h147 =>
                                                                            b1 (f_cFrame_init (hN h145) h147) fun h149 =>
                                                                            lt1 (sR h149 v0 38 (hN h145)) fun h151 =>
                                                                            if (0 : Int) ≤ 1264 ∧ hN h151 + 1 ≤ CN ∧ hZ h151 + Int.toNat 1264 ≤ CZ then
                                                                              lt1 (nwC h151 102 (Int.toNat 1264) (Int.toNat 1264)) fun h153 =>
                                                                              lt1 (sR h153 v0 39 (hN h151)) fun h155 =>
                                                                              if (0 : Int) ≤ 1200 ∧ hN h155 + 1 ≤ CN ∧ hZ h155 + Int.toNat 1200 ≤ CZ then
                                                                                lt1 (nwC h155 102 (Int.toNat 1200) (Int.toNat 1200)) fun h157 =>
                                                                                lt1 (sR h157 v0 40 (hN h155)) fun h159 =>
                                                                                if hN h159 + 1 + 3 ≤ CN ∧ hZ h159 + 3 + 3 * 1200 ≤ CZ then
                                                                                  lt1 (nwM h159 111 102 3 1200 3) fun h161 =>
                                                                                  lt1 (sR h161 v0 42 (hN h159)) fun h163 =>
                                                                                  if (0 : Int) ≤ 3 ∧ hN h163 + 1 ≤ CN ∧ hZ h163 + Int.toNat 3 ≤ CZ then
                                                                                    lt1 (nwC h163 101 (Int.toNat 3) (Int.toNat 3)) fun h165 =>
                                                                                    lt1 (sR h165 v0 43 (hN h163)) fun h167 =>
                                                                                    if (0 : Int) ≤ 3 ∧ hN h167 + 1 ≤ CN ∧ hZ h167 + Int.toNat 3 ≤ CZ then
                                                                                      lt1 (nwC h167 103 (Int.toNat 3) (Int.toNat 3)) fun h169 =>
                                                                                      lt1 (sR h169 v0 44 (hN h167)) fun h171 =>
                                                                                      if (0 : Int) ≤ 3 ∧ hN h171 + 1 ≤ CN ∧ hZ h171 + Int.toNat 3 ≤ CZ then
                                                                                        lt1 (nwC h171 103 (Int.toNat 3) (Int.toNat 3)) fun h173 =>
                                                                                        lt1 (sR h173 v0 45 (hN h171)) fun h175 =>
                                                                                        if (0 : Int) ≤ 3 ∧ hN h175 + 1 ≤ CN ∧ hZ h175 + Int.toNat 3 ≤ CZ then
                                                                                          lt1 (nwC h175 103 (Int.toNat 3) (Int.toNat 3)) fun h177 =>
                                                                                          lt1 (sR h177 v0 46 (hN h175)) fun h179 =>
                                                                                          lt1 (sI h179 v0 0 v1) fun h180 =>
                                                                                          if hN h180 + 1 ≤ CN ∧ hZ h180 + 23 ≤ CZ then
                                                                                            lt1 (nwC h180 22 0 23) fun h182 =>
                                                                                            b1 (f_cGreeting_init (hN h180) v1 h182) fun h184 =>
                                                                                            lt1 (sR h184 v0 7 (hN h180)) fun h186 =>
                                                                                            if hN h186 + 1 ≤ CN ∧ hZ h186 + 23 ≤ CZ then
                                                                                              lt1 (nwC h186 24 0 23) fun h188 =>
                                                                                              b1 (f_cHall_init (hN h186) v1 h188) fun h190 =>
                                                                                              lt1 (sR h190 v0 11 (hN h186)) fun h192 =>
                                                                                              if hR h192 v0 33 = 0 then none else
                                                                                              if ix 1 (ln h192 (hR h192 v0 33)) then
                                                                                                lt1 (sI h192 (hR h192 v0 33) (Int.toNat 1) 30000) fun h195 =>
                                                                                                if hR h195 v0 33 = 0 then none else
                                                                                                if ix 4 (ln h195 (hR h195 v0 33)) then
                                                                                                  lt1 (sI h195 (hR h195 v0 33) (Int.toNat 4) 65536) fun h198 =>
                                                                                                  f_cSide_init_b359_lp FU v0 5 h198
                                                                                                else none
                                                                                              else none
                                                                                            else none
                                                                                          else none
                                                                                        else none
                                                                                      else none
                                                                                    else none
                                                                                  else none
                                                                                else none
                                                                              else none
                                                                            else none
                                                                          else none
                                                                        else none
                                                                      else none
                                                                    else none
                                                                  else none
                                                                else none
                                                              else none
                                                            else none
                                                          else none
                                                        else none
                                                      else none
                                                    else none
                                                  else none
                                                else none
                                              else none
                                            else none
                                          else none
                                        else none
                                      else none
                                    else none
                                  else none
                                else none
                              else none
                            else none
                          else none
                        else none
                      else none
                    else none
                  else none
                else none
              else none
            else none
          else none
        else none
      else none
    else none
  else none
def f_cLine_init (v0 : Nat) (h : Hp) : Option (Hp) :=
  if hN h + 1 + 96 ≤ CN ∧ hZ h + 96 + 96 * 1200 ≤ CZ then
    lt1 (nwM h 111 102 96 1200 96) fun h2 =>
    lt1 (sR h2 v0 0 (hN h)) fun h4 =>
    if (0 : Int) ≤ 96 ∧ hN h4 + 1 ≤ CN ∧ hZ h4 + Int.toNat 96 ≤ CZ then
      lt1 (nwC h4 101 (Int.toNat 96) (Int.toNat 96)) fun h6 =>
      lt1 (sR h6 v0 1 (hN h4)) fun h8 =>
      if (0 : Int) ≤ 96 ∧ hN h8 + 1 ≤ CN ∧ hZ h8 + Int.toNat 96 ≤ CZ then
        lt1 (nwC h8 101 (Int.toNat 96) (Int.toNat 96)) fun h10 =>
        lt1 (sR h10 v0 2 (hN h8)) fun h12 =>
        some h12
      else none
    else none
  else none
def f_cP_init (v0 : Nat) (h : Hp) : Option (Hp) :=
  if (0 : Int) ≤ 65536 ∧ hN h + 1 ≤ CN ∧ hZ h + Int.toNat 65536 ≤ CZ then
    lt1 (nwC h 102 (Int.toNat 65536) (Int.toNat 65536)) fun h2 =>
    lt1 (sR h2 v0 0 (hN h)) fun h4 =>
    if (0 : Int) ≤ 1200 ∧ hN h4 + 1 ≤ CN ∧ hZ h4 + Int.toNat 1200 ≤ CZ then
      lt1 (nwC h4 102 (Int.toNat 1200) (Int.toNat 1200)) fun h6 =>
      lt1 (sR h6 v0 1 (hN h4)) fun h8 =>
      if (0 : Int) ≤ 2048 ∧ hN h8 + 1 ≤ CN ∧ hZ h8 + Int.toNat 2048 ≤ CZ then
        lt1 (nwC h8 102 (Int.toNat 2048) (Int.toNat 2048)) fun h10 =>
        lt1 (sR h10 v0 5 (hN h8)) fun h12 =>
        if (0 : Int) ≤ 2 ∧ hN h12 + 1 ≤ CN ∧ hZ h12 + Int.toNat 2 ≤ CZ then
          lt1 (nwC h12 106 (Int.toNat 2) (Int.toNat 2)) fun h14 =>
          if hN h14 + 1 ≤ CN ∧ hZ h14 + 47 ≤ CZ then
            lt1 (nwC h14 2 0 47) fun h17 =>
            b1 (f_cSide_init (hN h14) 0 h17) fun h19 =>
            if ix 0 (ln h19 (hN h12)) then
              lt1 (sR h19 (hN h12) (Int.toNat 0) (hN h14)) fun h22 =>
              if hN h22 + 1 ≤ CN ∧ hZ h22 + 47 ≤ CZ then
                lt1 (nwC h22 2 0 47) fun h24 =>
                b1 (f_cSide_init (hN h22) 1 h24) fun h26 =>
                if ix 1 (ln h26 (hN h12)) then
                  lt1 (sR h26 (hN h12) (Int.toNat 1) (hN h22)) fun h29 =>
                  lt1 (sR h29 v0 7 (hN h12)) fun h30 =>
                  if (0 : Int) ≤ 2 ∧ hN h30 + 1 ≤ CN ∧ hZ h30 + Int.toNat 2 ≤ CZ then
                    lt1 (nwC h30 116 (Int.toNat 2) (Int.toNat 2)) fun h32 =>
                    if hN h32 + 1 ≤ CN ∧ hZ h32 + 6 ≤ CZ then
                      lt1 (nwC h32 29 0 6) fun h35 =>
                      b1 (f_cLine_init (hN h32) h35) fun h37 =>
                      if ix 0 (ln h37 (hN h30)) then
                        lt1 (sR h37 (hN h30) (Int.toNat 0) (hN h32)) fun h40 =>
                        if hN h40 + 1 ≤ CN ∧ hZ h40 + 6 ≤ CZ then
                          lt1 (nwC h40 29 0 6) fun h42 =>
                          b1 (f_cLine_init (hN h40) h42) fun h44 =>
                          if ix 1 (ln h44 (hN h30)) then
                            lt1 (sR h44 (hN h30) (Int.toNat 1) (hN h40)) fun h47 =>
                            lt1 (sR h47 v0 8 (hN h30)) fun h48 =>
                            if hN h48 + 1 + 2 ≤ CN ∧ hZ h48 + 2 + 2 * 2 ≤ CZ then
                              lt1 (nwM h48 117 103 2 2 2) fun h50 =>
                              lt1 (sR h50 v0 9 (hN h48)) fun h52 =>
                              some h52
                            else none
                          else none
                        else none
                      else none
                    else none
                  else none
                else none
              else none
            else none
          else none
        else none
      else none
    else none
  else none
def f_cP_need (v0 : Int) (h : Hp) : Option (Hp ⊕ (Nat × Hp)) := fGuard 32 v0 h
def f_cP_ready (v0 : Int) (h : Hp) : Option (Hp ⊕ (Nat × Hp)) := fGuard 30 v0 h
def f_cP_there (v0 : Int) (h : Hp) : Option (Hp ⊕ (Nat × Hp)) := fGuard 35 v0 h
def f_cP_in (v0 : Int) (v2 : Int) (v4 : Int) (h : Hp) : Option (Int × Hp) :=
  if v0 < v2 then (
    some (0, h)
  ) else
  if v4 < v0 then (
    some (0, h)
  ) else
  some (1, h)
def f_cP_of (v0 : Nat) (v1 : Int) (h : Hp) : Option ((Nat × Hp) ⊕ (Nat × Hp)) :=
  b2 (f_cP_in v1 0 1 h) fun r3 h1 =>
  bt (f_cP_need r3 h1) (fun a6 h7 =>
    some (.inr (a6, h7))) fun h4 =>
  if hR h4 v0 7 = 0 then none else
  if ix v1 (ln h4 (hR h4 v0 7)) then
    some (.inl (hR h4 (hR h4 v0 7) v1.toNat, h4))
  else none
def f_cP_on (v0 : Nat) (v1 : Int) (v2 : Int) (h : Hp) : Option ((Nat × Hp) ⊕ (Nat × Hp)) :=
  b2 (f_cP_in v1 0 1 h) fun r3 h1 =>
  bt (f_cP_need r3 h1) (fun a6 h7 =>
    some (.inr (a6, h7))) fun h4 =>
  if hR h4 v0 8 = 0 then none else
  if ix v1 (ln h4 (hR h4 v0 8)) then
    if hR h4 (hR h4 v0 8) v1.toNat = 0 then none else
    b2 (f_cP_in v2 0 (w32 ((hI h4 (hR h4 (hR h4 v0 8) v1.toNat) 3) - 1)) h4) fun r14 h12 =>
    bt (f_cP_there r14 h12) (fun a17 h18 =>
      some (.inr (a17, h18))) fun h15 =>
    if hR h15 v0 8 = 0 then none else
    if ix v1 (ln h15 (hR h15 v0 8)) then
      some (.inl (hR h15 (hR h15 v0 8) v1.toNat, h15))
    else none
  else none
def f_cP_used (v0 : Nat) (h : Hp) : Option (Int × Hp) :=
  lt1 (hI h v0 2) fun y1 =>
  lt1 (sI h v0 2 0) fun h2 =>
  some (y1, h2)
def f_cP_feed_b76 (k23 : Nat → Int → Int → Int → Int → Int → Int → Hp → Option ((Int × Hp) ⊕ (Nat × Hp))) (v0 : Nat) (v1 : Int) (v2 : Int) (v3 : Int) (v4 : Int) (v5 : Int) (v6 : Int) (s0 : Int) (h : Hp) : Option ((Int × Hp) ⊕ (Nat × Hp)) :=
  if hR h v0 0 = 0 then none else
  if ix (w32 ((hI h v0 2) + v6)) (ln h (hR h v0 0)) then
    lt1 (sI h (hR h v0 0) ((w32 ((hI h v0 2) + v6)).toNat) (i8 (i8 (iShr s0 (w32 (24 - (w32 (8 * (iRem v6 4))))))))) fun h9 =>
    k23 v0 v1 v2 v3 v4 v5 (w32 (v6 + 1)) h9
  else none
def f_cP_feed_b23 (k23 : Nat → Int → Int → Int → Int → Int → Int → Hp → Option ((Int × Hp) ⊕ (Nat × Hp))) (v0 : Nat) (v1 : Int) (v2 : Int) (v3 : Int) (v4 : Int) (v5 : Int) (v6 : Int) (h : Hp) : Option ((Int × Hp) ⊕ (Nat × Hp)) :=
  if 20 ≤ v6 then (
    lt1 (sI h v0 2 (w32 ((hI h v0 2) + 20))) fun h6 =>
    some (.inl (hI h6 v0 2, h6))
  ) else
  if 4 ≤ v6 then (
    if 8 ≤ v6 then (
      if 12 ≤ v6 then (
        if 16 ≤ v6 then (
          f_cP_feed_b76 k23 v0 v1 v2 v3 v4 v5 v6 v5 h
        ) else
        f_cP_feed_b76 k23 v0 v1 v2 v3 v4 v5 v6 v4 h
      ) else
      f_cP_feed_b76 k23 v0 v1 v2 v3 v4 v5 v6 v3 h
    ) else
    f_cP_feed_b76 k23 v0 v1 v2 v3 v4 v5 v6 v2 h
  ) else
  f_cP_feed_b76 k23 v0 v1 v2 v3 v4 v5 v6 v1 h
def f_cP_feed_b23_lp : Nat → Nat → Int → Int → Int → Int → Int → Int → Hp → Option ((Int × Hp) ⊕ (Nat × Hp))
  | 0, _, _, _, _, _, _, _, _ => none
  | n + 1, v0, v1, v2, v3, v4, v5, v6, h => f_cP_feed_b23 (f_cP_feed_b23_lp n) v0 v1 v2 v3 v4 v5 v6 h
def f_cP_feed_b17 (v0 : Nat) (v1 : Int) (v2 : Int) (v3 : Int) (v4 : Int) (v5 : Int) (s0 : Int) (h : Hp) : Option ((Int × Hp) ⊕ (Nat × Hp)) :=
  bt (f_cP_ready s0 h) (fun a3 h4 =>
    some (.inr (a3, h4))) fun h1 =>
  f_cP_feed_b23_lp FU v0 v1 v2 v3 v4 v5 0 h1
def f_cP_feed (v0 : Nat) (v1 : Int) (v2 : Int) (v3 : Int) (v4 : Int) (v5 : Int) (h : Hp) : Option ((Int × Hp) ⊕ (Nat × Hp)) :=
  if 65536 < (w32 ((hI h v0 2) + 20)) then (
    f_cP_feed_b17 v0 v1 v2 v3 v4 v5 0 h
  ) else
  f_cP_feed_b17 v0 v1 v2 v3 v4 v5 1 h
def f_cP_end (v0 : Nat) (v1 : Int) (h : Hp) : Option ((Int × Hp) ⊕ (Nat × Hp)) :=
  b2 (f_cP_in v1 0 (hI h v0 2) h) fun r3 h1 =>
  bt (f_cP_need r3 h1) (fun a6 h7 =>
    some (.inr (a6, h7))) fun h4 =>
  lt1 (hI h4 v0 2) fun y9 =>
  lt1 (sI h4 v0 2 v1) fun h10 =>
  some (.inl (y9, h10))
def f_cP_told_b64 (v0 : Nat) (v1 : Int) (v2 : Int) (s0 : Nat) (s1 : Int) (s2 : Nat) (h : Hp) : Option ((Hp) ⊕ (Nat × Hp)) :=
  b2 (f_cP_used v0 h) fun r24 h22 =>
  if s0 = 0 then none else
  if s2 = 0 then none else
  if cpk s1 0 r24 (ln h22 s0) (ln h22 s2) then
    lt1 (cpI h22 s0 s1.toNat s2 (Int.toNat 0) r24.toNat) fun h28 =>
    if hR h28 v0 9 = 0 then none else
    if ix v1 (ln h28 (hR h28 v0 9)) then
      if hR h28 (hR h28 v0 9) v1.toNat = 0 then none else
      if ix v2 (ln h28 (hR h28 (hR h28 v0 9) v1.toNat)) then
        lt1 (sI h28 (hR h28 (hR h28 v0 9) v1.toNat) v2.toNat 1) fun h33 =>
        some (.inl h33)
      else none
    else none
  else none
def f_cP_told_b35 (v0 : Nat) (v1 : Int) (v2 : Int) (v3 : Nat) (s0 : Int) (h : Hp) : Option ((Hp) ⊕ (Nat × Hp)) :=
  bt (f_cP_ready s0 h) (fun a15 h16 =>
    some (.inr (a15, h16))) fun h13 =>
  if v2 ≠ 0 then (
    if v3 = 0 then none else
    if hR h13 v3 7 = 0 then none else
    f_cP_told_b64 v0 v1 v2 (hR h13 v0 0) 0 (hR h13 (hR h13 v3 7) 2) h13
  ) else
  if v3 = 0 then none else
  if hR h13 v3 7 = 0 then none else
  f_cP_told_b64 v0 v1 v2 (hR h13 v0 0) 0 (hR h13 (hR h13 v3 7) 1) h13
def f_cP_told_b20 (v0 : Nat) (v1 : Int) (v2 : Int) (v3 : Nat) (s0 : Int) (h : Hp) : Option ((Hp) ⊕ (Nat × Hp)) :=
  bt (f_cP_need s0 h) (fun a9 h10 =>
    some (.inr (a9, h10))) fun h7 =>
  if v3 = 0 then none else
  if (hI h7 v3 1) ≠ 0 then (
    f_cP_told_b35 v0 v1 v2 v3 0 h7
  ) else
  f_cP_told_b35 v0 v1 v2 v3 1 h7
def f_cP_told (v0 : Nat) (v1 : Int) (v2 : Int) (h : Hp) : Option ((Hp) ⊕ (Nat × Hp)) :=
  bt2 (f_cP_of v0 v1 h) (fun a3 h4 =>
    some (.inr (a3, h4))) fun r6 h1 =>
  if (hI h1 v0 2) ≠ 32 then (
    f_cP_told_b20 v0 v1 v2 r6 0 h1
  ) else
  f_cP_told_b20 v0 v1 v2 r6 1 h1
def f_cP_key (v0 : Nat) (v1 : Int) (h : Hp) : Option ((Hp) ⊕ (Nat × Hp)) :=
  bt (f_cP_told v0 v1 0 h) (fun a3 h4 =>
    some (.inr (a3, h4))) fun h1 =>
  some (.inl h1)
def f_cP_random (v0 : Nat) (v1 : Int) (h : Hp) : Option ((Hp) ⊕ (Nat × Hp)) :=
  bt (f_cP_told v0 v1 1 h) (fun a3 h4 =>
    some (.inr (a3, h4))) fun h1 =>
  some (.inl h1)
def f_cP_parameter_b82 (v0 : Nat) (v2 : Int) (v3 : Int) (v4 : Nat) (s0 : Int) (h : Hp) : Option ((Hp) ⊕ (Nat × Hp)) :=
  bt (f_cP_ready s0 h) (fun a18 h19 =>
    some (.inr (a18, h19))) fun h16 =>
  if v4 = 0 then none else
  if hR h16 v4 33 = 0 then none else
  if ix v2 (ln h16 (hR h16 v4 33)) then
    lt1 (sI h16 (hR h16 v4 33) v2.toNat v3) fun h24 =>
    b1 (f_cSide_grants v4 h24) fun h25 =>
    some (.inl h25)
  else none
def f_cP_parameter_b66 (v0 : Nat) (v2 : Int) (v3 : Int) (v4 : Nat) (s0 : Int) (h : Hp) : Option ((Hp) ⊕ (Nat × Hp)) :=
  bt (f_cP_need s0 h) (fun a12 h13 =>
    some (.inr (a12, h13))) fun h10 =>
  if v4 = 0 then none else
  if (hI h10 v4 1) ≠ 0 then (
    f_cP_parameter_b82 v0 v2 v3 v4 0 h10
  ) else
  f_cP_parameter_b82 v0 v2 v3 v4 1 h10
def f_cP_parameter_b65 (v0 : Nat) (v2 : Int) (v3 : Int) (v4 : Nat) (h : Hp) : Option ((Hp) ⊕ (Nat × Hp)) :=
  f_cP_parameter_b66 v0 v2 v3 v4 0 h
def f_cP_parameter_b55 (v0 : Nat) (v2 : Int) (v3 : Int) (v4 : Nat) (s0 : Int) (s1 : Int) (s2 : Int) (h : Hp) : Option ((Hp) ⊕ (Nat × Hp)) :=
  b2 (f_cP_in s0 s1 s2 h) fun r29 h27 =>
  if r29 = 0 then (
    f_cP_parameter_b65 v0 v2 v3 v4 h27
  ) else
  f_cP_parameter_b66 v0 v2 v3 v4 1 h27
def f_cP_parameter_b26 (v0 : Nat) (v2 : Int) (v3 : Int) (v4 : Nat) (h : Hp) : Option ((Hp) ⊕ (Nat × Hp)) :=
  if v2 ≠ 1 then (
    if v2 ≤ 7 then (
      f_cP_parameter_b55 v0 v2 v3 v4 v3 0 65536 h
    ) else
    f_cP_parameter_b55 v0 v2 v3 v4 v3 0 64 h
  ) else
  f_cP_parameter_b55 v0 v2 v3 v4 v3 0 200000 h
def f_cP_parameter (v0 : Nat) (v1 : Int) (v2 : Int) (v3 : Int) (h : Hp) : Option ((Hp) ⊕ (Nat × Hp)) :=
  bt2 (f_cP_of v0 v1 h) (fun a3 h4 =>
    some (.inr (a3, h4))) fun r6 h1 =>
  if v2 = 1 then (
    f_cP_parameter_b26 v0 v2 v3 r6 h1
  ) else
  b2 (f_cP_in v2 4 9 h1) fun r9 h7 =>
  if r9 = 0 then (
    f_cP_parameter_b65 v0 v2 v3 r6 h7
  ) else
  f_cP_parameter_b26 v0 v2 v3 r6 h7
def f_cHash_begin (v0 : Nat) (h : Hp) : Option (Hp) :=
  if hR h 40 0 = 0 then none else
  if hR h v0 0 = 0 then none else
  if cpk 0 0 8 (ln h (hR h 40 0)) (ln h (hR h v0 0)) then
    lt1 (cpI h (hR h 40 0) (Int.toNat 0) (hR h v0 0) (Int.toNat 0) (Int.toNat 8)) fun h4 =>
    lt1 (sI h4 v0 3 0) fun h5 =>
    lt1 (sJ h5 v0 4 0) fun h6 =>
    some h6
  else none
def f_jInteger_rotateRight (v0 : Int) (v1 : Int) (h : Hp) : Option (Int × Hp) :=
  some (iOr (iUshr v0 v1) (iShl v0 (w32 (-v1))), h)
def f_cHash_spread_b89 (k89 : Nat → Int → Hp → Option (Hp)) (v0 : Nat) (v1 : Int) (h : Hp) : Option (Hp) :=
  if 64 ≤ v1 then (
    some h
  ) else
  if hR h v0 1 = 0 then none else
  if ix (w32 (v1 - 15)) (ln h (hR h v0 1)) then
    lt1 (hI h (hR h v0 1) ((w32 (v1 - 15)).toNat)) fun y11 =>
    if ix (w32 (v1 - 2)) (ln h (hR h v0 1)) then
      lt1 (hI h (hR h v0 1) ((w32 (v1 - 2)).toNat)) fun y13 =>
      b2 (f_jInteger_rotateRight y11 7 h) fun r16 h14 =>
      b2 (f_jInteger_rotateRight y11 18 h14) fun r19 h17 =>
      lt1 (iXor (iXor r16 r19) (iUshr y11 3)) fun y20 =>
      b2 (f_jInteger_rotateRight y13 17 h17) fun r23 h21 =>
      b2 (f_jInteger_rotateRight y13 19 h21) fun r26 h24 =>
      lt1 (iXor (iXor r23 r26) (iUshr y13 10)) fun y27 =>
      if hR h24 v0 1 = 0 then none else
      if ix (w32 (v1 - 16)) (ln h24 (hR h24 v0 1)) then
        if ix (w32 (v1 - 7)) (ln h24 (hR h24 v0 1)) then
          if ix v1 (ln h24 (hR h24 v0 1)) then
            lt1 (sI h24 (hR h24 v0 1) v1.toNat (w32 ((w32 ((w32 ((hI h24 (hR h24 v0 1) ((w32 (v1 - 16)).toNat)) + y20)) + (hI h24 (hR h24 v0 1) ((w32 (v1 - 7)).toNat)))) + y27))) fun h32 =>
            k89 v0 (w32 (v1 + 1)) h32
          else none
        else none
      else none
    else none
  else none
def f_cHash_spread_b89_lp : Nat → Nat → Int → Hp → Option (Hp)
  | 0, _, _, _ => none
  | n + 1, v0, v1, h => f_cHash_spread_b89 (f_cHash_spread_b89_lp n) v0 v1 h
def f_cHash_spread_b2 (k2 : Nat → Int → Hp → Option (Hp)) (v0 : Nat) (v1 : Int) (h : Hp) : Option (Hp) :=
  if 16 ≤ v1 then (
    f_cHash_spread_b89_lp FU v0 16 h
  ) else
  if hR h v0 2 = 0 then none else
  if ix (w32 (4 * v1)) (ln h (hR h v0 2)) then
    if ix (w32 ((w32 (4 * v1)) + 1)) (ln h (hR h v0 2)) then
      if ix (w32 ((w32 (4 * v1)) + 2)) (ln h (hR h v0 2)) then
        if ix (w32 ((w32 (4 * v1)) + 3)) (ln h (hR h v0 2)) then
          if hR h v0 1 = 0 then none else
          if ix v1 (ln h (hR h v0 1)) then
            lt1 (sI h (hR h v0 1) v1.toNat (iOr (iOr (iOr (iShl (iAnd (hI h (hR h v0 2) ((w32 (4 * v1)).toNat)) 255) 24) (iShl (iAnd (hI h (hR h v0 2) ((w32 ((w32 (4 * v1)) + 1)).toNat)) 255) 16)) (iShl (iAnd (hI h (hR h v0 2) ((w32 ((w32 (4 * v1)) + 2)).toNat)) 255) 8)) (iAnd (hI h (hR h v0 2) ((w32 ((w32 (4 * v1)) + 3)).toNat)) 255))) fun h8 =>
            k2 v0 (w32 (v1 + 1)) h8
          else none
        else none
      else none
    else none
  else none
def f_cHash_spread_b2_lp : Nat → Nat → Int → Hp → Option (Hp)
  | 0, _, _, _ => none
  | n + 1, v0, v1, h => f_cHash_spread_b2 (f_cHash_spread_b2_lp n) v0 v1 h
def f_cHash_spread (v0 : Nat) (h : Hp) : Option (Hp) :=
  f_cHash_spread_b2_lp FU v0 0 h
def f_cHash_work_b70 (k70 : Nat → Int → Int → Int → Int → Int → Int → Int → Int → Int → Hp → Option (Hp)) (v0 : Nat) (v1 : Int) (v2 : Int) (v3 : Int) (v4 : Int) (v5 : Int) (v6 : Int) (v7 : Int) (v8 : Int) (v9 : Int) (h : Hp) : Option (Hp) :=
  if 64 ≤ v9 then (
    if hR h v0 0 = 0 then none else
    if ix 0 (ln h (hR h v0 0)) then
      if ix 0 (ln h (hR h v0 0)) then
        lt1 (sI h (hR h v0 0) (Int.toNat 0) (w32 ((hI h (hR h v0 0) (Int.toNat 0)) + v1))) fun h23 =>
        if hR h23 v0 0 = 0 then none else
        if ix 1 (ln h23 (hR h23 v0 0)) then
          if ix 1 (ln h23 (hR h23 v0 0)) then
            lt1 (sI h23 (hR h23 v0 0) (Int.toNat 1) (w32 ((hI h23 (hR h23 v0 0) (Int.toNat 1)) + v2))) fun h27 =>
            if hR h27 v0 0 = 0 then none else
            if ix 2 (ln h27 (hR h27 v0 0)) then
              if ix 2 (ln h27 (hR h27 v0 0)) then
                lt1 (sI h27 (hR h27 v0 0) (Int.toNat 2) (w32 ((hI h27 (hR h27 v0 0) (Int.toNat 2)) + v3))) fun h31 =>
                if hR h31 v0 0 = 0 then none else
                if ix 3 (ln h31 (hR h31 v0 0)) then
                  if ix 3 (ln h31 (hR h31 v0 0)) then
                    lt1 (sI h31 (hR h31 v0 0) (Int.toNat 3) (w32 ((hI h31 (hR h31 v0 0) (Int.toNat 3)) + v4))) fun h35 =>
                    if hR h35 v0 0 = 0 then none else
                    if ix 4 (ln h35 (hR h35 v0 0)) then
                      if ix 4 (ln h35 (hR h35 v0 0)) then
                        lt1 (sI h35 (hR h35 v0 0) (Int.toNat 4) (w32 ((hI h35 (hR h35 v0 0) (Int.toNat 4)) + v5))) fun h39 =>
                        if hR h39 v0 0 = 0 then none else
                        if ix 5 (ln h39 (hR h39 v0 0)) then
                          if ix 5 (ln h39 (hR h39 v0 0)) then
                            lt1 (sI h39 (hR h39 v0 0) (Int.toNat 5) (w32 ((hI h39 (hR h39 v0 0) (Int.toNat 5)) + v6))) fun h43 =>
                            if hR h43 v0 0 = 0 then none else
                            if ix 6 (ln h43 (hR h43 v0 0)) then
                              if ix 6 (ln h43 (hR h43 v0 0)) then
                                lt1 (sI h43 (hR h43 v0 0) (Int.toNat 6) (w32 ((hI h43 (hR h43 v0 0) (Int.toNat 6)) + v7))) fun h47 =>
                                if hR h47 v0 0 = 0 then none else
                                if ix 7 (ln h47 (hR h47 v0 0)) then
                                  if ix 7 (ln h47 (hR h47 v0 0)) then
                                    lt1 (sI h47 (hR h47 v0 0) (Int.toNat 7) (w32 ((hI h47 (hR h47 v0 0) (Int.toNat 7)) + v8))) fun h51 =>
                                    some h51
                                  else none
                                else none
                              else none
                            else none
                          else none
                        else none
                      else none
                    else none
                  else none
                else none
              else none
            else none
          else none
        else none
      else none
    else none
  ) else
  b2 (f_jInteger_rotateRight v5 6 h) fun r54 h52 =>
  b2 (f_jInteger_rotateRight v5 11 h52) fun r57 h55 =>
  b2 (f_jInteger_rotateRight v5 25 h55) fun r60 h58 =>
  if hR h58 40 1 = 0 then none else
  if ix v9 (ln h58 (hR h58 40 1)) then
    if hR h58 v0 1 = 0 then none else
    if ix v9 (ln h58 (hR h58 v0 1)) then
      lt1 (w32 ((w32 ((w32 ((w32 (v8 + (iXor (iXor r54 r57) r60))) + (iXor v7 (iAnd v5 (iXor v6 v7))))) + (hI h58 (hR h58 40 1) v9.toNat))) + (hI h58 (hR h58 v0 1) v9.toNat))) fun y65 =>
      b2 (f_jInteger_rotateRight v1 2 h58) fun r68 h66 =>
      b2 (f_jInteger_rotateRight v1 13 h66) fun r71 h69 =>
      b2 (f_jInteger_rotateRight v1 22 h69) fun r74 h72 =>
      lt1 (w32 ((iXor (iXor r68 r71) r74) + (iOr (iAnd v1 v2) (iAnd v3 (iOr v1 v2))))) fun y75 =>
      lt1 (w32 (v4 + y65)) fun y76 =>
      lt1 (w32 (y65 + y75)) fun y77 =>
      k70 v0 y77 v1 v2 v3 y76 v5 v6 v7 (w32 (v9 + 1)) h72
    else none
  else none
def f_cHash_work_b70_lp : Nat → Nat → Int → Int → Int → Int → Int → Int → Int → Int → Int → Hp → Option (Hp)
  | 0, _, _, _, _, _, _, _, _, _, _, _ => none
  | n + 1, v0, v1, v2, v3, v4, v5, v6, v7, v8, v9, h => f_cHash_work_b70 (f_cHash_work_b70_lp n) v0 v1 v2 v3 v4 v5 v6 v7 v8 v9 h
def f_cHash_work (v0 : Nat) (h : Hp) : Option (Hp) :=
  b1 (f_cHash_spread v0 h) fun h1 =>
  if hR h1 v0 0 = 0 then none else
  if ix 0 (ln h1 (hR h1 v0 0)) then
    lt1 (hI h1 (hR h1 v0 0) (Int.toNat 0)) fun y5 =>
    if ix 1 (ln h1 (hR h1 v0 0)) then
      lt1 (hI h1 (hR h1 v0 0) (Int.toNat 1)) fun y7 =>
      if ix 2 (ln h1 (hR h1 v0 0)) then
        lt1 (hI h1 (hR h1 v0 0) (Int.toNat 2)) fun y9 =>
        if ix 3 (ln h1 (hR h1 v0 0)) then
          lt1 (hI h1 (hR h1 v0 0) (Int.toNat 3)) fun y11 =>
          if ix 4 (ln h1 (hR h1 v0 0)) then
            lt1 (hI h1 (hR h1 v0 0) (Int.toNat 4)) fun y13 =>
            if ix 5 (ln h1 (hR h1 v0 0)) then
              lt1 (hI h1 (hR h1 v0 0) (Int.toNat 5)) fun y15 =>
              if ix 6 (ln h1 (hR h1 v0 0)) then
                lt1 (hI h1 (hR h1 v0 0) (Int.toNat 6)) fun y17 =>
                if ix 7 (ln h1 (hR h1 v0 0)) then
                  lt1 (hI h1 (hR h1 v0 0) (Int.toNat 7)) fun y19 =>
                  f_cHash_work_b70_lp FU v0 y5 y7 y9 y11 y13 y15 y17 y19 0 h1
                else none
              else none
            else none
          else none
        else none
      else none
    else none
  else none
def f_cHash_addByte (v0 : Nat) (v1 : Int) (h : Hp) : Option (Hp) :=
  if hR h v0 2 = 0 then none else
  if ix (hI h v0 3) (ln h (hR h v0 2)) then
    lt1 (sI h (hR h v0 2) ((hI h v0 3).toNat) (i8 (i8 v1))) fun h3 =>
    lt1 (sI h3 v0 3 (w32 ((hI h3 v0 3) + 1))) fun h4 =>
    if (hI h4 v0 3) ≠ 64 then (
      some h4
    ) else
    b1 (f_cHash_work v0 h4) fun h5 =>
    lt1 (sI h5 v0 3 0) fun h7 =>
    some h7
  else none
def f_cHash_add_b3 (k3 : Nat → Nat → Int → Int → Int → Hp → Option (Hp)) (v0 : Nat) (v1 : Nat) (v2 : Int) (v3 : Int) (v4 : Int) (h : Hp) : Option (Hp) :=
  if v3 ≤ v4 then (
    lt1 (sJ h v0 4 (w64 ((hJ h v0 4) + v3))) fun h1 =>
    some h1
  ) else
  if v1 = 0 then none else
  if ix (w32 (v2 + v4)) (ln h v1) then
    b1 (f_cHash_addByte v0 (hI h v1 ((w32 (v2 + v4)).toNat)) h) fun h4 =>
    k3 v0 v1 v2 v3 (w32 (v4 + 1)) h4
  else none
def f_cHash_add_b3_lp : Nat → Nat → Nat → Int → Int → Int → Hp → Option (Hp)
  | 0, _, _, _, _, _, _ => none
  | n + 1, v0, v1, v2, v3, v4, h => f_cHash_add_b3 (f_cHash_add_b3_lp n) v0 v1 v2 v3 v4 h
def f_cHash_add (v0 : Nat) (v1 : Nat) (v2 : Int) (v3 : Int) (h : Hp) : Option (Hp) :=
  f_cHash_add_b3_lp FU v0 v1 v2 v3 0 h
def f_cHash_end_b57 (k57 : Nat → Nat → Int → Int → Hp → Option (Hp)) (v0 : Nat) (v1 : Nat) (v2 : Int) (v3 : Int) (h : Hp) : Option (Hp) :=
  if 32 ≤ v3 then (
    some h
  ) else
  if hR h v0 0 = 0 then none else
  if ix (iDiv v3 4) (ln h (hR h v0 0)) then
    if v1 = 0 then none else
    if ix (w32 (v2 + v3)) (ln h v1) then
      lt1 (sI h v1 ((w32 (v2 + v3)).toNat) (i8 (i8 (iShr (hI h (hR h v0 0) ((iDiv v3 4).toNat)) (w32 (24 - (w32 (8 * (iRem v3 4))))))))) fun h11 =>
      k57 v0 v1 v2 (w32 (v3 + 1)) h11
    else none
  else none
def f_cHash_end_b57_lp : Nat → Nat → Nat → Int → Int → Hp → Option (Hp)
  | 0, _, _, _, _, _ => none
  | n + 1, v0, v1, v2, v3, h => f_cHash_end_b57 (f_cHash_end_b57_lp n) v0 v1 v2 v3 h
def f_cHash_end_b27 (k27 : Nat → Nat → Int → Int → Hp → Option (Hp)) (v0 : Nat) (v1 : Nat) (v2 : Int) (v3 : Int) (h : Hp) : Option (Hp) :=
  if v3 < 0 then (
    f_cHash_end_b57_lp FU v0 v1 v2 0 h
  ) else
  b1 (f_cHash_addByte v0 (w32 (lShr (w64 (8 * (hJ h v0 4))) (w32 (8 * v3)))) h) fun h5 =>
  k27 v0 v1 v2 (w32 (v3 + (-1))) h5
def f_cHash_end_b27_lp : Nat → Nat → Nat → Int → Int → Hp → Option (Hp)
  | 0, _, _, _, _, _ => none
  | n + 1, v0, v1, v2, v3, h => f_cHash_end_b27 (f_cHash_end_b27_lp n) v0 v1 v2 v3 h
def f_cHash_end_b7 (k7 : Nat → Nat → Int → Hp → Option (Hp)) (v0 : Nat) (v1 : Nat) (v2 : Int) (h : Hp) : Option (Hp) :=
  if (hI h v0 3) = 56 then (
    f_cHash_end_b27_lp FU v0 v1 v2 7 h
  ) else
  b1 (f_cHash_addByte v0 0 h) fun h3 =>
  k7 v0 v1 v2 h3
def f_cHash_end_b7_lp : Nat → Nat → Nat → Int → Hp → Option (Hp)
  | 0, _, _, _, _ => none
  | n + 1, v0, v1, v2, h => f_cHash_end_b7 (f_cHash_end_b7_lp n) v0 v1 v2 h
def f_cHash_end (v0 : Nat) (v1 : Nat) (v2 : Int) (h : Hp) : Option (Hp) :=
  b1 (f_cHash_addByte v0 128 h) fun h1 =>
  f_cHash_end_b7_lp FU v0 v1 v2 h1
def f_cMac_turn_b2 (k2 : Nat → Int → Int → Hp → Option (Hp)) (v0 : Nat) (v1 : Int) (v2 : Int) (h : Hp) : Option (Hp) :=
  if 64 ≤ v2 then (
    some h
  ) else
  if hR h v0 2 = 0 then none else
  if ix v2 (ln h (hR h v0 2)) then
    if ix v2 (ln h (hR h v0 2)) then
      lt1 (sI h (hR h v0 2) v2.toNat (i8 (i8 (iXor (hI h (hR h v0 2) v2.toNat) (i8 v1))))) fun h4 =>
      k2 v0 v1 (w32 (v2 + 1)) h4
    else none
  else none
def f_cMac_turn_b2_lp : Nat → Nat → Int → Int → Hp → Option (Hp)
  | 0, _, _, _, _ => none
  | n + 1, v0, v1, v2, h => f_cMac_turn_b2 (f_cMac_turn_b2_lp n) v0 v1 v2 h
def f_cMac_turn (v0 : Nat) (v1 : Int) (h : Hp) : Option (Hp) :=
  f_cMac_turn_b2_lp FU v0 v1 0 h
def f_cMac_begin_b73 (v0 : Nat) (h : Hp) : Option (Hp) :=
  b1 (f_cMac_turn v0 54 h) fun h15 =>
  if hR h15 v0 0 = 0 then none else
  b1 (f_cHash_begin (hR h15 v0 0) h15) fun h18 =>
  if hR h18 v0 0 = 0 then none else
  b1 (f_cHash_add (hR h18 v0 0) (hR h18 v0 2) 0 64 h18) fun h21 =>
  b1 (f_cMac_turn v0 106 h21) fun h23 =>
  if hR h23 v0 1 = 0 then none else
  b1 (f_cHash_begin (hR h23 v0 1) h23) fun h26 =>
  if hR h26 v0 1 = 0 then none else
  b1 (f_cHash_add (hR h26 v0 1) (hR h26 v0 2) 0 64 h26) fun h29 =>
  some h29
def f_cMac_begin_b31 (k2 : Nat → Nat → Int → Int → Hp → Option (Hp)) (v0 : Nat) (v1 : Nat) (v2 : Int) (v3 : Int) (s0 : Nat) (s1 : Int) (s2 : Int) (h : Hp) : Option (Hp) :=
  if s0 = 0 then none else
  if ix s1 (ln h s0) then
    lt1 (sI h s0 s1.toNat (i8 s2)) fun h14 =>
    k2 v0 v1 v2 (w32 (v3 + 1)) h14
  else none
def f_cMac_begin_b30 (k2 : Nat → Nat → Int → Int → Hp → Option (Hp)) (v0 : Nat) (v1 : Nat) (v2 : Int) (v3 : Int) (s0 : Nat) (s1 : Int) (h : Hp) : Option (Hp) :=
  f_cMac_begin_b31 k2 v0 v1 v2 v3 s0 s1 0 h
def f_cMac_begin_b2 (k2 : Nat → Nat → Int → Int → Hp → Option (Hp)) (v0 : Nat) (v1 : Nat) (v2 : Int) (v3 : Int) (h : Hp) : Option (Hp) :=
  if 64 ≤ v3 then (
    if v2 ≤ 64 then (
      f_cMac_begin_b73 v0 h
    ) else
    if hR h v0 0 = 0 then none else
    b1 (f_cHash_begin (hR h v0 0) h) fun h2 =>
    if hR h2 v0 0 = 0 then none else
    b1 (f_cHash_add (hR h2 v0 0) v1 0 v2 h2) fun h5 =>
    if hR h5 v0 0 = 0 then none else
    b1 (f_cHash_end (hR h5 v0 0) (hR h5 v0 2) 0 h5) fun h8 =>
    f_cMac_begin_b73 v0 h8
  ) else
  if 64 < v2 then (
    f_cMac_begin_b30 k2 v0 v1 v2 v3 (hR h v0 2) v3 h
  ) else
  if v2 ≤ v3 then (
    f_cMac_begin_b30 k2 v0 v1 v2 v3 (hR h v0 2) v3 h
  ) else
  if v1 = 0 then none else
  if ix v3 (ln h v1) then
    f_cMac_begin_b31 k2 v0 v1 v2 v3 (hR h v0 2) v3 (hI h v1 v3.toNat) h
  else none
def f_cMac_begin_b2_lp : Nat → Nat → Nat → Int → Int → Hp → Option (Hp)
  | 0, _, _, _, _, _ => none
  | n + 1, v0, v1, v2, v3, h => f_cMac_begin_b2 (f_cMac_begin_b2_lp n) v0 v1 v2 v3 h
def f_cMac_begin (v0 : Nat) (v1 : Nat) (v2 : Int) (h : Hp) : Option (Hp) :=
  f_cMac_begin_b2_lp FU v0 v1 v2 0 h
def f_cMac_add (v0 : Nat) (v1 : Nat) (v2 : Int) (v3 : Int) (h : Hp) : Option (Hp) :=
  if hR h v0 0 = 0 then none else
  b1 (f_cHash_add (hR h v0 0) v1 v2 v3 h) fun h2 =>
  some h2
def f_cMac_end (v0 : Nat) (v1 : Nat) (v2 : Int) (h : Hp) : Option (Hp) :=
  if hR h v0 0 = 0 then none else
  b1 (f_cHash_end (hR h v0 0) (hR h v0 3) 0 h) fun h2 =>
  if hR h2 v0 1 = 0 then none else
  b1 (f_cHash_add (hR h2 v0 1) (hR h2 v0 3) 0 32 h2) fun h5 =>
  if hR h5 v0 1 = 0 then none else
  b1 (f_cHash_end (hR h5 v0 1) v1 v2 h5) fun h8 =>
  some h8
def f_cGreeting_mac (v0 : Nat) (v1 : Nat) (v2 : Int) (v3 : Nat) (v4 : Int) (v5 : Int) (v6 : Nat) (h : Hp) : Option (Hp) :=
  if hR h v0 6 = 0 then none else
  if hR h (hR h v0 6) 0 = 0 then none else
  b1 (f_cMac_begin (hR h (hR h v0 6) 0) v1 v2 h) fun h3 =>
  if hR h3 v0 6 = 0 then none else
  if hR h3 (hR h3 v0 6) 0 = 0 then none else
  b1 (f_cMac_add (hR h3 (hR h3 v0 6) 0) v3 v4 v5 h3) fun h7 =>
  if hR h7 v0 6 = 0 then none else
  if hR h7 (hR h7 v0 6) 0 = 0 then none else
  b1 (f_cMac_end (hR h7 (hR h7 v0 6) 0) v6 0 h7) fun h11 =>
  some h11
def f_jString_coder (v0 : Nat) (h : Hp) : Option (Int × Hp) :=
  if (hI h 40 13) = 0 then (
    if i8 1 = 1 then some (1, h) else none
  ) else
  if i8 (hI h v0 1) = (hI h v0 1) then some (hI h v0 1, h) else none
def f_jString_length (v0 : Nat) (h : Hp) : Option (Int × Hp) :=
  if hR h v0 0 = 0 then none else
  b2 (f_jString_coder v0 h) fun r4 h2 =>
  some (iShr (ln h (hR h v0 0) : Int) r4, h2)
def f_jString_isLatin1 (v0 : Nat) (h : Hp) : Option (Int × Hp) :=
  if (hI h 40 13) = 0 then (
    some (0, h)
  ) else
  if (hI h v0 1) ≠ 0 then (
    some (0, h)
  ) else
  some (1, h)
def f_jPreconditions_checkIndex_b9 (v0 : Int) (v1 : Int) (v2 : Nat) (h : Hp) : Option (Int × Hp) :=
  none
def f_jPreconditions_checkIndex (v0 : Int) (v1 : Int) (v2 : Nat) (h : Hp) : Option (Int × Hp) :=
  if v0 < 0 then (
    f_jPreconditions_checkIndex_b9 v0 v1 v2 h
  ) else
  if v0 < v1 then (
    some (v0, h)
  ) else
  f_jPreconditions_checkIndex_b9 v0 v1 v2 h
def f_jString_checkIndex (v0 : Int) (v1 : Int) (h : Hp) : Option (Hp) :=
  b2 (f_jPreconditions_checkIndex v0 v1 (hR h 40 12) h) fun r3 h1 =>
  some h1
def f_jStringLatin1_charAt (v0 : Nat) (v1 : Int) (h : Hp) : Option (Int × Hp) :=
  if v0 = 0 then none else
  b1 (f_jString_checkIndex v1 (ln h v0 : Int) h) fun h2 =>
  if ix v1 (ln h2 v0) then
    if 0 ≤ ((iAnd (hI h2 v0 v1.toNat) 255) % 65536) ∧ ((iAnd (hI h2 v0 v1.toNat) 255) % 65536) < 65536 then some ((iAnd (hI h2 v0 v1.toNat) 255) % 65536, h2) else none
  else none
def f_jString_charAt (v0 : Nat) (v1 : Int) (h : Hp) : Option (Int × Hp) :=
  b2 (f_jString_isLatin1 v0 h) fun r3 h1 =>
  if r3 = 0 then (
    none
  ) else
  b2 (f_jStringLatin1_charAt (hR h1 v0 0) v1 h1) fun r6 h4 =>
  if 0 ≤ r6 ∧ r6 < 65536 then some (r6, h4) else none
def f_cStretch_stretch_b42 (k6 : Nat → Nat → Int → Nat → Int → Nat → Int → Int → Int → Hp → Option (Hp)) (v0 : Nat) (v1 : Nat) (v2 : Int) (v3 : Nat) (v4 : Int) (v5 : Nat) (v6 : Int) (v7 : Int) (v8 : Int) (h : Hp) : Option (Hp) :=
  if hR h v0 0 = 0 then none else
  b1 (f_cMac_add (hR h v0 0) v3 0 v4 h) fun h8 =>
  if hR h8 v0 3 = 0 then none else
  if ix 0 (ln h8 (hR h8 v0 3)) then
    lt1 (sI h8 (hR h8 v0 3) (Int.toNat 0) (i8 (i8 v8))) fun h12 =>
    if hR h12 v0 0 = 0 then none else
    b1 (f_cMac_add (hR h12 v0 0) (hR h12 v0 3) 0 1 h12) fun h14 =>
    if hR h14 v0 0 = 0 then none else
    b1 (f_cMac_end (hR h14 v0 0) (hR h14 v0 1) 0 h14) fun h17 =>
    lt1 (min 32 (w32 (v6 - v7))) fun y19 =>
    if hR h17 v0 1 = 0 then none else
    if v5 = 0 then none else
    if cpk 0 v7 y19 (ln h17 (hR h17 v0 1)) (ln h17 v5) then
      lt1 (cpI h17 (hR h17 v0 1) (Int.toNat 0) v5 v7.toNat y19.toNat) fun h23 =>
      lt1 (w32 (v7 + y19)) fun y24 =>
      k6 v0 v1 v2 v3 v4 v5 v6 y24 (w32 (v8 + 1)) h23
    else none
  else none
def f_cStretch_stretch_b6 (k6 : Nat → Nat → Int → Nat → Int → Nat → Int → Int → Int → Hp → Option (Hp)) (v0 : Nat) (v1 : Nat) (v2 : Int) (v3 : Nat) (v4 : Int) (v5 : Nat) (v6 : Int) (v7 : Int) (v8 : Int) (h : Hp) : Option (Hp) :=
  if v6 ≤ v7 then (
    some h
  ) else
  if hR h v0 0 = 0 then none else
  b1 (f_cMac_begin (hR h v0 0) v1 v2 h) fun h2 =>
  if v8 ≤ 1 then (
    f_cStretch_stretch_b42 k6 v0 v1 v2 v3 v4 v5 v6 v7 v8 h2
  ) else
  if hR h2 v0 0 = 0 then none else
  b1 (f_cMac_add (hR h2 v0 0) (hR h2 v0 1) 0 32 h2) fun h5 =>
  f_cStretch_stretch_b42 k6 v0 v1 v2 v3 v4 v5 v6 v7 v8 h5
def f_cStretch_stretch_b6_lp : Nat → Nat → Nat → Int → Nat → Int → Nat → Int → Int → Int → Hp → Option (Hp)
  | 0, _, _, _, _, _, _, _, _, _, _ => none
  | n + 1, v0, v1, v2, v3, v4, v5, v6, v7, v8, h => f_cStretch_stretch_b6 (f_cStretch_stretch_b6_lp n) v0 v1 v2 v3 v4 v5 v6 v7 v8 h
def f_cStretch_stretch (v0 : Nat) (v1 : Nat) (v2 : Int) (v3 : Nat) (v4 : Int) (v5 : Nat) (v6 : Int) (h : Hp) : Option (Hp) :=
  f_cStretch_stretch_b6_lp FU v0 v1 v2 v3 v4 v5 v6 0 1 h
def f_cStretch_label_b42 (k42 : Nat → Nat → Int → Nat → Nat → Int → Nat → Int → Int → Int → Hp → Option (Hp)) (v0 : Nat) (v1 : Nat) (v2 : Int) (v3 : Nat) (v4 : Nat) (v5 : Int) (v6 : Nat) (v7 : Int) (v8 : Int) (v9 : Int) (h : Hp) : Option (Hp) :=
  if v8 ≤ v9 then (
    if hR h v0 2 = 0 then none else
    if ix (w32 (3 + v8)) (ln h (hR h v0 2)) then
      lt1 (sI h (hR h v0 2) ((w32 (3 + v8)).toNat) (i8 (i8 v5))) fun h17 =>
      if v4 = 0 then none else
      if hR h17 v0 2 = 0 then none else
      if cpk 0 (w32 (4 + v8)) v5 (ln h17 v4) (ln h17 (hR h17 v0 2)) then
        lt1 (cpI h17 v4 (Int.toNat 0) (hR h17 v0 2) ((w32 (4 + v8)).toNat) v5.toNat) fun h21 =>
        b1 (f_cStretch_stretch v0 v1 v2 (hR h21 v0 2) (w32 ((w32 (4 + v8)) + v5)) v6 v7 h21) fun h22 =>
        some h22
      else none
    else none
  ) else
  if v3 = 0 then none else
  if hR h v3 0 = 0 then none else
  b2 (f_jString_charAt (hR h v3 0) v9 h) fun r28 h26 =>
  if hR h v0 2 = 0 then none else
  if ix (w32 (3 + v9)) (ln h26 (hR h v0 2)) then
    lt1 (sI h26 (hR h v0 2) ((w32 (3 + v9)).toNat) (i8 (i8 r28))) fun h31 =>
    k42 v0 v1 v2 v3 v4 v5 v6 v7 v8 (w32 (v9 + 1)) h31
  else none
def f_cStretch_label_b42_lp : Nat → Nat → Nat → Int → Nat → Nat → Int → Nat → Int → Int → Int → Hp → Option (Hp)
  | 0, _, _, _, _, _, _, _, _, _, _, _ => none
  | n + 1, v0, v1, v2, v3, v4, v5, v6, v7, v8, v9, h => f_cStretch_label_b42 (f_cStretch_label_b42_lp n) v0 v1 v2 v3 v4 v5 v6 v7 v8 v9 h
def f_cStretch_label (v0 : Nat) (v1 : Nat) (v2 : Int) (v3 : Nat) (v4 : Nat) (v5 : Int) (v6 : Nat) (v7 : Int) (h : Hp) : Option (Hp) :=
  if v3 = 0 then none else
  if hR h v3 0 = 0 then none else
  b2 (f_jString_length (hR h v3 0) h) fun r5 h3 =>
  if hR h3 v0 2 = 0 then none else
  if ix 0 (ln h3 (hR h3 v0 2)) then
    lt1 (sI h3 (hR h3 v0 2) (Int.toNat 0) (i8 (i8 (iShr v7 8)))) fun h8 =>
    if hR h8 v0 2 = 0 then none else
    if ix 1 (ln h8 (hR h8 v0 2)) then
      lt1 (sI h8 (hR h8 v0 2) (Int.toNat 1) (i8 (i8 v7))) fun h11 =>
      if hR h11 v0 2 = 0 then none else
      if ix 2 (ln h11 (hR h11 v0 2)) then
        lt1 (sI h11 (hR h11 v0 2) (Int.toNat 2) (i8 (i8 r5))) fun h14 =>
        f_cStretch_label_b42_lp FU v0 v1 v2 v3 v4 v5 v6 v7 r5 0 h14
      else none
    else none
  else none
def f_cGreeting_secrets (v0 : Nat) (v1 : Int) (v2 : Nat) (v3 : Nat) (v4 : Nat) (v5 : Nat) (v6 : Int) (h : Hp) : Option (Hp) :=
  if hR h v0 10 = 0 then none else
  if ix (w32 (2 * v1)) (ln h (hR h v0 10)) then
    if hR h v0 6 = 0 then none else
    b1 (f_cStretch_label (hR h v0 6) v2 32 v3 v5 v6 (hR h (hR h v0 10) ((w32 (2 * v1)).toNat)) 32 h) fun h4 =>
    if hR h4 v0 10 = 0 then none else
    if ix (w32 ((w32 (2 * v1)) + 1)) (ln h4 (hR h4 v0 10)) then
      if hR h4 v0 6 = 0 then none else
      b1 (f_cStretch_label (hR h4 v0 6) v2 32 v4 v5 v6 (hR h4 (hR h4 v0 10) ((w32 ((w32 (2 * v1)) + 1)).toNat)) 32 h4) fun h9 =>
      if hR h9 v0 11 = 0 then none else
      if ix v1 (ln h9 (hR h9 v0 11)) then
        lt1 (sI h9 (hR h9 v0 11) v1.toNat 1) fun h13 =>
        some h13
      else none
    else none
  else none
def f_cGreeting_first_b3 (k3 : Nat → Nat → Int → Int → Int → Hp → Option (Hp)) (v0 : Nat) (v1 : Nat) (v2 : Int) (v3 : Int) (v4 : Int) (h : Hp) : Option (Hp) :=
  if 20 ≤ v4 then (
    b1 (f_cGreeting_mac v0 (hR h v0 15) 20 v1 v2 v3 (hR h v0 14) h) fun h1 =>
    if hR h1 v0 14 = 0 then none else
    if hR h1 v0 15 = 0 then none else
    if cpk 0 0 32 (ln h1 (hR h1 v0 14)) (ln h1 (hR h1 v0 15)) then
      lt1 (cpI h1 (hR h1 v0 14) (Int.toNat 0) (hR h1 v0 15) (Int.toNat 0) (Int.toNat 32)) fun h6 =>
      b1 (f_cGreeting_secrets v0 0 (hR h6 v0 15) (hR h6 40 5) (hR h6 40 6) (hR h6 v0 16) 0 h6) fun h7 =>
      some h7
    else none
  ) else
  if hR h v0 15 = 0 then none else
  if ix v4 (ln h (hR h v0 15)) then
    lt1 (sI h (hR h v0 15) v4.toNat (i8 (i8 (w32 (v4 + 1))))) fun h11 =>
    k3 v0 v1 v2 v3 (w32 (v4 + 1)) h11
  else none
def f_cGreeting_first_b3_lp : Nat → Nat → Nat → Int → Int → Int → Hp → Option (Hp)
  | 0, _, _, _, _, _, _ => none
  | n + 1, v0, v1, v2, v3, v4, h => f_cGreeting_first_b3 (f_cGreeting_first_b3_lp n) v0 v1 v2 v3 v4 h
def f_cGreeting_first (v0 : Nat) (v1 : Nat) (v2 : Int) (v3 : Int) (h : Hp) : Option (Hp) :=
  f_cGreeting_first_b3_lp FU v0 v1 v2 v3 0 h
def f_cGuard_makeKeys (v0 : Nat) (v1 : Nat) (h : Hp) : Option (Hp) :=
  if v1 = 0 then none else
  if hR h v1 0 = 0 then none else
  b1 (f_cStretch_label (hR h v1 0) (hR h v0 0) 32 (hR h 40 2) (hR h v1 3) 0 (hR h v0 1) 32 h) fun h3 =>
  if hR h3 v1 0 = 0 then none else
  b1 (f_cStretch_label (hR h3 v1 0) (hR h3 v0 0) 32 (hR h3 40 3) (hR h3 v1 3) 0 (hR h3 v0 2) 12 h3) fun h6 =>
  some h6
def f_cGuard_arm (v0 : Nat) (v1 : Nat) (v2 : Nat) (h : Hp) : Option (Hp) :=
  if v1 = 0 then none else
  if hR h v0 0 = 0 then none else
  if cpk 0 0 32 (ln h v1) (ln h (hR h v0 0)) then
    lt1 (cpI h v1 (Int.toNat 0) (hR h v0 0) (Int.toNat 0) (Int.toNat 32)) fun h4 =>
    b1 (f_cGuard_makeKeys v0 v2 h4) fun h5 =>
    if v2 = 0 then none else
    if hR h5 v2 0 = 0 then none else
    b1 (f_cStretch_label (hR h5 v2 0) (hR h5 v0 0) 32 (hR h5 40 4) (hR h5 v2 3) 0 (hR h5 v0 3) 32 h5) fun h9 =>
    lt1 (sI h9 v0 4 1) fun h11 =>
    lt1 (sI h11 v0 5 0) fun h12 =>
    some h12
  else none
def f_cSide_arm (v0 : Nat) (v1 : Int) (h : Hp) : Option (Hp) :=
  if hR h v0 4 = 0 then none else
  if ix v1 (ln h (hR h v0 4)) then
    if hR h v0 7 = 0 then none else
    if hR h (hR h v0 7) 10 = 0 then none else
    if ix (w32 ((w32 (2 * v1)) + (hI h v0 0))) (ln h (hR h (hR h v0 7) 10)) then
      if hR h (hR h v0 4) v1.toNat = 0 then none else
      b1 (f_cGuard_arm (hR h (hR h v0 4) v1.toNat) (hR h (hR h (hR h v0 7) 10) ((w32 ((w32 (2 * v1)) + (hI h v0 0))).toNat)) (hR h v0 3) h) fun h7 =>
      if hR h7 v0 5 = 0 then none else
      if ix v1 (ln h7 (hR h7 v0 5)) then
        if hR h7 v0 7 = 0 then none else
        if hR h7 (hR h7 v0 7) 10 = 0 then none else
        if ix (w32 ((w32 ((w32 (2 * v1)) + 1)) - (hI h7 v0 0))) (ln h7 (hR h7 (hR h7 v0 7) 10)) then
          if hR h7 (hR h7 v0 5) v1.toNat = 0 then none else
          b1 (f_cGuard_arm (hR h7 (hR h7 v0 5) v1.toNat) (hR h7 (hR h7 (hR h7 v0 7) 10) ((w32 ((w32 ((w32 (2 * v1)) + 1)) - (hI h7 v0 0))).toNat)) (hR h7 v0 3) h7) fun h15 =>
          if hR h15 v0 6 = 0 then none else
          if ix v1 (ln h15 (hR h15 v0 6)) then
            lt1 (sI h15 (hR h15 v0 6) v1.toNat 1) fun h19 =>
            some h19
          else none
        else none
      else none
    else none
  else none
def f_cSide_name (v0 : Nat) (v1 : Nat) (v2 : Int) (h : Hp) : Option (Hp) :=
  if v1 = 0 then none else
  if hR h v0 12 = 0 then none else
  if cpk v2 16 8 (ln h v1) (ln h (hR h v0 12)) then
    lt1 (cpI h v1 v2.toNat (hR h v0 12) (Int.toNat 16) (Int.toNat 8)) fun h4 =>
    if hR h4 v0 7 = 0 then none else
    if hR h4 (hR h4 v0 7) 2 = 0 then none else
    if hR h4 v0 12 = 0 then none else
    if cpk 0 8 8 (ln h4 (hR h4 (hR h4 v0 7) 2)) (ln h4 (hR h4 v0 12)) then
      lt1 (cpI h4 (hR h4 (hR h4 v0 7) 2) (Int.toNat 0) (hR h4 v0 12) (Int.toNat 8) (Int.toNat 8)) fun h9 =>
      if hR h9 v0 7 = 0 then none else
      b1 (f_cGreeting_first (hR h9 v0 7) (hR h9 v0 12) 16 8 h9) fun h11 =>
      b1 (f_cSide_arm v0 0 h11) fun h13 =>
      some h13
    else none
  else none
def f_cBytes_over (v0 : Nat) (v1 : Nat) (v2 : Int) (v3 : Int) (h : Hp) : Option (Hp) :=
  lt1 (sR h v0 0 v1) fun h1 =>
  lt1 (sI h1 v0 1 v2) fun h2 =>
  lt1 (sI h2 v0 2 v3) fun h3 =>
  lt1 (sI h3 v0 3 0) fun h4 =>
  some h4
def f_cBytes_sizeOf (v0 : Int) (h : Hp) : Option (Int × Hp) :=
  if 64 ≤ v0 then (
    if 16384 ≤ v0 then (
      if 1073741824 ≤ v0 then (
        some (8, h)
      ) else
      some (4, h)
    ) else
    some (2, h)
  ) else
  some (1, h)
def f_cBytes_step_b30 (v0 : Nat) (s0 : Nat) (s1 : Int) (h : Hp) : Option (Int × Hp) :=
  if s0 = 0 then none else
  if ¬ (s1 = 0 ∨ s1 = 1) then none else
  lt1 (sI h s0 3 s1) fun h2 =>
  if (hI h2 v0 3) ≠ 0 then (
    some (0, h2)
  ) else
  some (1, h2)
def f_cBytes_step_b25 (v0 : Nat) (s0 : Nat) (h : Hp) : Option (Int × Hp) :=
  f_cBytes_step_b30 v0 s0 1 h
def f_cBytes_step (v0 : Nat) (v1 : Int) (h : Hp) : Option (Int × Hp) :=
  if (hI h v0 3) ≠ 0 then (
    f_cBytes_step_b25 v0 v0 h
  ) else
  if v1 < 0 then (
    f_cBytes_step_b25 v0 v0 h
  ) else
  if v1 ≤ (w32 ((hI h v0 2) - (hI h v0 1))) then (
    f_cBytes_step_b30 v0 v0 0 h
  ) else
  f_cBytes_step_b25 v0 v0 h
def f_cBytes_putMany_b13 (k13 : Nat → Int → Int → Hp → Option (Hp)) (v0 : Nat) (v1 : Int) (v4 : Int) (h : Hp) : Option (Hp) :=
  if v4 < 0 then (
    some h
  ) else
  lt1 (sI h v0 1 (w32 ((hI h v0 1) + 1))) fun h5 =>
  if hR h v0 0 = 0 then none else
  if ix (hI h v0 1) (ln h5 (hR h v0 0)) then
    lt1 (sI h5 (hR h v0 0) ((hI h v0 1).toNat) (i8 (i8 (w32 (lShr v1 (w32 (8 * v4))))))) fun h8 =>
    k13 v0 v1 (w32 (v4 + (-1))) h8
  else none
def f_cBytes_putMany_b13_lp : Nat → Nat → Int → Int → Hp → Option (Hp)
  | 0, _, _, _, _ => none
  | n + 1, v0, v1, v4, h => f_cBytes_putMany_b13 (f_cBytes_putMany_b13_lp n) v0 v1 v4 h
def f_cBytes_putMany (v0 : Nat) (v1 : Int) (v3 : Int) (h : Hp) : Option (Hp) :=
  b2 (f_cBytes_step v0 v3 h) fun r3 h1 =>
  if r3 = 0 then (
    some h1
  ) else
  lt1 (w32 (v3 - 1)) fun y4 =>
  f_cBytes_putMany_b13_lp FU v0 v1 y4 h1
def f_cBytes_putSized_b28 (v0 : Nat) (v1 : Int) (v3 : Int) (s0 : Int) (h : Hp) : Option (Hp) :=
  b1 (f_cBytes_putMany v0 (lOr v1 (lShl s0 (w32 ((w32 (8 * v3)) - 2)))) v3 h) fun h1 =>
  some h1
def f_cBytes_putSized (v0 : Nat) (v1 : Int) (v3 : Int) (h : Hp) : Option (Hp) :=
  if v3 ≠ 1 then (
    if v3 ≠ 2 then (
      if v3 ≠ 4 then (
        f_cBytes_putSized_b28 v0 v1 v3 3 h
      ) else
      f_cBytes_putSized_b28 v0 v1 v3 2 h
    ) else
    f_cBytes_putSized_b28 v0 v1 v3 1 h
  ) else
  f_cBytes_putSized_b28 v0 v1 v3 0 h
def f_cBytes_putNumber (v0 : Nat) (v1 : Int) (h : Hp) : Option (Hp) :=
  b2 (f_cBytes_sizeOf v1 h) fun r3 h1 =>
  b1 (f_cBytes_putSized v0 v1 r3 h1) fun h4 =>
  some h4
def f_cBytes_putRow_b11 (k11 : Nat → Nat → Int → Int → Int → Hp → Option (Hp)) (v0 : Nat) (v1 : Nat) (v2 : Int) (v3 : Int) (v4 : Int) (h : Hp) : Option (Hp) :=
  if v3 ≤ v4 then (
    some h
  ) else
  lt1 (sI h v0 1 (w32 ((hI h v0 1) + 1))) fun h4 =>
  if v1 = 0 then none else
  if ix (w32 (v2 + v4)) (ln h4 v1) then
    if hR h v0 0 = 0 then none else
    if ix (hI h v0 1) (ln h4 (hR h v0 0)) then
      lt1 (sI h4 (hR h v0 0) ((hI h v0 1).toNat) (i8 (hI h4 v1 ((w32 (v2 + v4)).toNat)))) fun h9 =>
      k11 v0 v1 v2 v3 (w32 (v4 + 1)) h9
    else none
  else none
def f_cBytes_putRow_b11_lp : Nat → Nat → Nat → Int → Int → Int → Hp → Option (Hp)
  | 0, _, _, _, _, _, _ => none
  | n + 1, v0, v1, v2, v3, v4, h => f_cBytes_putRow_b11 (f_cBytes_putRow_b11_lp n) v0 v1 v2 v3 v4 h
def f_cBytes_putRow (v0 : Nat) (v1 : Nat) (v2 : Int) (v3 : Int) (h : Hp) : Option (Hp) :=
  b2 (f_cBytes_step v0 v3 h) fun r3 h1 =>
  if r3 = 0 then (
    some h1
  ) else
  f_cBytes_putRow_b11_lp FU v0 v1 v2 v3 0 h1
def f_cSide_put_II (v0 : Nat) (v1 : Int) (v2 : Int) (h : Hp) : Option (Hp) :=
  if hR h v0 36 = 0 then none else
  b1 (f_cBytes_putNumber (hR h v0 36) v1 h) fun h2 =>
  if hR h2 v0 36 = 0 then none else
  b1 (f_cBytes_putNumber (hR h2 v0 36) 8 h2) fun h5 =>
  if hR h5 v0 36 = 0 then none else
  b1 (f_cBytes_putRow (hR h5 v0 36) (hR h5 v0 12) (w32 (v2 * 8)) 8 h5) fun h8 =>
  some h8
def f_cSide_tell_b148 (k34 : Nat → Int → Hp → Option (Hp)) (v0 : Nat) (v1 : Int) (h : Hp) : Option (Hp) :=
  k34 v0 (w32 (v1 + 1)) h
def f_cSide_tell_b119 (k34 : Nat → Int → Hp → Option (Hp)) (v0 : Nat) (v1 : Int) (v2 : Int) (h : Hp) : Option (Hp) :=
  if hR h v0 36 = 0 then none else
  b1 (f_cBytes_putNumber (hR h v0 36) v1 h) fun h15 =>
  b2 (f_cBytes_sizeOf v2 h15) fun r19 h17 =>
  if hR h15 v0 36 = 0 then none else
  b1 (f_cBytes_putNumber (hR h15 v0 36) r19 h17) fun h21 =>
  if hR h21 v0 36 = 0 then none else
  b1 (f_cBytes_putNumber (hR h21 v0 36) v2 h21) fun h24 =>
  f_cSide_tell_b148 k34 v0 v1 h24
def f_cSide_tell_b97 (k34 : Nat → Int → Hp → Option (Hp)) (v0 : Nat) (v1 : Int) (s0 : Int) (h : Hp) : Option (Hp) :=
  if s0 < 0 then (
    f_cSide_tell_b148 k34 v0 v1 h
  ) else
  if s0 ≠ 0 then (
    f_cSide_tell_b119 k34 v0 v1 s0 h
  ) else
  if v1 = 10 then (
    f_cSide_tell_b119 k34 v0 v1 s0 h
  ) else
  f_cSide_tell_b148 k34 v0 v1 h
def f_cSide_tell_b94 (k34 : Nat → Int → Hp → Option (Hp)) (v0 : Nat) (v1 : Int) (h : Hp) : Option (Hp) :=
  f_cSide_tell_b97 k34 v0 v1 (-1) h
def f_cSide_tell_b34 (k34 : Nat → Int → Hp → Option (Hp)) (v0 : Nat) (v1 : Int) (h : Hp) : Option (Hp) :=
  if 15 ≤ v1 then (
    b1 (f_cSide_put_II v0 15 1 h) fun h7 =>
    if hR h7 v0 36 = 0 then none else
    if hR h7 v0 7 = 0 then none else
    lt1 (sI h7 (hR h7 v0 7) 4 (hI h7 (hR h7 v0 36) 1)) fun h11 =>
    some h11
  ) else
  if v1 ≠ 3 then (
    if v1 ≠ 14 then (
      if v1 ≠ 10 then (
        if 10 ≤ v1 then (
          f_cSide_tell_b94 k34 v0 v1 h
        ) else
        if v1 = 2 then (
          f_cSide_tell_b94 k34 v0 v1 h
        ) else
        if hR h v0 33 = 0 then none else
        if ix v1 (ln h (hR h v0 33)) then
          f_cSide_tell_b97 k34 v0 v1 (hI h (hR h v0 33) v1.toNat) h
        else none
      ) else
      f_cSide_tell_b97 k34 v0 v1 0 h
    ) else
    f_cSide_tell_b97 k34 v0 v1 2 h
  ) else
  f_cSide_tell_b97 k34 v0 v1 1200 h
def f_cSide_tell_b34_lp : Nat → Nat → Int → Hp → Option (Hp)
  | 0, _, _, _ => none
  | n + 1, v0, v1, h => f_cSide_tell_b34 (f_cSide_tell_b34_lp n) v0 v1 h
def f_cSide_tell_b32 (v0 : Nat) (h : Hp) : Option (Hp) :=
  f_cSide_tell_b34_lp FU v0 1 h
def f_cSide_tell (v0 : Nat) (h : Hp) : Option (Hp) :=
  if hR h v0 7 = 0 then none else
  if hR h v0 36 = 0 then none else
  b1 (f_cBytes_over (hR h v0 36) (hR h (hR h v0 7) 3) 0 300 h) fun h3 =>
  if (hI h3 v0 0) ≠ 1 then (
    f_cSide_tell_b32 v0 h3
  ) else
  b1 (f_cSide_put_II v0 0 2 h3) fun h5 =>
  f_cSide_tell_b32 v0 h5
def f_cRow_put (v0 : Nat) (v1 : Int) (h : Hp) : Option (Hp) :=
  lt1 (sI h v0 1 (w32 ((hI h v0 1) + 1))) fun h1 =>
  if hR h v0 0 = 0 then none else
  if ix (hI h v0 1) (ln h1 (hR h v0 0)) then
    lt1 (sI h1 (hR h v0 0) ((hI h v0 1).toNat) (i8 (i8 v1))) fun h4 =>
    some h4
  else none
def f_cRow_add (v0 : Nat) (v1 : Nat) (v2 : Int) (v3 : Int) (h : Hp) : Option (Hp) :=
  if v1 = 0 then none else
  if hR h v0 0 = 0 then none else
  if cpk v2 (hI h v0 1) v3 (ln h v1) (ln h (hR h v0 0)) then
    lt1 (cpI h v1 v2.toNat (hR h v0 0) ((hI h v0 1).toNat) v3.toNat) fun h4 =>
    lt1 (sI h4 v0 1 (w32 ((hI h4 v0 1) + v3))) fun h5 =>
    some h5
  else none
def f_cGreeting_sends (v0 : Nat) (v1 : Int) (v2 : Int) (v3 : Nat) (v4 : Int) (v5 : Nat) (v6 : Int) (h : Hp) : Option (Hp) :=
  if hR h v0 8 = 0 then none else
  if ix v1 (ln h (hR h v0 8)) then
    lt1 (hR h (hR h v0 8) v1.toNat) fun y3 =>
    if y3 = 0 then none else
    lt1 (hI h y3 1) fun y5 =>
    b1 (f_cRow_put y3 v2 h) fun h6 =>
    b1 (f_cRow_put y3 0 h6) fun h8 =>
    b1 (f_cRow_put y3 (iShr (w32 (v4 + v6)) 8) h8) fun h10 =>
    b1 (f_cRow_put y3 (w32 (v4 + v6)) h10) fun h12 =>
    b1 (f_cRow_add y3 v3 0 v4 h12) fun h14 =>
    b1 (f_cRow_add y3 v5 0 v6 h14) fun h16 =>
    if hR h16 v0 7 = 0 then none else
    b1 (f_cRow_add (hR h16 v0 7) (hR h16 y3 0) y5 (w32 ((hI h16 y3 1) - y5)) h16) fun h19 =>
    some h19
  else none
def f_cGreeting_begin_b18 (v0 : Nat) (s0 : Nat) (s1 : Int) (h : Hp) : Option (Hp) :=
  if s0 = 0 then none else
  lt1 (sI h s0 20 s1) fun h3 =>
  if (hI h3 v0 0) ≠ 0 then (
    some h3
  ) else
  b1 (f_cGreeting_sends v0 0 1 (hR h3 v0 2) 32 (hR h3 v0 3) (hI h3 v0 4) h3) fun h4 =>
  some h4
def f_cGreeting_begin (v0 : Nat) (h : Hp) : Option (Hp) :=
  lt1 (sI h v0 21 1) fun h1 =>
  if (hI h1 v0 0) ≠ 0 then (
    f_cGreeting_begin_b18 v0 v0 1 h1
  ) else
  f_cGreeting_begin_b18 v0 v0 2 h1
def f_cSide_begin (v0 : Nat) (h : Hp) : Option (Hp) :=
  lt1 (sI h v0 1 1) fun h1 =>
  if hR h1 v0 7 = 0 then none else
  b1 (f_cSide_name v0 (hR h1 (hR h1 v0 7) 2) 8 h1) fun h3 =>
  if hR h3 v0 12 = 0 then none else
  if cpk 16 0 8 (ln h3 (hR h3 v0 12)) (ln h3 (hR h3 v0 12)) then
    lt1 (cpI h3 (hR h3 v0 12) (Int.toNat 16) (hR h3 v0 12) (Int.toNat 0) (Int.toNat 8)) fun h7 =>
    b1 (f_cSide_tell v0 h7) fun h8 =>
    if hR h8 v0 7 = 0 then none else
    b1 (f_cGreeting_begin (hR h8 v0 7) h8) fun h11 =>
    if hR h11 v0 9 = 0 then none else
    lt1 (sI h11 (hR h11 v0 9) 7 1) fun h14 =>
    if hR h14 v0 9 = 0 then none else
    lt1 (sI h14 v0 26 (hI h14 (hR h14 v0 9) 3)) fun h16 =>
    some h16
  else none
def f_cP_begin_b61 (v0 : Nat) (s0 : Int) (h : Hp) : Option ((Hp) ⊕ (Nat × Hp)) :=
  bt (f_cP_ready s0 h) (fun a17 h18 =>
    some (.inr (a17, h18))) fun h15 =>
  if hR h15 v0 7 = 0 then none else
  if ix 0 (ln h15 (hR h15 v0 7)) then
    if hR h15 (hR h15 v0 7) (Int.toNat 0) = 0 then none else
    b1 (f_cSide_begin (hR h15 (hR h15 v0 7) (Int.toNat 0)) h15) fun h23 =>
    some (.inl h23)
  else none
def f_cP_begin_b60 (v0 : Nat) (h : Hp) : Option ((Hp) ⊕ (Nat × Hp)) :=
  f_cP_begin_b61 v0 0 h
def f_cP_begin (v0 : Nat) (h : Hp) : Option ((Hp) ⊕ (Nat × Hp)) :=
  if hR h v0 9 = 0 then none else
  if ix 0 (ln h (hR h v0 9)) then
    if hR h (hR h v0 9) (Int.toNat 0) = 0 then none else
    if ix 0 (ln h (hR h (hR h v0 9) (Int.toNat 0))) then
      if (hI h (hR h (hR h v0 9) (Int.toNat 0)) (Int.toNat 0)) = 0 then (
        f_cP_begin_b60 v0 h
      ) else
      if ix 0 (ln h (hR h v0 9)) then
        if ix 1 (ln h (hR h (hR h v0 9) (Int.toNat 0))) then
          if (hI h (hR h (hR h v0 9) (Int.toNat 0)) (Int.toNat 1)) = 0 then (
            f_cP_begin_b60 v0 h
          ) else
          if ix 1 (ln h (hR h v0 9)) then
            if hR h (hR h v0 9) (Int.toNat 1) = 0 then none else
            if ix 0 (ln h (hR h (hR h v0 9) (Int.toNat 1))) then
              if (hI h (hR h (hR h v0 9) (Int.toNat 1)) (Int.toNat 0)) = 0 then (
                f_cP_begin_b60 v0 h
              ) else
              if ix 1 (ln h (hR h v0 9)) then
                if ix 1 (ln h (hR h (hR h v0 9) (Int.toNat 1))) then
                  if (hI h (hR h (hR h v0 9) (Int.toNat 1)) (Int.toNat 1)) = 0 then (
                    f_cP_begin_b60 v0 h
                  ) else
                  if hR h v0 7 = 0 then none else
                  if ix 0 (ln h (hR h v0 7)) then
                    if hR h (hR h v0 7) (Int.toNat 0) = 0 then none else
                    if (hI h (hR h (hR h v0 7) (Int.toNat 0)) 1) ≠ 0 then (
                      f_cP_begin_b60 v0 h
                    ) else
                    f_cP_begin_b61 v0 1 h
                  else none
                else none
              else none
            else none
          else none
        else none
      else none
    else none
  else none
def f_cHall_isOneWay (v0 : Int) (h : Hp) : Option (Int × Hp) :=
  if (lRem (lDiv v0 2) 2) ≠ 1 then (
    some (0, h)
  ) else
  some (1, h)
def f_cHall_isOwn (v0 : Nat) (v1 : Int) (h : Hp) : Option (Int × Hp) :=
  if (lRem v1 2) ≠ (hI h v0 0) then (
    some (0, h)
  ) else
  some (1, h)
def f_cHall_rule (v0 : Nat) (v1 : Int) (v3 : Int) (h : Hp) : Option (Int × Hp) :=
  b2 (f_cHall_isOneWay v1 h) fun r3 h1 =>
  if r3 = 0 then (
    b2 (f_cHall_isOwn v0 v1 h1) fun r6 h4 =>
    if r6 ≠ v3 then (
      some (1, h4)
    ) else
    some (2, h4)
  ) else
  some (3, h1)
def f_cSending_init (v0 : Nat) (v1 : Int) (h : Hp) : Option (Hp) :=
  lt1 (sI h v0 4 (-1)) fun h1 =>
  lt1 (sI h1 v0 5 (-1)) fun h2 =>
  lt1 (sI h2 v0 6 (-1)) fun h3 =>
  lt1 (sI h3 v0 7 (-1)) fun h4 =>
  lt1 (sJ h4 v0 10 (-1)) fun h5 =>
  lt1 (sJ h5 v0 8 v1) fun h6 =>
  some h6
def f_cReceiving_init (v0 : Nat) (v1 : Int) (h : Hp) : Option (Hp) :=
  lt1 (sI h v0 5 (-1)) fun h1 =>
  lt1 (sI h1 v0 7 (-1)) fun h2 =>
  lt1 (sI h2 v0 0 v1) fun h3 =>
  lt1 (sI h3 v0 6 v1) fun h4 =>
  some h4
def f_cHall_begin_b59 (v0 : Nat) (v1 : Int) (h : Hp) : Option (Hp) :=
  if hN h + 1 ≤ CN ∧ hZ h + 13 ≤ CZ then
    lt1 (nwC h 34 0 13) fun h27 =>
    b2 (f_cHall_rule v0 v1 0 h27) fun r31 h29 =>
    if hR h27 v0 4 = 0 then none else
    if ix r31 (ln h29 (hR h27 v0 4)) then
      b1 (f_cReceiving_init (hN h) (hI h29 (hR h27 v0 4) r31.toNat) h29) fun h34 =>
      if hR h v0 2 = 0 then none else
      if ix v1 (ln h34 (hR h v0 2)) then
        lt1 (sR h34 (hR h v0 2) v1.toNat (hN h)) fun h38 =>
        some h38
      else none
    else none
  else none
def f_cHall_begin_b42 (v0 : Nat) (v1 : Int) (h : Hp) : Option (Hp) :=
  b2 (f_cHall_isOneWay v1 h) fun r22 h20 =>
  if r22 = 0 then (
    f_cHall_begin_b59 v0 v1 h20
  ) else
  b2 (f_cHall_isOwn v0 v1 h20) fun r25 h23 =>
  if r25 ≠ 0 then (
    some h23
  ) else
  f_cHall_begin_b59 v0 v1 h23
def f_cHall_begin_b17 (v0 : Nat) (v1 : Int) (h : Hp) : Option (Hp) :=
  if hN h + 1 ≤ CN ∧ hZ h + 12 ≤ CZ then
    lt1 (nwC h 33 0 12) fun h8 =>
    b2 (f_cHall_rule v0 v1 1 h8) fun r12 h10 =>
    if hR h8 v0 5 = 0 then none else
    if ix r12 (ln h10 (hR h8 v0 5)) then
      b1 (f_cSending_init (hN h) (hJ h10 (hR h8 v0 5) r12.toNat) h10) fun h15 =>
      if hR h v0 1 = 0 then none else
      if ix v1 (ln h15 (hR h v0 1)) then
        lt1 (sR h15 (hR h v0 1) v1.toNat (hN h)) fun h19 =>
        f_cHall_begin_b42 v0 v1 h19
      else none
    else none
  else none
def f_cHall_begin (v0 : Nat) (v1 : Int) (h : Hp) : Option (Hp) :=
  b2 (f_cHall_isOneWay v1 h) fun r3 h1 =>
  if r3 = 0 then (
    f_cHall_begin_b17 v0 v1 h1
  ) else
  b2 (f_cHall_isOwn v0 v1 h1) fun r6 h4 =>
  if r6 = 0 then (
    f_cHall_begin_b42 v0 v1 h4
  ) else
  f_cHall_begin_b17 v0 v1 h4
def f_cHall_open_b53 (v0 : Nat) (v2 : Nat) (s0 : Int) (s1 : Int) (h : Hp) : Option (Int × Hp) :=
  lt1 (w32 ((w32 (s0 + s1)) + (hI h v0 0))) fun y6 =>
  if v2 = 0 then none else
  lt1 (sI h v2 0 (w32 ((hI h v2 0) + 1))) fun h8 =>
  b1 (f_cHall_begin v0 y6 h8) fun h9 =>
  some (y6, h9)
def f_cHall_open_b13 (v0 : Nat) (v1 : Int) (s0 : Nat) (s1 : Int) (h : Hp) : Option (Int × Hp) :=
  if s0 = 0 then none else
  if ix s1 (ln h s0) then
    lt1 (hR h s0 s1.toNat) fun y3 =>
    if y3 = 0 then none else
    if (hI h y3 0) < (hJ h y3 3) then (
      if v1 = 0 then (
        f_cHall_open_b53 v0 y3 (w32 (4 * (hI h y3 0))) 2 h
      ) else
      f_cHall_open_b53 v0 y3 (w32 (4 * (hI h y3 0))) 0 h
    ) else
    lt1 (sJ h y3 4 (hJ h y3 3)) fun h5 =>
    some ((-1), h5)
  else none
def f_cHall_open (v0 : Nat) (v1 : Int) (h : Hp) : Option (Int × Hp) :=
  if v1 = 0 then (
    f_cHall_open_b13 v0 v1 (hR h v0 3) 1 h
  ) else
  f_cHall_open_b13 v0 v1 (hR h v0 3) 0 h
def f_cP_open (v0 : Nat) (v1 : Int) (v2 : Int) (h : Hp) : Option ((Int × Hp) ⊕ (Nat × Hp)) :=
  bt2 (f_cP_of v0 v1 h) (fun a3 h4 =>
    some (.inr (a3, h4))) fun r6 h1 =>
  if r6 = 0 then none else
  if hR h1 r6 11 = 0 then none else
  b2 (f_cHall_open (hR h1 r6 11) v2 h1) fun r11 h9 =>
  some (.inl (r11, h9))
def f_cHall_sending_b11 (v0 : Nat) (h : Hp) : Option (Nat × Hp) :=
  some (0, h)
def f_cHall_sending (v0 : Nat) (v1 : Int) (h : Hp) : Option (Nat × Hp) :=
  if v1 < 0 then (
    f_cHall_sending_b11 v0 h
  ) else
  if v1 < 256 then (
    if hR h v0 1 = 0 then none else
    if ix v1 (ln h (hR h v0 1)) then
      some (hR h (hR h v0 1) v1.toNat, h)
    else none
  ) else
  f_cHall_sending_b11 v0 h
def f_jArrays_copyOf_AII (v0 : Nat) (v1 : Int) (h : Hp) : Option (Nat × Hp) :=
  if v0 = 0 then none else
  if v1 ≠ (ln h v0 : Int) then (
    if (0 : Int) ≤ v1 ∧ hN h + 1 ≤ CN ∧ hZ h + v1.toNat ≤ CZ then
      lt1 (nwC h 101 v1.toNat v1.toNat) fun h3 =>
      lt1 (hN h) fun y5 =>
      if cpk 0 0 (min (ln h3 v0 : Int) v1) (ln h3 v0) (ln h3 y5) then
        lt1 (cpI h3 v0 (Int.toNat 0) y5 (Int.toNat 0) ((min (ln h3 v0 : Int) v1).toNat)) fun h8 =>
        some (y5, h8)
      else none
    else none
  ) else
  none
def f_cStore_piece_b63 (v0 : Nat) (h : Hp) : Option (Int × Hp) :=
  if hR h v0 2 = 0 then none else
  if ix (hI h v0 5) (ln h (hR h v0 2)) then
    lt1 (sI h (hR h v0 2) ((hI h v0 5).toNat) (hI h v0 1)) fun h16 =>
    if hR h16 v0 3 = 0 then none else
    if ix (hI h16 v0 5) (ln h16 (hR h16 v0 3)) then
      lt1 (sI h16 (hR h16 v0 3) ((hI h16 v0 5).toNat) 0) fun h19 =>
      if hR h19 v0 4 = 0 then none else
      if ix (hI h19 v0 5) (ln h19 (hR h19 v0 4)) then
        lt1 (sI h19 (hR h19 v0 4) ((hI h19 v0 5).toNat) (-1)) fun h22 =>
        lt1 (sI h22 v0 5 (w32 ((hI h22 v0 5) + 1))) fun h23 =>
        some (hI h22 v0 5, h23)
      else none
    else none
  else none
def f_cStore_piece (v0 : Nat) (h : Hp) : Option (Int × Hp) :=
  if hR h v0 2 = 0 then none else
  if (hI h v0 5) ≠ (ln h (hR h v0 2) : Int) then (
    f_cStore_piece_b63 v0 h
  ) else
  b2 (f_jArrays_copyOf_AII (hR h v0 2) (w32 (2 * (hI h v0 5))) h) fun r4 h2 =>
  lt1 (sR h2 v0 2 r4) fun h5 =>
  b2 (f_jArrays_copyOf_AII (hR h5 v0 3) (w32 (2 * (hI h5 v0 5))) h5) fun r8 h6 =>
  lt1 (sR h6 v0 3 r8) fun h9 =>
  b2 (f_jArrays_copyOf_AII (hR h9 v0 4) (w32 (2 * (hI h9 v0 5))) h9) fun r12 h10 =>
  lt1 (sR h10 v0 4 r12) fun h13 =>
  f_cStore_piece_b63 v0 h13
def f_cStore_add_b95 (v0 : Nat) (v1 : Nat) (v2 : Nat) (v3 : Int) (v5 : Int) (h : Hp) : Option (Int × Hp) :=
  if v2 = 0 then none else
  if hR h v0 0 = 0 then none else
  if cpk v3 (hI h v0 1) v5 (ln h v2) (ln h (hR h v0 0)) then
    lt1 (cpI h v2 v3.toNat (hR h v0 0) ((hI h v0 1).toNat) v5.toNat) fun h20 =>
    if v1 = 0 then none else
    if hR h20 v0 3 = 0 then none else
    if ix (hI h20 v1 5) (ln h20 (hR h20 v0 3)) then
      if ix (hI h20 v1 5) (ln h20 (hR h20 v0 3)) then
        lt1 (sI h20 (hR h20 v0 3) ((hI h20 v1 5).toNat) (w32 ((hI h20 (hR h20 v0 3) ((hI h20 v1 5).toNat)) + v5))) fun h25 =>
        lt1 (sI h25 v0 1 (w32 ((hI h25 v0 1) + v5))) fun h26 =>
        lt1 (sI h26 v1 1 (w32 ((hI h26 v1 1) + v5))) fun h27 =>
        some (v5, h27)
      else none
    else none
  else none
def f_cStore_add_b89 (v0 : Nat) (v1 : Nat) (v2 : Nat) (v3 : Int) (v5 : Int) (v6 : Int) (h : Hp) : Option (Int × Hp) :=
  if v1 = 0 then none else
  lt1 (sI h v1 5 v6) fun h16 =>
  f_cStore_add_b95 v0 v1 v2 v3 v5 h16
def f_cStore_add_b55 (v0 : Nat) (v1 : Nat) (v2 : Nat) (v3 : Int) (v5 : Int) (h : Hp) : Option (Int × Hp) :=
  b2 (f_cStore_piece v0 h) fun r9 h7 =>
  if v1 = 0 then none else
  if (hI h7 v1 5) ≠ (-1) then (
    if hR h7 v0 4 = 0 then none else
    if ix (hI h7 v1 5) (ln h7 (hR h7 v0 4)) then
      lt1 (sI h7 (hR h7 v0 4) ((hI h7 v1 5).toNat) r9) fun h13 =>
      f_cStore_add_b89 v0 v1 v2 v3 v5 r9 h13
    else none
  ) else
  lt1 (sI h7 v1 4 r9) fun h14 =>
  f_cStore_add_b89 v0 v1 v2 v3 v5 r9 h14
def f_cStore_add (v0 : Nat) (v1 : Nat) (v2 : Nat) (v3 : Int) (v4 : Int) (h : Hp) : Option (Int × Hp) :=
  lt1 (min v4 (w32 (65536 - (hI h v0 1)))) fun y1 =>
  if y1 ≠ 0 then (
    if v1 = 0 then none else
    if (hI h v1 5) = (-1) then (
      f_cStore_add_b55 v0 v1 v2 v3 y1 h
    ) else
    if hR h v0 2 = 0 then none else
    if ix (hI h v1 5) (ln h (hR h v0 2)) then
      if hR h v0 3 = 0 then none else
      if ix (hI h v1 5) (ln h (hR h v0 3)) then
        if (w32 ((hI h (hR h v0 2) ((hI h v1 5).toNat)) + (hI h (hR h v0 3) ((hI h v1 5).toNat)))) = (hI h v0 1) then (
          f_cStore_add_b95 v0 v1 v2 v3 y1 h
        ) else
        f_cStore_add_b55 v0 v1 v2 v3 y1 h
      else none
    else none
  ) else
  some (0, h)
def f_cHall_write_b20 (v0 : Nat) (h : Hp) : Option (Int × Hp) :=
  some ((-1), h)
def f_cHall_write (v0 : Nat) (v1 : Int) (v2 : Nat) (v3 : Int) (v4 : Int) (h : Hp) : Option (Int × Hp) :=
  b2 (f_cHall_sending v0 v1 h) fun r3 h1 =>
  if r3 = 0 then (
    f_cHall_write_b20 v0 h1
  ) else
  if r3 = 0 then none else
  if (hI h1 r3 0) = 0 then (
    if hR h1 v0 7 = 0 then none else
    b2 (f_cStore_add (hR h1 v0 7) r3 v2 v3 v4 h1) fun r8 h6 =>
    some (r8, h6)
  ) else
  f_cHall_write_b20 v0 h1
def f_cP_write (v0 : Nat) (v1 : Int) (v2 : Int) (h : Hp) : Option ((Int × Hp) ⊕ (Nat × Hp)) :=
  bt2 (f_cP_of v0 v1 h) (fun a3 h4 =>
    some (.inr (a3, h4))) fun r6 h1 =>
  if r6 = 0 then none else
  b2 (f_cP_used v0 h1) fun r10 h8 =>
  if hR h1 r6 11 = 0 then none else
  b2 (f_cHall_write (hR h1 r6 11) v2 (hR h1 v0 0) 0 r10 h8) fun r14 h12 =>
  some (.inl (r14, h12))
def f_cHall_finish (v0 : Nat) (v1 : Int) (h : Hp) : Option (Int × Hp) :=
  b2 (f_cHall_sending v0 v1 h) fun r3 h1 =>
  if r3 = 0 then (
    some (0, h1)
  ) else
  if r3 = 0 then none else
  if (hI h1 r3 0) = 0 then (
    lt1 (sI h1 r3 0 1) fun h5 =>
    lt1 (sI h5 r3 3 1) fun h6 =>
    some (1, h6)
  ) else
  some (0, h1)
def f_cP_finish (v0 : Nat) (v1 : Int) (v2 : Int) (h : Hp) : Option ((Int × Hp) ⊕ (Nat × Hp)) :=
  bt2 (f_cP_of v0 v1 h) (fun a3 h4 =>
    some (.inr (a3, h4))) fun r6 h1 =>
  if r6 = 0 then none else
  if hR h1 r6 11 = 0 then none else
  b2 (f_cHall_finish (hR h1 r6 11) v2 h1) fun r11 h9 =>
  if r11 = 0 ∨ r11 = 1 then some (.inl (r11, h9)) else none
def f_cSending_isLive_b15 (v0 : Nat) (h : Hp) : Option (Int × Hp) :=
  some (1, h)
def f_cSending_isLive (v0 : Nat) (h : Hp) : Option (Int × Hp) :=
  if (hI h v0 0) = 0 then (
    f_cSending_isLive_b15 v0 h
  ) else
  if (hI h v0 0) ≠ 1 then (
    some (0, h)
  ) else
  f_cSending_isLive_b15 v0 h
def f_cSending_reset (v0 : Nat) (v1 : Int) (h : Hp) : Option (Hp) :=
  lt1 (sI h v0 0 3) fun h1 =>
  lt1 (sJ h1 v0 9 v1) fun h2 =>
  lt1 (sI h2 v0 11 1) fun h3 =>
  some h3
def f_cHall_reset (v0 : Nat) (v1 : Int) (v2 : Int) (h : Hp) : Option (Int × Hp) :=
  b2 (f_cHall_sending v0 v1 h) fun r3 h1 =>
  if r3 = 0 then (
    some (0, h1)
  ) else
  if r3 = 0 then none else
  b2 (f_cSending_isLive r3 h1) fun r7 h5 =>
  if r7 ≠ 0 then (
    b1 (f_cSending_reset r3 v2 h5) fun h8 =>
    some (1, h8)
  ) else
  some (0, h5)
def f_cP_reset_b16 (v0 : Nat) (v2 : Int) (v3 : Int) (v4 : Nat) (s0 : Int) (h : Hp) : Option ((Int × Hp) ⊕ (Nat × Hp)) :=
  bt (f_cP_need s0 h) (fun a9 h10 =>
    some (.inr (a9, h10))) fun h7 =>
  if v4 = 0 then none else
  if hR h7 v4 11 = 0 then none else
  b2 (f_cHall_reset (hR h7 v4 11) v2 v3 h7) fun r16 h14 =>
  if r16 = 0 ∨ r16 = 1 then some (.inl (r16, h14)) else none
def f_cP_reset (v0 : Nat) (v1 : Int) (v2 : Int) (v3 : Int) (h : Hp) : Option ((Int × Hp) ⊕ (Nat × Hp)) :=
  bt2 (f_cP_of v0 v1 h) (fun a3 h4 =>
    some (.inr (a3, h4))) fun r6 h1 =>
  if v3 < 0 then (
    f_cP_reset_b16 v0 v2 v3 r6 0 h1
  ) else
  f_cP_reset_b16 v0 v2 v3 r6 1 h1
def f_cHall_receiving_b11 (v0 : Nat) (h : Hp) : Option (Nat × Hp) :=
  some (0, h)
def f_cHall_receiving (v0 : Nat) (v1 : Int) (h : Hp) : Option (Nat × Hp) :=
  if v1 < 0 then (
    f_cHall_receiving_b11 v0 h
  ) else
  if v1 < 256 then (
    if hR h v0 2 = 0 then none else
    if ix v1 (ln h (hR h v0 2)) then
      some (hR h (hR h v0 2) v1.toNat, h)
    else none
  ) else
  f_cHall_receiving_b11 v0 h
def f_cReceiving_isLive_b15 (v0 : Nat) (h : Hp) : Option (Int × Hp) :=
  some (1, h)
def f_cReceiving_isLive (v0 : Nat) (h : Hp) : Option (Int × Hp) :=
  if (hI h v0 1) = 0 then (
    f_cReceiving_isLive_b15 v0 h
  ) else
  if (hI h v0 1) ≠ 1 then (
    some (0, h)
  ) else
  f_cReceiving_isLive_b15 v0 h
def f_cHall_stop (v0 : Nat) (v1 : Int) (v2 : Int) (h : Hp) : Option (Int × Hp) :=
  b2 (f_cHall_receiving v0 v1 h) fun r3 h1 =>
  if r3 = 0 then (
    some (0, h1)
  ) else
  if r3 = 0 then none else
  b2 (f_cReceiving_isLive r3 h1) fun r7 h5 =>
  if r7 = 0 then (
    some (0, h5)
  ) else
  if (hI h5 r3 12) = 0 then (
    lt1 (sI h5 r3 12 1) fun h8 =>
    lt1 (sI h8 r3 11 1) fun h9 =>
    lt1 (sJ h9 r3 9 v2) fun h10 =>
    some (1, h10)
  ) else
  some (0, h5)
def f_cP_stop_b16 (v0 : Nat) (v2 : Int) (v3 : Int) (v4 : Nat) (s0 : Int) (h : Hp) : Option ((Int × Hp) ⊕ (Nat × Hp)) :=
  bt (f_cP_need s0 h) (fun a9 h10 =>
    some (.inr (a9, h10))) fun h7 =>
  if v4 = 0 then none else
  if hR h7 v4 11 = 0 then none else
  b2 (f_cHall_stop (hR h7 v4 11) v2 v3 h7) fun r16 h14 =>
  if r16 = 0 ∨ r16 = 1 then some (.inl (r16, h14)) else none
def f_cP_stop (v0 : Nat) (v1 : Int) (v2 : Int) (v3 : Int) (h : Hp) : Option ((Int × Hp) ⊕ (Nat × Hp)) :=
  bt2 (f_cP_of v0 v1 h) (fun a3 h4 =>
    some (.inr (a3, h4))) fun r6 h1 =>
  if v3 < 0 then (
    f_cP_stop_b16 v0 v2 v3 r6 0 h1
  ) else
  f_cP_stop_b16 v0 v2 v3 r6 1 h1
def f_cBlocks_drop (v0 : Nat) (v1 : Nat) (h : Hp) : Option (Hp) :=
  if v1 = 0 then none else
  lt1 (hI h v1 7) fun y2 =>
  if hR h v0 3 = 0 then none else
  if ix y2 (ln h (hR h v0 3)) then
    lt1 (sI h v1 7 (hI h (hR h v0 3) y2.toNat)) fun h5 =>
    if hR h5 v0 3 = 0 then none else
    if ix y2 (ln h5 (hR h5 v0 3)) then
      lt1 (sI h5 (hR h5 v0 3) y2.toNat (hI h5 v0 5)) fun h8 =>
      lt1 (sI h8 v0 5 y2) fun h9 =>
      some h9
    else none
  else none
def f_cBlocks_take_b61 (k3 : Nat → Nat → Nat → Int → Int → Int → Hp → Option (Hp)) (v0 : Nat) (v1 : Nat) (v2 : Nat) (v3 : Int) (v4 : Int) (v5 : Int) (h : Hp) : Option (Hp) :=
  k3 v0 v1 v2 v3 v4 (w32 (v5 + 1)) h
def f_cBlocks_take_b3 (k3 : Nat → Nat → Nat → Int → Int → Int → Hp → Option (Hp)) (v0 : Nat) (v1 : Nat) (v2 : Nat) (v3 : Int) (v4 : Int) (v5 : Int) (h : Hp) : Option (Hp) :=
  if v4 ≤ v5 then (
    some h
  ) else
  if v1 = 0 then none else
  if hR h v0 0 = 0 then none else
  if ix (w32 ((w32 ((hI h v1 7) * 64)) + (iRem (hI h v1 2) 64))) (ln h (hR h v0 0)) then
    if v2 = 0 then none else
    if ix (w32 (v3 + v5)) (ln h v2) then
      lt1 (sI h v2 ((w32 (v3 + v5)).toNat) (i8 (hI h (hR h v0 0) ((w32 ((w32 ((hI h v1 7) * 64)) + (iRem (hI h v1 2) 64))).toNat)))) fun h6 =>
      lt1 (sI h6 v1 2 (w32 ((hI h6 v1 2) + 1))) fun h7 =>
      if (iRem (hI h7 v1 2) 64) ≠ 0 then (
        f_cBlocks_take_b61 k3 v0 v1 v2 v3 v4 v5 h7
      ) else
      b1 (f_cBlocks_drop v0 v1 h7) fun h8 =>
      f_cBlocks_take_b61 k3 v0 v1 v2 v3 v4 v5 h8
    else none
  else none
def f_cBlocks_take_b3_lp : Nat → Nat → Nat → Nat → Int → Int → Int → Hp → Option (Hp)
  | 0, _, _, _, _, _, _, _ => none
  | n + 1, v0, v1, v2, v3, v4, v5, h => f_cBlocks_take_b3 (f_cBlocks_take_b3_lp n) v0 v1 v2 v3 v4 v5 h
def f_cBlocks_take (v0 : Nat) (v1 : Nat) (v2 : Nat) (v3 : Int) (v4 : Int) (h : Hp) : Option (Hp) :=
  f_cBlocks_take_b3_lp FU v0 v1 v2 v3 v4 0 h
def f_cHall_grow_ (v0 : Nat) (h : Hp) : Option (Hp) :=
  if hR h v0 4 = 0 then none else
  if ix 0 (ln h (hR h v0 4)) then
    lt1 (min (w32 ((hI h v0 13) + (hI h (hR h v0 4) (Int.toNat 0)))) 65536) fun y3 =>
    if ix 0 (ln h (hR h v0 4)) then
      if ix 0 (ln h (hR h v0 4)) then
        if (w32 (2 * (w32 ((w32 ((hI h v0 13) + (hI h (hR h v0 4) (Int.toNat 0)))) - (hI h v0 14))))) < (hI h (hR h v0 4) (Int.toNat 0)) then (
          some h
        ) else
        if (hI h v0 14) < y3 then (
          lt1 (sI h v0 14 y3) fun h6 =>
          lt1 (sI h6 v0 16 1) fun h7 =>
          some h7
        ) else
        some h
      else none
    else none
  else none
def f_cHall_grow_Receiving (v0 : Nat) (v1 : Nat) (h : Hp) : Option (Hp) :=
  if v1 = 0 then none else
  lt1 (min (w32 ((hI h v1 2) + (hI h v1 0))) 65536) fun y2 =>
  if (w32 (2 * (w32 ((w32 ((hI h v1 2) + (hI h v1 0))) - (hI h v1 6))))) < (hI h v1 0) then (
    some h
  ) else
  if (hI h v1 6) < y2 then (
    lt1 (sI h v1 6 y2) fun h3 =>
    lt1 (sI h3 v1 10 1) fun h4 =>
    some h4
  ) else
  some h
def f_cSending_isOver_b16 (v0 : Nat) (h : Hp) : Option (Int × Hp) :=
  some (1, h)
def f_cSending_isOver (v0 : Nat) (h : Hp) : Option (Int × Hp) :=
  if (hI h v0 0) = 2 then (
    f_cSending_isOver_b16 v0 h
  ) else
  if (hI h v0 0) ≠ 4 then (
    some (0, h)
  ) else
  f_cSending_isOver_b16 v0 h
def f_cReceiving_isOver_b16 (v0 : Nat) (h : Hp) : Option (Int × Hp) :=
  some (1, h)
def f_cReceiving_isOver (v0 : Nat) (h : Hp) : Option (Int × Hp) :=
  if (hI h v0 1) = 3 then (
    f_cReceiving_isOver_b16 v0 h
  ) else
  if (hI h v0 1) ≠ 4 then (
    some (0, h)
  ) else
  f_cReceiving_isOver_b16 v0 h
def f_cHall_isOver_b42 (v0 : Nat) (h : Hp) : Option (Int × Hp) :=
  some (1, h)
def f_cHall_isOver_b21 (v0 : Nat) (v1 : Int) (h : Hp) : Option (Int × Hp) :=
  if hR h v0 2 = 0 then none else
  if ix v1 (ln h (hR h v0 2)) then
    if hR h (hR h v0 2) v1.toNat = 0 then (
      f_cHall_isOver_b42 v0 h
    ) else
    if ix v1 (ln h (hR h v0 2)) then
      if hR h (hR h v0 2) v1.toNat = 0 then none else
      b2 (f_cReceiving_isOver (hR h (hR h v0 2) v1.toNat) h) fun r14 h12 =>
      if r14 = 0 then (
        some (0, h12)
      ) else
      f_cHall_isOver_b42 v0 h12
    else none
  else none
def f_cHall_isOver (v0 : Nat) (v1 : Int) (h : Hp) : Option (Int × Hp) :=
  if hR h v0 1 = 0 then none else
  if ix v1 (ln h (hR h v0 1)) then
    if hR h (hR h v0 1) v1.toNat = 0 then (
      f_cHall_isOver_b21 v0 v1 h
    ) else
    if ix v1 (ln h (hR h v0 1)) then
      if hR h (hR h v0 1) v1.toNat = 0 then none else
      b2 (f_cSending_isOver (hR h (hR h v0 1) v1.toNat) h) fun r7 h5 =>
      if r7 = 0 then (
        some (0, h5)
      ) else
      f_cHall_isOver_b21 v0 v1 h5
    else none
  else none
def f_cReceiving_settle_b43 (v0 : Nat) (h : Hp) : Option (Hp) :=
  if (hI h v0 1) ≠ 2 then (
    some h
  ) else
  if (hI h v0 2) ≠ (hI h v0 5) then (
    some h
  ) else
  lt1 (sI h v0 1 3) fun h3 =>
  some h3
def f_cReceiving_settle_b19 (v0 : Nat) (h : Hp) : Option (Hp) :=
  if (hI h v0 1) ≠ 1 then (
    f_cReceiving_settle_b43 v0 h
  ) else
  if (hI h v0 3) ≠ (hI h v0 5) then (
    f_cReceiving_settle_b43 v0 h
  ) else
  lt1 (sI h v0 1 2) fun h2 =>
  f_cReceiving_settle_b43 v0 h2
def f_cReceiving_settle (v0 : Nat) (h : Hp) : Option (Hp) :=
  if (hI h v0 1) ≠ 0 then (
    f_cReceiving_settle_b19 v0 h
  ) else
  if (hI h v0 5) < 0 then (
    f_cReceiving_settle_b19 v0 h
  ) else
  lt1 (sI h v0 1 1) fun h1 =>
  f_cReceiving_settle_b19 v0 h1
def f_cHall_way_b16 (v0 : Nat) (s0 : Nat) (s1 : Int) (h : Hp) : Option (Nat × Hp) :=
  if s0 = 0 then none else
  if ix s1 (ln h s0) then
    some (hR h s0 s1.toNat, h)
  else none
def f_cHall_way (v0 : Nat) (v1 : Int) (h : Hp) : Option (Nat × Hp) :=
  b2 (f_cHall_isOneWay v1 h) fun r3 h1 =>
  if r3 = 0 then (
    f_cHall_way_b16 v0 (hR h v0 3) 0 h1
  ) else
  f_cHall_way_b16 v0 (hR h v0 3) 1 h1
def f_cHall_mayBeOver_b51 (v0 : Nat) (v3 : Nat) (s0 : Nat) (s1 : Int) (h : Hp) : Option (Hp) :=
  if s0 = 0 then none else
  if ¬ (s1 = 0 ∨ s1 = 1) then none else
  lt1 (sI h s0 6 s1) fun h12 =>
  if v3 = 0 then none else
  lt1 (sI h12 v3 2 (min (w32 ((hI h12 v3 2) + 1)) 64)) fun h15 =>
  some h15
def f_cHall_mayBeOver_b46 (v0 : Nat) (v3 : Nat) (s0 : Nat) (h : Hp) : Option (Hp) :=
  f_cHall_mayBeOver_b51 v0 v3 s0 1 h
def f_cHall_mayBeOver (v0 : Nat) (v1 : Int) (v2 : Int) (h : Hp) : Option (Hp) :=
  if v2 ≠ 0 then (
    some h
  ) else
  b2 (f_cHall_isOwn v0 v1 h) fun r3 h1 =>
  if r3 ≠ 0 then (
    some h1
  ) else
  b2 (f_cHall_isOver v0 v1 h1) fun r6 h4 =>
  if r6 ≠ 0 then (
    b2 (f_cHall_way v0 v1 h4) fun r9 h7 =>
    if r9 = 0 then none else
    if (hI h7 r9 6) ≠ 0 then (
      f_cHall_mayBeOver_b46 v0 r9 r9 h7
    ) else
    if 64 ≤ (hI h7 r9 2) then (
      f_cHall_mayBeOver_b51 v0 r9 r9 0 h7
    ) else
    f_cHall_mayBeOver_b46 v0 r9 r9 h7
  ) else
  some h4
def f_cHall_read_b91 (v0 : Nat) (v1 : Int) (v5 : Nat) (v6 : Int) (h : Hp) : Option (Int × Hp) :=
  b2 (f_cHall_isOver v0 v1 h) fun r16 h14 =>
  if v5 = 0 then none else
  b1 (f_cReceiving_settle v5 h14) fun h18 =>
  b1 (f_cHall_mayBeOver v0 v1 r16 h18) fun h20 =>
  some (v6, h20)
def f_cHall_read (v0 : Nat) (v1 : Int) (v2 : Nat) (v3 : Int) (v4 : Int) (h : Hp) : Option (Int × Hp) :=
  b2 (f_cHall_receiving v0 v1 h) fun r3 h1 =>
  if r3 ≠ 0 then (
    if r3 = 0 then none else
    if (hI h1 r3 1) ≠ 4 then (
      lt1 (min v4 (w32 ((hI h1 r3 3) - (hI h1 r3 2)))) fun y5 =>
      if y5 ≤ 0 then (
        f_cHall_read_b91 v0 v1 r3 y5 h1
      ) else
      if hR h1 v0 8 = 0 then none else
      b1 (f_cBlocks_take (hR h1 v0 8) r3 v2 v3 y5 h1) fun h7 =>
      lt1 (sI h7 v0 13 (w32 ((hI h7 v0 13) + y5))) fun h9 =>
      b1 (f_cHall_grow_ v0 h9) fun h10 =>
      if (hI h10 r3 1) ≠ 0 then (
        f_cHall_read_b91 v0 v1 r3 y5 h10
      ) else
      b1 (f_cHall_grow_Receiving v0 r3 h10) fun h12 =>
      f_cHall_read_b91 v0 v1 r3 y5 h12
    ) else
    some ((-2), h1)
  ) else
  some ((-1), h1)
def f_cP_read (v0 : Nat) (v1 : Int) (v2 : Int) (v3 : Int) (h : Hp) : Option ((Int × Hp) ⊕ (Nat × Hp)) :=
  bt2 (f_cP_of v0 v1 h) (fun a3 h4 =>
    some (.inr (a3, h4))) fun r6 h1 =>
  b2 (f_cP_in v3 0 2048 h1) fun r9 h7 =>
  bt (f_cP_need r9 h7) (fun a12 h13 =>
    some (.inr (a12, h13))) fun h10 =>
  if r6 = 0 then none else
  if hR h10 r6 11 = 0 then none else
  b2 (f_cHall_read (hR h10 r6 11) v2 (hR h10 v0 5) 0 v3 h10) fun r19 h17 =>
  lt1 (sI h17 v0 6 (max r19 0)) fun h20 =>
  some (.inl (r19, h20))
def f_cP_outs_b33 (k33 : Nat → Int → Int → Int → Hp → Option ((Int × Hp) ⊕ (Nat × Hp))) (v0 : Nat) (v1 : Int) (v2 : Int) (v4 : Int) (h : Hp) : Option ((Int × Hp) ⊕ (Nat × Hp)) :=
  if v4 < 0 then (
    some (.inl (v2, h))
  ) else
  if hR h v0 5 = 0 then none else
  if ix (w32 (v1 + v4)) (ln h (hR h v0 5)) then
    lt1 (lOr (lShl v2 8) (lAnd (hI h (hR h v0 5) ((w32 (v1 + v4)).toNat)) 255)) fun y12 =>
    k33 v0 v1 y12 (w32 (v4 + (-1))) h
  else none
def f_cP_outs_b33_lp : Nat → Nat → Int → Int → Int → Hp → Option ((Int × Hp) ⊕ (Nat × Hp))
  | 0, _, _, _, _, _ => none
  | n + 1, v0, v1, v2, v4, h => f_cP_outs_b33 (f_cP_outs_b33_lp n) v0 v1 v2 v4 h
def f_cP_outs (v0 : Nat) (v1 : Int) (h : Hp) : Option ((Int × Hp) ⊕ (Nat × Hp)) :=
  b2 (f_cP_in v1 0 (w32 ((hI h v0 6) - 1)) h) fun r3 h1 =>
  bt (f_cP_there r3 h1) (fun a6 h7 =>
    some (.inr (a6, h7))) fun h4 =>
  lt1 (w32 ((min (w32 ((hI h4 v0 6) - v1)) 8) - 1)) fun y9 =>
  f_cP_outs_b33_lp FU v0 v1 0 y9 h4
def f_cSide_isLive_b16 (v0 : Nat) (h : Hp) : Option (Int × Hp) :=
  some (1, h)
def f_cSide_isLive (v0 : Nat) (h : Hp) : Option (Int × Hp) :=
  if (hI h v0 1) = 1 then (
    f_cSide_isLive_b16 v0 h
  ) else
  if (hI h v0 1) ≠ 2 then (
    some (0, h)
  ) else
  f_cSide_isLive_b16 v0 h
def f_cTrip_patience (v0 : Nat) (v1 : Int) (h : Hp) : Option (Int × Hp) :=
  if v1 = 0 then (
    some (w32 ((w32 ((iDiv (hI h v0 0) 8) + (max (hI h v0 1) 1))) + 0), h)
  ) else
  some (w32 ((w32 ((iDiv (hI h v0 0) 8) + (max (hI h v0 1) 1))) + 25), h)
def f_cSide_patience (v0 : Nat) (h : Hp) : Option (Int × Hp) :=
  if hR h v0 9 = 0 then none else
  if hR h (hR h v0 9) 1 = 0 then none else
  b2 (f_cTrip_patience (hR h (hR h v0 9) 1) 1 h) fun r5 h3 =>
  some (r5, h3)
def f_cSide_close (v0 : Nat) (v1 : Int) (v2 : Int) (v3 : Int) (h : Hp) : Option (Hp) :=
  b2 (f_cSide_isLive v0 h) fun r3 h1 =>
  if r3 ≠ 0 then (
    lt1 (sI h1 v0 1 3) fun h4 =>
    lt1 (sI h4 v0 2 v3) fun h5 =>
    lt1 (sI h5 v0 24 v1) fun h6 =>
    lt1 (sI h6 v0 23 v2) fun h7 =>
    lt1 (sI h7 v0 18 1) fun h8 =>
    if hR h8 v0 9 = 0 then none else
    b2 (f_cSide_patience v0 h8) fun r12 h10 =>
    lt1 (sI h10 v0 22 (w32 ((hI h8 (hR h8 v0 9) 3) + (w32 (3 * r12))))) fun h13 =>
    some h13
  ) else
  some h1
def f_cP_close (v0 : Nat) (v1 : Int) (v2 : Int) (h : Hp) : Option ((Int × Hp) ⊕ (Nat × Hp)) :=
  bt2 (f_cP_of v0 v1 h) (fun a3 h4 =>
    some (.inr (a3, h4))) fun r6 h1 =>
  b2 (f_cP_in v2 0 9999 h1) fun r9 h7 =>
  bt (f_cP_need r9 h7) (fun a12 h13 =>
    some (.inr (a12, h13))) fun h10 =>
  if r6 = 0 then none else
  b2 (f_cSide_isLive r6 h10) fun r18 h16 =>
  b1 (f_cSide_close r6 29 v2 (w32 (30000 + v2)) h16) fun h19 =>
  if r18 = 0 ∨ r18 = 1 then some (.inl (r18, h19)) else none
def f_cP_raw_b34 (v0 : Nat) (v2 : Nat) (s0 : Int) (h : Hp) : Option ((Hp) ⊕ (Nat × Hp)) :=
  bt (f_cP_ready s0 h) (fun a18 h19 =>
    some (.inr (a18, h19))) fun h16 =>
  if v2 = 0 then none else
  if hR h16 v0 0 = 0 then none else
  if hR h16 v2 40 = 0 then none else
  if cpk 0 0 (hI h16 v0 2) (ln h16 (hR h16 v0 0)) (ln h16 (hR h16 v2 40)) then
    lt1 (cpI h16 (hR h16 v0 0) (Int.toNat 0) (hR h16 v2 40) (Int.toNat 0) ((hI h16 v0 2).toNat)) fun h25 =>
    b2 (f_cP_used v0 h25) fun r28 h26 =>
    lt1 (sI h26 v2 41 r28) fun h29 =>
    some (.inl h29)
  else none
def f_cP_raw (v0 : Nat) (v1 : Int) (h : Hp) : Option ((Hp) ⊕ (Nat × Hp)) :=
  bt2 (f_cP_of v0 v1 h) (fun a3 h4 =>
    some (.inr (a3, h4))) fun r6 h1 =>
  b2 (f_cP_in (hI h1 v0 2) 1 1000 h1) fun r9 h7 =>
  bt (f_cP_need r9 h7) (fun a12 h13 =>
    some (.inr (a12, h13))) fun h10 =>
  if r6 = 0 then none else
  if (hI h10 r6 1) ≠ 2 then (
    f_cP_raw_b34 v0 r6 0 h10
  ) else
  f_cP_raw_b34 v0 r6 1 h10
def f_cLine_remove_b19 (k19 : Nat → Nat → Int → Hp → Option (Hp)) (v0 : Nat) (v2 : Nat) (v3 : Int) (h : Hp) : Option (Hp) :=
  if (hI h v0 3) ≤ v3 then (
    if hR h v0 0 = 0 then none else
    if v2 = 0 then none else
    if ix (hI h v0 3) (ln h (hR h v0 0)) then
      lt1 (sR h (hR h v0 0) ((hI h v0 3).toNat) v2) fun h8 =>
      some h8
    else none
  ) else
  if hR h v0 0 = 0 then none else
  if ix (w32 (v3 + 1)) (ln h (hR h v0 0)) then
    if hR h (hR h v0 0) ((w32 (v3 + 1)).toNat) = 0 then none else
    if ix v3 (ln h (hR h v0 0)) then
      lt1 (sR h (hR h v0 0) v3.toNat (hR h (hR h v0 0) ((w32 (v3 + 1)).toNat))) fun h13 =>
      if hR h13 v0 1 = 0 then none else
      if ix (w32 (v3 + 1)) (ln h13 (hR h13 v0 1)) then
        if ix v3 (ln h13 (hR h13 v0 1)) then
          lt1 (sI h13 (hR h13 v0 1) v3.toNat (hI h13 (hR h13 v0 1) ((w32 (v3 + 1)).toNat))) fun h17 =>
          if hR h17 v0 2 = 0 then none else
          if ix (w32 (v3 + 1)) (ln h17 (hR h17 v0 2)) then
            if ix v3 (ln h17 (hR h17 v0 2)) then
              lt1 (sI h17 (hR h17 v0 2) v3.toNat (hI h17 (hR h17 v0 2) ((w32 (v3 + 1)).toNat))) fun h21 =>
              k19 v0 v2 (w32 (v3 + 1)) h21
            else none
          else none
        else none
      else none
    else none
  else none
def f_cLine_remove_b19_lp : Nat → Nat → Nat → Int → Hp → Option (Hp)
  | 0, _, _, _, _ => none
  | n + 1, v0, v2, v3, h => f_cLine_remove_b19 (f_cLine_remove_b19_lp n) v0 v2 v3 h
def f_cLine_remove (v0 : Nat) (v1 : Int) (h : Hp) : Option (Hp) :=
  if hR h v0 0 = 0 then none else
  if ix v1 (ln h (hR h v0 0)) then
    lt1 (hR h (hR h v0 0) v1.toNat) fun y3 =>
    lt1 (sI h v0 3 (w32 ((hI h v0 3) - 1))) fun h4 =>
    f_cLine_remove_b19_lp FU v0 y3 v1 h4
  else none
def f_cBytes_one (v0 : Nat) (h : Hp) : Option (Int × Hp) :=
  b2 (f_cBytes_step v0 1 h) fun r3 h1 =>
  if r3 = 0 then (
    some (0, h1)
  ) else
  lt1 (sI h1 v0 1 (w32 ((hI h1 v0 1) + 1))) fun h4 =>
  if hR h1 v0 0 = 0 then none else
  if ix (hI h1 v0 1) (ln h4 (hR h1 v0 0)) then
    some (iAnd (hI h4 (hR h1 v0 0) ((hI h1 v0 1).toNat)) 255, h4)
  else none
def f_cHeader_fails (v0 : Nat) (v1 : Int) (h : Hp) : Option (Int × Hp) :=
  lt1 (sI h v0 2 v1) fun h1 =>
  some (v1, h1)
def f_cBytes_pass (v0 : Nat) (v1 : Int) (h : Hp) : Option (Int × Hp) :=
  lt1 (hI h v0 1) fun y1 =>
  b2 (f_cBytes_step v0 v1 h) fun r4 h2 =>
  if r4 = 0 then (
    some (y1, h2)
  ) else
  lt1 (sI h2 v0 1 (w32 ((hI h2 v0 1) + v1))) fun h5 =>
  some (y1, h5)
def f_cBytes_left (v0 : Nat) (h : Hp) : Option (Int × Hp) :=
  if (hI h v0 3) = 0 then (
    some (w32 ((hI h v0 2) - (hI h v0 1)), h)
  ) else
  some (0, h)
def f_cHeader_readShort_b59 (v0 : Nat) (h : Hp) : Option (Int × Hp) :=
  b2 (f_cHeader_fails v0 1 h) fun r16 h14 =>
  some (r16, h14)
def f_cHeader_readShort (v0 : Nat) (v1 : Nat) (v2 : Int) (v3 : Int) (h : Hp) : Option (Int × Hp) :=
  lt1 (sI h v0 0 4) fun h1 =>
  lt1 (sI h1 v0 1 (iAnd v2 63)) fun h2 =>
  lt1 (sI h2 v0 8 v3) fun h3 =>
  if v1 = 0 then none else
  b2 (f_cBytes_pass v1 v3 h3) fun r7 h5 =>
  lt1 (sI h5 v0 7 r7) fun h8 =>
  lt1 (sI h8 v0 4 (hI h8 v1 1)) fun h9 =>
  lt1 (sI h9 v0 5 (hI h9 v1 2)) fun h10 =>
  if (hI h10 v1 3) ≠ 0 then (
    f_cHeader_readShort_b59 v0 h10
  ) else
  b2 (f_cBytes_left v1 h10) fun r13 h11 =>
  if 20 ≤ r13 then (
    some (0, h11)
  ) else
  f_cHeader_readShort_b59 v0 h11
def f_cBytes_many_b13 (k13 : Nat → Int → Int → Int → Hp → Option (Int × Hp)) (v0 : Nat) (v1 : Int) (v2 : Int) (v4 : Int) (h : Hp) : Option (Int × Hp) :=
  if v1 ≤ v4 then (
    some (v2, h)
  ) else
  lt1 (sI h v0 1 (w32 ((hI h v0 1) + 1))) fun h4 =>
  if hR h v0 0 = 0 then none else
  if ix (hI h v0 1) (ln h4 (hR h v0 0)) then
    lt1 (lOr (lShl v2 8) (iAnd (hI h4 (hR h v0 0) ((hI h v0 1).toNat)) 255)) fun y7 =>
    k13 v0 v1 y7 (w32 (v4 + 1)) h4
  else none
def f_cBytes_many_b13_lp : Nat → Nat → Int → Int → Int → Hp → Option (Int × Hp)
  | 0, _, _, _, _, _ => none
  | n + 1, v0, v1, v2, v4, h => f_cBytes_many_b13 (f_cBytes_many_b13_lp n) v0 v1 v2 v4 h
def f_cBytes_many (v0 : Nat) (v1 : Int) (h : Hp) : Option (Int × Hp) :=
  b2 (f_cBytes_step v0 v1 h) fun r3 h1 =>
  if r3 = 0 then (
    some (0, h1)
  ) else
  f_cBytes_many_b13_lp FU v0 v1 0 0 h1
def f_cBytes_number (v0 : Nat) (h : Hp) : Option (Int × Hp) :=
  b2 (f_cBytes_step v0 1 h) fun r3 h1 =>
  if r3 ≠ 0 then (
    if hR h1 v0 0 = 0 then none else
    if ix (hI h1 v0 1) (ln h1 (hR h1 v0 0)) then
      lt1 (iShl 1 (iAnd (iShr (hI h1 (hR h1 v0 0) ((hI h1 v0 1).toNat)) 6) 3)) fun y6 =>
      b2 (f_cBytes_many v0 y6 h1) fun r9 h7 =>
      if y6 ≠ 8 then (
        some (lAnd r9 (w64 ((lShl 1 (w32 ((w32 (8 * y6)) - 2))) - 1)), h7)
      ) else
      some (lAnd r9 4611686018427387903, h7)
    else none
  ) else
  some (0, h1)
def f_cHeader_readRest_b94 (v0 : Nat) (h : Hp) : Option (Int × Hp) :=
  b2 (f_cHeader_fails v0 1 h) fun r28 h26 =>
  some (r28, h26)
def f_cHeader_readRest_b56 (v0 : Nat) (v1 : Nat) (h : Hp) : Option (Int × Hp) :=
  if v1 = 0 then none else
  b2 (f_cBytes_number v1 h) fun r20 h18 =>
  lt1 (sI h18 v0 4 (hI h18 v1 1)) fun h21 =>
  if (hI h21 v1 3) ≠ 0 then (
    f_cHeader_readRest_b94 v0 h21
  ) else
  if r20 < 20 then (
    f_cHeader_readRest_b94 v0 h21
  ) else
  b2 (f_cBytes_left v1 h21) fun r24 h22 =>
  if r20 ≤ r24 then (
    lt1 (sI h22 v0 5 (w32 ((hI h22 v0 4) + (w32 r20)))) fun h25 =>
    some (0, h25)
  ) else
  f_cHeader_readRest_b94 v0 h22
def f_cHeader_readRest_b41 (v0 : Nat) (v1 : Nat) (s0 : Nat) (s1 : Int) (h : Hp) : Option (Int × Hp) :=
  if s0 = 0 then none else
  lt1 (sI h s0 12 s1) fun h11 =>
  if v1 = 0 then none else
  b2 (f_cBytes_pass v1 (hI h11 v0 12) h11) fun r15 h13 =>
  lt1 (sI h13 v0 11 r15) fun h16 =>
  f_cHeader_readRest_b56 v0 v1 h16
def f_cHeader_readRest_b27 (v0 : Nat) (v1 : Nat) (v2 : Int) (h : Hp) : Option (Int × Hp) :=
  if v1 = 0 then none else
  if (hI h v1 3) = 0 then (
    f_cHeader_readRest_b41 v0 v1 v0 (w32 v2) h
  ) else
  f_cHeader_readRest_b41 v0 v1 v0 0 h
def f_cHeader_readRest (v0 : Nat) (v1 : Nat) (h : Hp) : Option (Int × Hp) :=
  if (hI h v0 0) ≠ 0 then (
    f_cHeader_readRest_b56 v0 v1 h
  ) else
  if v1 = 0 then none else
  b2 (f_cBytes_number v1 h) fun r4 h2 =>
  b2 (f_cBytes_left v1 h2) fun r7 h5 =>
  if r4 ≤ r7 then (
    f_cHeader_readRest_b27 v0 v1 r4 h5
  ) else
  lt1 (sI h5 v1 3 1) fun h8 =>
  f_cHeader_readRest_b27 v0 v1 r4 h8
def f_cHeader_readLong_b165 (v0 : Nat) (v1 : Nat) (h : Hp) : Option (Int × Hp) :=
  b2 (f_cHeader_readRest v0 v1 h) fun r47 h45 =>
  some (r47, h45)
def f_cHeader_readLong (v0 : Nat) (v1 : Nat) (v2 : Int) (h : Hp) : Option (Int × Hp) :=
  lt1 (sI h v0 0 (iAnd (iShr v2 4) 3)) fun h1 =>
  lt1 (sI h1 v0 1 (iAnd v2 15)) fun h2 =>
  if v1 = 0 then none else
  b2 (f_cBytes_many v1 4 h2) fun r6 h4 =>
  lt1 (sJ h4 v0 6 r6) fun h7 =>
  b2 (f_cBytes_one v1 h7) fun r10 h8 =>
  lt1 (sI h8 v0 8 r10) fun h11 =>
  if (hI h11 v1 3) = 0 then (
    if (hJ h11 v0 6) = 1 then (
      if (hI h11 v0 8) ≤ 20 then (
        b2 (f_cBytes_pass v1 (hI h11 v0 8) h11) fun r14 h12 =>
        lt1 (sI h12 v0 7 r14) fun h15 =>
        b2 (f_cBytes_one v1 h15) fun r18 h16 =>
        lt1 (sI h16 v0 10 r18) fun h19 =>
        if (hI h19 v1 3) = 0 then (
          if (hI h19 v0 10) ≤ 20 then (
            b2 (f_cBytes_pass v1 (hI h19 v0 10) h19) fun r22 h20 =>
            lt1 (sI h20 v0 9 r22) fun h23 =>
            if (hI h23 v1 3) = 0 then (
              if (hI h23 v0 0) = 0 then (
                f_cHeader_readLong_b165 v0 v1 h23
              ) else
              if (hI h23 v0 0) ≠ 2 then (
                b2 (f_cHeader_fails v0 4 h23) fun r26 h24 =>
                some (r26, h24)
              ) else
              f_cHeader_readLong_b165 v0 v1 h23
            ) else
            b2 (f_cHeader_fails v0 1 h23) fun r29 h27 =>
            some (r29, h27)
          ) else
          b2 (f_cHeader_fails v0 5 h19) fun r32 h30 =>
          some (r32, h30)
        ) else
        b2 (f_cHeader_fails v0 1 h19) fun r35 h33 =>
        some (r35, h33)
      ) else
      b2 (f_cHeader_fails v0 5 h11) fun r38 h36 =>
      some (r38, h36)
    ) else
    b2 (f_cHeader_fails v0 3 h11) fun r41 h39 =>
    some (r41, h39)
  ) else
  b2 (f_cHeader_fails v0 1 h11) fun r44 h42 =>
  some (r44, h42)
def f_cHeader_read (v0 : Nat) (v1 : Nat) (v2 : Int) (h : Hp) : Option (Int × Hp) :=
  lt1 (sI h v0 2 0) fun h1 =>
  lt1 (sJ h1 v0 6 0) fun h2 =>
  lt1 (sI h2 v0 9 0) fun h3 =>
  lt1 (sI h3 v0 10 0) fun h4 =>
  lt1 (sI h4 v0 11 0) fun h5 =>
  lt1 (sI h5 v0 12 0) fun h6 =>
  if v1 = 0 then none else
  lt1 (sI h6 v0 3 (hI h6 v1 1)) fun h8 =>
  b2 (f_cBytes_one v1 h8) fun r11 h9 =>
  if (hI h9 v1 3) = 0 then (
    if (iAnd r11 64) ≠ 0 then (
      if 128 ≤ r11 then (
        b2 (f_cHeader_readLong v0 v1 r11 h9) fun r14 h12 =>
        some (r14, h12)
      ) else
      b2 (f_cHeader_readShort v0 v1 r11 v2 h9) fun r17 h15 =>
      some (r17, h15)
    ) else
    b2 (f_cHeader_fails v0 2 h9) fun r20 h18 =>
    some (r20, h18)
  ) else
  b2 (f_cHeader_fails v0 1 h9) fun r23 h21 =>
  some (r23, h21)
def f_cSide_sameTo_b63 (k22 : Nat → Nat → Int → Int → Hp → Option (Int × Hp)) (v0 : Nat) (v1 : Nat) (v3 : Int) (s0 : Int) (h : Hp) : Option (Int × Hp) :=
  k22 v0 v1 s0 (w32 (v3 + 1)) h
def f_cSide_sameTo_b22 (k22 : Nat → Nat → Int → Int → Hp → Option (Int × Hp)) (v0 : Nat) (v1 : Nat) (v2 : Int) (v3 : Int) (h : Hp) : Option (Int × Hp) :=
  if (hI h v0 28) ≤ v3 then (
    if v2 = 0 ∨ v2 = 1 then some (v2, h) else none
  ) else
  if v2 = 0 then (
    if v2 = 0 ∨ v2 = 1 then some (v2, h) else none
  ) else
  if hR h v0 37 = 0 then none else
  if v1 = 0 then none else
  if ix (w32 ((hI h (hR h v0 37) 7) + v3)) (ln h v1) then
    if hR h v0 39 = 0 then none else
    if ix (w32 (1200 + v3)) (ln h (hR h v0 39)) then
      if (hI h v1 ((w32 ((hI h (hR h v0 37) 7) + v3)).toNat)) ≠ (hI h (hR h v0 39) ((w32 (1200 + v3)).toNat)) then (
        f_cSide_sameTo_b63 k22 v0 v1 v3 0 h
      ) else
      f_cSide_sameTo_b63 k22 v0 v1 v3 1 h
    else none
  else none
def f_cSide_sameTo_b22_lp : Nat → Nat → Nat → Int → Int → Hp → Option (Int × Hp)
  | 0, _, _, _, _, _ => none
  | n + 1, v0, v1, v2, v3, h => f_cSide_sameTo_b22 (f_cSide_sameTo_b22_lp n) v0 v1 v2 v3 h
def f_cSide_sameTo_b19 (v0 : Nat) (v1 : Nat) (s0 : Int) (h : Hp) : Option (Int × Hp) :=
  f_cSide_sameTo_b22_lp FU v0 v1 s0 0 h
def f_cSide_sameTo (v0 : Nat) (v1 : Nat) (h : Hp) : Option (Int × Hp) :=
  if hR h v0 37 = 0 then none else
  if (hI h (hR h v0 37) 8) ≠ (hI h v0 28) then (
    f_cSide_sameTo_b19 v0 v1 0 h
  ) else
  f_cSide_sameTo_b19 v0 v1 1 h
def f_cSide_isTo_b64 (k21 : Nat → Nat → Int → Int → Int → Hp → Option (Int × Hp)) (v0 : Nat) (v1 : Nat) (v2 : Int) (v4 : Int) (s0 : Int) (h : Hp) : Option (Int × Hp) :=
  k21 v0 v1 v2 s0 (w32 (v4 + 1)) h
def f_cSide_isTo_b21 (k21 : Nat → Nat → Int → Int → Int → Hp → Option (Int × Hp)) (v0 : Nat) (v1 : Nat) (v2 : Int) (v3 : Int) (v4 : Int) (h : Hp) : Option (Int × Hp) :=
  if 8 ≤ v4 then (
    if v3 = 0 ∨ v3 = 1 then some (v3, h) else none
  ) else
  if v3 = 0 then (
    if v3 = 0 ∨ v3 = 1 then some (v3, h) else none
  ) else
  if hR h v0 37 = 0 then none else
  if v1 = 0 then none else
  if ix (w32 ((hI h (hR h v0 37) 7) + v4)) (ln h v1) then
    if hR h v0 12 = 0 then none else
    if ix (w32 ((w32 (v2 * 8)) + v4)) (ln h (hR h v0 12)) then
      if (hI h v1 ((w32 ((hI h (hR h v0 37) 7) + v4)).toNat)) ≠ (hI h (hR h v0 12) ((w32 ((w32 (v2 * 8)) + v4)).toNat)) then (
        f_cSide_isTo_b64 k21 v0 v1 v2 v4 0 h
      ) else
      f_cSide_isTo_b64 k21 v0 v1 v2 v4 1 h
    else none
  else none
def f_cSide_isTo_b21_lp : Nat → Nat → Nat → Int → Int → Int → Hp → Option (Int × Hp)
  | 0, _, _, _, _, _, _ => none
  | n + 1, v0, v1, v2, v3, v4, h => f_cSide_isTo_b21 (f_cSide_isTo_b21_lp n) v0 v1 v2 v3 v4 h
def f_cSide_isTo_b17 (v0 : Nat) (v1 : Nat) (v2 : Int) (s0 : Int) (h : Hp) : Option (Int × Hp) :=
  f_cSide_isTo_b21_lp FU v0 v1 v2 s0 0 h
def f_cSide_isTo (v0 : Nat) (v1 : Nat) (v2 : Int) (h : Hp) : Option (Int × Hp) :=
  if hR h v0 37 = 0 then none else
  if (hI h (hR h v0 37) 8) ≠ 8 then (
    f_cSide_isTo_b17 v0 v1 v2 0 h
  ) else
  f_cSide_isTo_b17 v0 v1 v2 1 h
def f_cKeystream_begin_b77 (k77 : Nat → Nat → Int → Int → Hp → Option (Hp)) (v0 : Nat) (v2 : Nat) (v3 : Int) (v5 : Int) (h : Hp) : Option (Hp) :=
  if 3 ≤ v5 then (
    some h
  ) else
  b2 (f_cP_word v2 (w32 (v3 + (w32 (4 * v5)))) h) fun r24 h22 =>
  if hR h v0 0 = 0 then none else
  if ix (w32 (13 + v5)) (ln h22 (hR h v0 0)) then
    lt1 (sI h22 (hR h v0 0) ((w32 (13 + v5)).toNat) r24) fun h27 =>
    k77 v0 v2 v3 (w32 (v5 + 1)) h27
  else none
def f_cKeystream_begin_b77_lp : Nat → Nat → Nat → Int → Int → Hp → Option (Hp)
  | 0, _, _, _, _, _ => none
  | n + 1, v0, v2, v3, v5, h => f_cKeystream_begin_b77 (f_cKeystream_begin_b77_lp n) v0 v2 v3 v5 h
def f_cKeystream_begin_b35 (k35 : Nat → Nat → Nat → Int → Int → Int → Hp → Option (Hp)) (v0 : Nat) (v1 : Nat) (v2 : Nat) (v3 : Int) (v4 : Int) (v5 : Int) (h : Hp) : Option (Hp) :=
  if 8 ≤ v5 then (
    if hR h v0 0 = 0 then none else
    if ix 12 (ln h (hR h v0 0)) then
      lt1 (sI h (hR h v0 0) (Int.toNat 12) v4) fun h15 =>
      f_cKeystream_begin_b77_lp FU v0 v2 v3 0 h15
    else none
  ) else
  b2 (f_cP_word v1 (w32 (4 * v5)) h) fun r18 h16 =>
  if hR h v0 0 = 0 then none else
  if ix (w32 (4 + v5)) (ln h16 (hR h v0 0)) then
    lt1 (sI h16 (hR h v0 0) ((w32 (4 + v5)).toNat) r18) fun h21 =>
    k35 v0 v1 v2 v3 v4 (w32 (v5 + 1)) h21
  else none
def f_cKeystream_begin_b35_lp : Nat → Nat → Nat → Nat → Int → Int → Int → Hp → Option (Hp)
  | 0, _, _, _, _, _, _, _ => none
  | n + 1, v0, v1, v2, v3, v4, v5, h => f_cKeystream_begin_b35 (f_cKeystream_begin_b35_lp n) v0 v1 v2 v3 v4 v5 h
def f_cKeystream_begin (v0 : Nat) (v1 : Nat) (v2 : Nat) (v3 : Int) (v4 : Int) (h : Hp) : Option (Hp) :=
  if hR h v0 0 = 0 then none else
  if ix 0 (ln h (hR h v0 0)) then
    lt1 (sI h (hR h v0 0) (Int.toNat 0) 1634760805) fun h3 =>
    if hR h3 v0 0 = 0 then none else
    if ix 1 (ln h3 (hR h3 v0 0)) then
      lt1 (sI h3 (hR h3 v0 0) (Int.toNat 1) 857760878) fun h6 =>
      if hR h6 v0 0 = 0 then none else
      if ix 2 (ln h6 (hR h6 v0 0)) then
        lt1 (sI h6 (hR h6 v0 0) (Int.toNat 2) 2036477234) fun h9 =>
        if hR h9 v0 0 = 0 then none else
        if ix 3 (ln h9 (hR h9 v0 0)) then
          lt1 (sI h9 (hR h9 v0 0) (Int.toNat 3) 1797285236) fun h12 =>
          f_cKeystream_begin_b35_lp FU v0 v1 v2 v3 v4 0 h12
        else none
      else none
    else none
  else none
def f_jInteger_rotateLeft (v0 : Int) (v1 : Int) (h : Hp) : Option (Int × Hp) :=
  some (iOr (iShl v0 v1) (iUshr v0 (w32 (-v1))), h)
def f_cKeystream_mix (v0 : Nat) (v1 : Int) (v2 : Int) (v3 : Int) (v4 : Int) (h : Hp) : Option (Hp) :=
  if hR h v0 1 = 0 then none else
  if ix v1 (ln h (hR h v0 1)) then
    if ix v2 (ln h (hR h v0 1)) then
      if ix v1 (ln h (hR h v0 1)) then
        lt1 (sI h (hR h v0 1) v1.toNat (w32 ((hI h (hR h v0 1) v1.toNat) + (hI h (hR h v0 1) v2.toNat)))) fun h5 =>
        if hR h5 v0 1 = 0 then none else
        if ix v4 (ln h5 (hR h5 v0 1)) then
          if ix v1 (ln h5 (hR h5 v0 1)) then
            b2 (f_jInteger_rotateLeft (iXor (hI h5 (hR h5 v0 1) v4.toNat) (hI h5 (hR h5 v0 1) v1.toNat)) 16 h5) fun r11 h9 =>
            if ix v4 (ln h9 (hR h5 v0 1)) then
              lt1 (sI h9 (hR h5 v0 1) v4.toNat r11) fun h13 =>
              if hR h13 v0 1 = 0 then none else
              if ix v3 (ln h13 (hR h13 v0 1)) then
                if ix v4 (ln h13 (hR h13 v0 1)) then
                  if ix v3 (ln h13 (hR h13 v0 1)) then
                    lt1 (sI h13 (hR h13 v0 1) v3.toNat (w32 ((hI h13 (hR h13 v0 1) v3.toNat) + (hI h13 (hR h13 v0 1) v4.toNat)))) fun h18 =>
                    if hR h18 v0 1 = 0 then none else
                    if ix v2 (ln h18 (hR h18 v0 1)) then
                      if ix v3 (ln h18 (hR h18 v0 1)) then
                        b2 (f_jInteger_rotateLeft (iXor (hI h18 (hR h18 v0 1) v2.toNat) (hI h18 (hR h18 v0 1) v3.toNat)) 12 h18) fun r24 h22 =>
                        if ix v2 (ln h22 (hR h18 v0 1)) then
                          lt1 (sI h22 (hR h18 v0 1) v2.toNat r24) fun h26 =>
                          if hR h26 v0 1 = 0 then none else
                          if ix v1 (ln h26 (hR h26 v0 1)) then
                            if ix v2 (ln h26 (hR h26 v0 1)) then
                              if ix v1 (ln h26 (hR h26 v0 1)) then
                                lt1 (sI h26 (hR h26 v0 1) v1.toNat (w32 ((hI h26 (hR h26 v0 1) v1.toNat) + (hI h26 (hR h26 v0 1) v2.toNat)))) fun h31 =>
                                if hR h31 v0 1 = 0 then none else
                                if ix v4 (ln h31 (hR h31 v0 1)) then
                                  if ix v1 (ln h31 (hR h31 v0 1)) then
                                    b2 (f_jInteger_rotateLeft (iXor (hI h31 (hR h31 v0 1) v4.toNat) (hI h31 (hR h31 v0 1) v1.toNat)) 8 h31) fun r37 h35 =>
                                    if ix v4 (ln h35 (hR h31 v0 1)) then
                                      lt1 (sI h35 (hR h31 v0 1) v4.toNat r37) fun h39 =>
                                      if hR h39 v0 1 = 0 then none else
                                      if ix v3 (ln h39 (hR h39 v0 1)) then
                                        if ix v4 (ln h39 (hR h39 v0 1)) then
                                          if ix v3 (ln h39 (hR h39 v0 1)) then
                                            lt1 (sI h39 (hR h39 v0 1) v3.toNat (w32 ((hI h39 (hR h39 v0 1) v3.toNat) + (hI h39 (hR h39 v0 1) v4.toNat)))) fun h44 =>
                                            if hR h44 v0 1 = 0 then none else
                                            if ix v2 (ln h44 (hR h44 v0 1)) then
                                              if ix v3 (ln h44 (hR h44 v0 1)) then
                                                b2 (f_jInteger_rotateLeft (iXor (hI h44 (hR h44 v0 1) v2.toNat) (hI h44 (hR h44 v0 1) v3.toNat)) 7 h44) fun r50 h48 =>
                                                if ix v2 (ln h48 (hR h44 v0 1)) then
                                                  lt1 (sI h48 (hR h44 v0 1) v2.toNat r50) fun h52 =>
                                                  some h52
                                                else none
                                              else none
                                            else none
                                          else none
                                        else none
                                      else none
                                    else none
                                  else none
                                else none
                              else none
                            else none
                          else none
                        else none
                      else none
                    else none
                  else none
                else none
              else none
            else none
          else none
        else none
      else none
    else none
  else none
def f_cKeystream_next_b101 (k101 : Nat → Int → Hp → Option (Hp)) (v0 : Nat) (v1 : Int) (h : Hp) : Option (Hp) :=
  if 64 ≤ v1 then (
    if hR h v0 0 = 0 then none else
    if ix 12 (ln h (hR h v0 0)) then
      if ix 12 (ln h (hR h v0 0)) then
        lt1 (sI h (hR h v0 0) (Int.toNat 12) (w32 ((hI h (hR h v0 0) (Int.toNat 12)) + 1))) fun h12 =>
        some h12
      else none
    else none
  ) else
  if hR h v0 1 = 0 then none else
  if ix (iDiv v1 4) (ln h (hR h v0 1)) then
    if hR h v0 0 = 0 then none else
    if ix (iDiv v1 4) (ln h (hR h v0 0)) then
      if hR h v0 2 = 0 then none else
      if ix v1 (ln h (hR h v0 2)) then
        lt1 (sI h (hR h v0 2) v1.toNat (i8 (i8 (iShr (w32 ((hI h (hR h v0 1) ((iDiv v1 4).toNat)) + (hI h (hR h v0 0) ((iDiv v1 4).toNat)))) (w32 (8 * (iRem v1 4))))))) fun h19 =>
        k101 v0 (w32 (v1 + 1)) h19
      else none
    else none
  else none
def f_cKeystream_next_b101_lp : Nat → Nat → Int → Hp → Option (Hp)
  | 0, _, _, _ => none
  | n + 1, v0, v1, h => f_cKeystream_next_b101 (f_cKeystream_next_b101_lp n) v0 v1 h
def f_cKeystream_next_b54 (k17 : Nat → Int → Hp → Option (Hp)) (k54 : Nat → Int → Int → Hp → Option (Hp)) (v0 : Nat) (v1 : Int) (v2 : Int) (h : Hp) : Option (Hp) :=
  if 4 ≤ v2 then (
    k17 v0 (w32 (v1 + 1)) h
  ) else
  b1 (f_cKeystream_mix v0 v2 (w32 (4 + (iRem (w32 (v2 + 1)) 4))) (w32 (8 + (iRem (w32 (v2 + 2)) 4))) (w32 (12 + (iRem (w32 (v2 + 3)) 4))) h) fun h7 =>
  k54 v0 v1 (w32 (v2 + 1)) h7
def f_cKeystream_next_b54_lp (k17 : Nat → Int → Hp → Option (Hp)) : Nat → Nat → Int → Int → Hp → Option (Hp)
  | 0, _, _, _, _ => none
  | n + 1, v0, v1, v2, h => f_cKeystream_next_b54 k17 (f_cKeystream_next_b54_lp k17 n) v0 v1 v2 h
def f_cKeystream_next_b25 (k17 : Nat → Int → Hp → Option (Hp)) (k25 : Nat → Int → Int → Hp → Option (Hp)) (v0 : Nat) (v1 : Int) (v2 : Int) (h : Hp) : Option (Hp) :=
  if 4 ≤ v2 then (
    f_cKeystream_next_b54_lp k17 FU v0 v1 0 h
  ) else
  b1 (f_cKeystream_mix v0 v2 (w32 (4 + v2)) (w32 (8 + v2)) (w32 (12 + v2)) h) fun h5 =>
  k25 v0 v1 (w32 (v2 + 1)) h5
def f_cKeystream_next_b25_lp (k17 : Nat → Int → Hp → Option (Hp)) : Nat → Nat → Int → Int → Hp → Option (Hp)
  | 0, _, _, _, _ => none
  | n + 1, v0, v1, v2, h => f_cKeystream_next_b25 k17 (f_cKeystream_next_b25_lp k17 n) v0 v1 v2 h
def f_cKeystream_next_b17 (k17 : Nat → Int → Hp → Option (Hp)) (v0 : Nat) (v1 : Int) (h : Hp) : Option (Hp) :=
  if 10 ≤ v1 then (
    f_cKeystream_next_b101_lp FU v0 0 h
  ) else
  f_cKeystream_next_b25_lp k17 FU v0 v1 0 h
def f_cKeystream_next_b17_lp : Nat → Nat → Int → Hp → Option (Hp)
  | 0, _, _, _ => none
  | n + 1, v0, v1, h => f_cKeystream_next_b17 (f_cKeystream_next_b17_lp n) v0 v1 h
def f_cKeystream_next (v0 : Nat) (h : Hp) : Option (Hp) :=
  if hR h v0 0 = 0 then none else
  if hR h v0 1 = 0 then none else
  if cpk 0 0 16 (ln h (hR h v0 0)) (ln h (hR h v0 1)) then
    lt1 (cpI h (hR h v0 0) (Int.toNat 0) (hR h v0 1) (Int.toNat 0) (Int.toNat 16)) fun h4 =>
    f_cKeystream_next_b17_lp FU v0 0 h4
  else none
def f_cGuard_shield_b98 (k98 : Nat → Nat → Int → Int → Nat → Int → Int → Hp → Option (Int × Hp)) (v0 : Nat) (v2 : Nat) (v3 : Int) (v4 : Int) (v7 : Nat) (v8 : Int) (v9 : Int) (h : Hp) : Option (Int × Hp) :=
  if v8 ≤ v9 then (
    some (v8, h)
  ) else
  if v2 = 0 then none else
  if ix (w32 ((w32 (v3 + v4)) + v9)) (ln h v2) then
    if v7 = 0 then none else
    if ix (w32 (1 + v9)) (ln h v7) then
      if ix (w32 ((w32 (v3 + v4)) + v9)) (ln h v2) then
        lt1 (sI h v2 ((w32 ((w32 (v3 + v4)) + v9)).toNat) (i8 (i8 (iXor (hI h v2 ((w32 ((w32 (v3 + v4)) + v9)).toNat)) (hI h v7 ((w32 (1 + v9)).toNat)))))) fun h32 =>
        k98 v0 v2 v3 v4 v7 v8 (w32 (v9 + 1)) h32
      else none
    else none
  else none
def f_cGuard_shield_b98_lp : Nat → Nat → Nat → Int → Int → Nat → Int → Int → Hp → Option (Int × Hp)
  | 0, _, _, _, _, _, _, _, _ => none
  | n + 1, v0, v2, v3, v4, v7, v8, v9, h => f_cGuard_shield_b98 (f_cGuard_shield_b98_lp n) v0 v2 v3 v4 v7 v8 v9 h
def f_cGuard_shield_b95 (v0 : Nat) (v2 : Nat) (v3 : Int) (v4 : Int) (v7 : Nat) (v8 : Int) (h : Hp) : Option (Int × Hp) :=
  f_cGuard_shield_b98_lp FU v0 v2 v3 v4 v7 v8 0 h
def f_cGuard_shield_b76 (v0 : Nat) (v2 : Nat) (v3 : Int) (v4 : Int) (v5 : Int) (v7 : Nat) (v8 : Int) (s0 : Nat) (s1 : Int) (s2 : Int) (s3 : Int) (s4 : Int) (h : Hp) : Option (Int × Hp) :=
  if s0 = 0 then none else
  if ix s1 (ln h s0) then
    lt1 (sI h s0 s1.toNat (i8 (i8 (iXor s2 (i8 (iAnd s3 s4)))))) fun h23 =>
    if v5 ≠ 0 then (
      f_cGuard_shield_b95 v0 v2 v3 v4 v7 v8 h23
    ) else
    if v2 = 0 then none else
    if ix v3 (ln h23 v2) then
      lt1 (w32 ((iAnd (hI h23 v2 v3.toNat) 3) + 1)) fun y26 =>
      f_cGuard_shield_b95 v0 v2 v3 v4 v7 y26 h23
    else none
  else none
def f_cGuard_shield (v0 : Nat) (v1 : Nat) (v2 : Nat) (v3 : Int) (v4 : Int) (v5 : Int) (h : Hp) : Option (Int × Hp) :=
  lt1 (w32 ((w32 (v3 + v4)) + 4)) fun y1 =>
  if v1 = 0 then none else
  b2 (f_cP_word v2 y1 h) fun r5 h3 =>
  if hR h v1 1 = 0 then none else
  b1 (f_cKeystream_begin (hR h v1 1) (hR h v0 3) v2 (w32 (y1 + 4)) r5 h3) fun h7 =>
  if hR h7 v1 1 = 0 then none else
  b1 (f_cKeystream_next (hR h7 v1 1) h7) fun h10 =>
  if hR h10 v1 1 = 0 then none else
  lt1 (hR h10 (hR h10 v1 1) 2) fun y13 =>
  if v2 = 0 then none else
  if ix v3 (ln h10 v2) then
    lt1 (w32 ((iAnd (hI h10 v2 v3.toNat) 3) + 1)) fun y16 =>
    if ix v3 (ln h10 v2) then
      if y13 = 0 then none else
      if ix 0 (ln h10 y13) then
        if ix v3 (ln h10 v2) then
          if 0 ≤ (hI h10 v2 v3.toNat) then (
            f_cGuard_shield_b76 v0 v2 v3 v4 v5 y13 y16 v2 v3 (hI h10 v2 v3.toNat) (hI h10 y13 (Int.toNat 0)) 31 h10
          ) else
          f_cGuard_shield_b76 v0 v2 v3 v4 v5 y13 y16 v2 v3 (hI h10 v2 v3.toNat) (hI h10 y13 (Int.toNat 0)) 15 h10
        else none
      else none
    else none
  else none
def f_cCounting_grow_b91 (v5 : Int) (v11 : Int) (h : Hp) : Option (Int × Hp) :=
  if v11 ≤ 4611686018427387903 then (
    some (v11, h)
  ) else
  some (w64 (v11 - v5), h)
def f_cCounting_grow_b65 (v5 : Int) (v7 : Int) (v9 : Int) (v11 : Int) (h : Hp) : Option (Int × Hp) :=
  if v11 ≤ (w64 (v9 + v7)) then (
    f_cCounting_grow_b91 v5 v11 h
  ) else
  if v11 < v5 then (
    f_cCounting_grow_b91 v5 v11 h
  ) else
  lt1 (w64 (v11 - v5)) fun y6 =>
  f_cCounting_grow_b91 v5 y6 h
def f_cCounting_grow (v0 : Int) (v2 : Int) (v4 : Int) (h : Hp) : Option (Int × Hp) :=
  lt1 (lShl 1 (w32 (8 * v4))) fun y1 =>
  lt1 (lDiv y1 2) fun y2 =>
  lt1 (w64 (v0 + 1)) fun y3 =>
  lt1 (lOr (lAnd y3 (w64 (-y1))) v2) fun y4 =>
  if (w64 (y3 - y2)) < y4 then (
    f_cCounting_grow_b65 y1 y2 y3 y4 h
  ) else
  if (w64 (4611686018427387903 - y1)) < y4 then (
    f_cCounting_grow_b65 y1 y2 y3 y4 h
  ) else
  lt1 (w64 (y4 + y1)) fun y5 =>
  f_cCounting_grow_b91 y1 y5 h
def f_cRanges_place_b2 (k2 : Nat → Int → Int → Hp → Option (Int × Hp)) (v0 : Nat) (v1 : Int) (v3 : Int) (h : Hp) : Option (Int × Hp) :=
  if (hI h v0 2) ≤ v3 then (
    some (v3, h)
  ) else
  if hR h v0 0 = 0 then none else
  if ix v3 (ln h (hR h v0 0)) then
    if (hJ h (hR h v0 0) v3.toNat) ≤ v1 then (
      some (v3, h)
    ) else
    k2 v0 v1 (w32 (v3 + 1)) h
  else none
def f_cRanges_place_b2_lp : Nat → Nat → Int → Int → Hp → Option (Int × Hp)
  | 0, _, _, _, _ => none
  | n + 1, v0, v1, v3, h => f_cRanges_place_b2 (f_cRanges_place_b2_lp n) v0 v1 v3 h
def f_cRanges_place (v0 : Nat) (v1 : Int) (h : Hp) : Option (Int × Hp) :=
  f_cRanges_place_b2_lp FU v0 v1 0 h
def f_cRanges_has_b34 (v0 : Nat) (h : Hp) : Option (Int × Hp) :=
  some (1, h)
def f_cRanges_has (v0 : Nat) (v1 : Int) (h : Hp) : Option (Int × Hp) :=
  b2 (f_cRanges_place v0 v1 h) fun r3 h1 =>
  if v1 < (hJ h1 v0 3) then (
    f_cRanges_has_b34 v0 h1
  ) else
  if (hI h1 v0 2) ≤ r3 then (
    some (0, h1)
  ) else
  if hR h1 v0 1 = 0 then none else
  if ix r3 (ln h1 (hR h1 v0 1)) then
    if (hJ h1 (hR h1 v0 1) r3.toNat) < v1 then (
      some (0, h1)
    ) else
    f_cRanges_has_b34 v0 h1
  else none
def f_cGuard_begin_b44 (k3 : Nat → Nat → Int → Int → Int → Hp → Option (Hp)) (v0 : Nat) (v1 : Nat) (v2 : Int) (v4 : Int) (v5 : Int) (s0 : Nat) (s1 : Int) (s2 : Int) (s3 : Int) (h : Hp) : Option (Hp) :=
  if s0 = 0 then none else
  if ix s1 (ln h s0) then
    lt1 (sI h s0 s1.toNat (i8 (i8 (iXor s2 s3)))) fun h10 =>
    k3 v0 v1 v2 v4 (w32 (v5 + 1)) h10
  else none
def f_cGuard_begin_b3 (k3 : Nat → Nat → Int → Int → Int → Hp → Option (Hp)) (v0 : Nat) (v1 : Nat) (v2 : Int) (v4 : Int) (v5 : Int) (h : Hp) : Option (Hp) :=
  if 12 ≤ v5 then (
    if v1 = 0 then none else
    if hR h v1 1 = 0 then none else
    b1 (f_cKeystream_begin (hR h v1 1) (hR h v0 1) (hR h v1 4) 0 v4 h) fun h3 =>
    some h3
  ) else
  if v1 = 0 then none else
  if hR h v0 2 = 0 then none else
  if ix v5 (ln h (hR h v0 2)) then
    if 4 ≤ v5 then (
      f_cGuard_begin_b44 k3 v0 v1 v2 v4 v5 (hR h v1 4) v5 (hI h (hR h v0 2) v5.toNat) (w32 (lShr v2 (w32 (88 - (w32 (8 * v5)))))) h
    ) else
    f_cGuard_begin_b44 k3 v0 v1 v2 v4 v5 (hR h v1 4) v5 (hI h (hR h v0 2) v5.toNat) 0 h
  else none
def f_cGuard_begin_b3_lp : Nat → Nat → Nat → Int → Int → Int → Hp → Option (Hp)
  | 0, _, _, _, _, _, _ => none
  | n + 1, v0, v1, v2, v4, v5, h => f_cGuard_begin_b3 (f_cGuard_begin_b3_lp n) v0 v1 v2 v4 v5 h
def f_cGuard_begin (v0 : Nat) (v1 : Nat) (v2 : Int) (v4 : Int) (h : Hp) : Option (Hp) :=
  f_cGuard_begin_b3_lp FU v0 v1 v2 v4 0 h
def f_cTally_eight (v0 : Nat) (v1 : Int) (h : Hp) : Option (Int × Hp) :=
  b2 (f_cP_word v0 v1 h) fun r3 h1 =>
  b2 (f_cP_word v0 (w32 (v1 + 4)) h1) fun r6 h4 =>
  some (lOr (lAnd r3 4294967295) (lShl r6 32), h4)
def f_cTally_split (v0 : Int) (v2 : Int) (v4 : Nat) (h : Hp) : Option (Hp) :=
  if v4 = 0 then none else
  if ix 0 (ln h v4) then
    lt1 (sJ h v4 (Int.toNat 0) (lAnd v0 67108863)) fun h3 =>
    if ix 1 (ln h3 v4) then
      lt1 (sJ h3 v4 (Int.toNat 1) (lAnd (lUshr v0 26) 67108863)) fun h5 =>
      if ix 2 (ln h5 v4) then
        lt1 (sJ h5 v4 (Int.toNat 2) (lAnd (lOr (lUshr v0 52) (lShl v2 12)) 67108863)) fun h7 =>
        if ix 3 (ln h7 v4) then
          lt1 (sJ h7 v4 (Int.toNat 3) (lAnd (lUshr v2 14) 67108863)) fun h9 =>
          if ix 4 (ln h9 v4) then
            lt1 (sJ h9 v4 (Int.toNat 4) (lUshr v2 40)) fun h11 =>
            some h11
          else none
        else none
      else none
    else none
  else none
def f_cTally_begin_b35 (k35 : Nat → Nat → Int → Hp → Option (Hp)) (v0 : Nat) (v1 : Nat) (v6 : Int) (h : Hp) : Option (Hp) :=
  if 5 ≤ v6 then (
    b2 (f_cTally_eight v1 16 h) fun r13 h11 =>
    lt1 (sJ h11 v0 5 r13) fun h14 =>
    b2 (f_cTally_eight v1 24 h14) fun r17 h15 =>
    lt1 (sJ h15 v0 6 r17) fun h18 =>
    lt1 (sI h18 v0 4 0) fun h19 =>
    some h19
  ) else
  if hR h v0 0 = 0 then none else
  if ix v6 (ln h (hR h v0 0)) then
    lt1 (sJ h (hR h v0 0) v6.toNat 0) fun h22 =>
    k35 v0 v1 (w32 (v6 + 1)) h22
  else none
def f_cTally_begin_b35_lp : Nat → Nat → Nat → Int → Hp → Option (Hp)
  | 0, _, _, _, _ => none
  | n + 1, v0, v1, v6, h => f_cTally_begin_b35 (f_cTally_begin_b35_lp n) v0 v1 v6 h
def f_cTally_begin (v0 : Nat) (v1 : Nat) (h : Hp) : Option (Hp) :=
  b2 (f_cTally_eight v1 0 h) fun r3 h1 =>
  lt1 (lAnd r3 1152921487695413247) fun y4 =>
  b2 (f_cTally_eight v1 8 h1) fun r7 h5 =>
  lt1 (lAnd r7 1152921487695413244) fun y8 =>
  b1 (f_cTally_split y4 y8 (hR h5 v0 1) h5) fun h9 =>
  f_cTally_begin_b35_lp FU v0 v1 0 h9
def f_cTally_carry_b2 (k2 : Nat → Int → Hp → Option (Hp)) (v0 : Nat) (v1 : Int) (h : Hp) : Option (Hp) :=
  if 4 ≤ v1 then (
    if hR h v0 0 = 0 then none else
    if ix 0 (ln h (hR h v0 0)) then
      if ix 4 (ln h (hR h v0 0)) then
        if ix 0 (ln h (hR h v0 0)) then
          lt1 (sJ h (hR h v0 0) (Int.toNat 0) (w64 ((hJ h (hR h v0 0) (Int.toNat 0)) + (w64 (5 * (lUshr (hJ h (hR h v0 0) (Int.toNat 4)) 26)))))) fun h5 =>
          if hR h5 v0 0 = 0 then none else
          if ix 4 (ln h5 (hR h5 v0 0)) then
            if ix 4 (ln h5 (hR h5 v0 0)) then
              lt1 (sJ h5 (hR h5 v0 0) (Int.toNat 4) (lAnd (hJ h5 (hR h5 v0 0) (Int.toNat 4)) 67108863)) fun h9 =>
              some h9
            else none
          else none
        else none
      else none
    else none
  ) else
  if hR h v0 0 = 0 then none else
  if ix (w32 (v1 + 1)) (ln h (hR h v0 0)) then
    if ix v1 (ln h (hR h v0 0)) then
      if ix (w32 (v1 + 1)) (ln h (hR h v0 0)) then
        lt1 (sJ h (hR h v0 0) ((w32 (v1 + 1)).toNat) (w64 ((hJ h (hR h v0 0) ((w32 (v1 + 1)).toNat)) + (lUshr (hJ h (hR h v0 0) v1.toNat) 26)))) fun h14 =>
        if hR h14 v0 0 = 0 then none else
        if ix v1 (ln h14 (hR h14 v0 0)) then
          if ix v1 (ln h14 (hR h14 v0 0)) then
            lt1 (sJ h14 (hR h14 v0 0) v1.toNat (lAnd (hJ h14 (hR h14 v0 0) v1.toNat) 67108863)) fun h18 =>
            k2 v0 (w32 (v1 + 1)) h18
          else none
        else none
      else none
    else none
  else none
def f_cTally_carry_b2_lp : Nat → Nat → Int → Hp → Option (Hp)
  | 0, _, _, _ => none
  | n + 1, v0, v1, h => f_cTally_carry_b2 (f_cTally_carry_b2_lp n) v0 v1 h
def f_cTally_carry (v0 : Nat) (h : Hp) : Option (Hp) :=
  f_cTally_carry_b2_lp FU v0 0 h
def f_cTally_take_b132 (k64 : Nat → Int → Hp → Option (Hp)) (k79 : Nat → Int → Int → Hp → Option (Hp)) (v0 : Nat) (v3 : Int) (v4 : Int) (s0 : Nat) (s1 : Int) (s2 : Int) (s3 : Int) (s4 : Int) (h : Hp) : Option (Hp) :=
  if s0 = 0 then none else
  if ix s1 (ln h s0) then
    lt1 (sJ h s0 s1.toNat (w64 (s2 + (w64 (s3 * s4))))) fun h41 =>
    k79 v0 v3 (w32 (v4 + 1)) h41
  else none
def f_cTally_take_b79 (k64 : Nat → Int → Hp → Option (Hp)) (k79 : Nat → Int → Int → Hp → Option (Hp)) (v0 : Nat) (v3 : Int) (v4 : Int) (h : Hp) : Option (Hp) :=
  if 5 ≤ v4 then (
    k64 v0 (w32 (v3 + 1)) h
  ) else
  if hR h v0 2 = 0 then none else
  if ix v3 (ln h (hR h v0 2)) then
    if hR h v0 0 = 0 then none else
    if ix v4 (ln h (hR h v0 0)) then
      if v3 < v4 then (
        if hR h v0 1 = 0 then none else
        if ix (w32 ((w32 (5 + v3)) - v4)) (ln h (hR h v0 1)) then
          f_cTally_take_b132 k64 k79 v0 v3 v4 (hR h v0 2) v3 (hJ h (hR h v0 2) v3.toNat) (hJ h (hR h v0 0) v4.toNat) (w64 (5 * (hJ h (hR h v0 1) ((w32 ((w32 (5 + v3)) - v4)).toNat)))) h
        else none
      ) else
      if hR h v0 1 = 0 then none else
      if ix (w32 (v3 - v4)) (ln h (hR h v0 1)) then
        f_cTally_take_b132 k64 k79 v0 v3 v4 (hR h v0 2) v3 (hJ h (hR h v0 2) v3.toNat) (hJ h (hR h v0 0) v4.toNat) (hJ h (hR h v0 1) ((w32 (v3 - v4)).toNat)) h
      else none
    else none
  else none
def f_cTally_take_b79_lp (k64 : Nat → Int → Hp → Option (Hp)) : Nat → Nat → Int → Int → Hp → Option (Hp)
  | 0, _, _, _, _ => none
  | n + 1, v0, v3, v4, h => f_cTally_take_b79 k64 (f_cTally_take_b79_lp k64 n) v0 v3 v4 h
def f_cTally_take_b64 (k64 : Nat → Int → Hp → Option (Hp)) (v0 : Nat) (v3 : Int) (h : Hp) : Option (Hp) :=
  if 5 ≤ v3 then (
    if hR h v0 2 = 0 then none else
    if hR h v0 0 = 0 then none else
    if cpk 0 0 5 (ln h (hR h v0 2)) (ln h (hR h v0 0)) then
      lt1 (cpJ h (hR h v0 2) (Int.toNat 0) (hR h v0 0) (Int.toNat 0) (Int.toNat 5)) fun h22 =>
      b1 (f_cTally_carry v0 h22) fun h23 =>
      b1 (f_cTally_carry v0 h23) fun h25 =>
      lt1 (sI h25 v0 4 0) fun h27 =>
      some h27
    else none
  ) else
  if hR h v0 2 = 0 then none else
  if ix v3 (ln h (hR h v0 2)) then
    lt1 (sJ h (hR h v0 2) v3.toNat 0) fun h30 =>
    f_cTally_take_b79_lp k64 FU v0 v3 0 h30
  else none
def f_cTally_take_b64_lp : Nat → Nat → Int → Hp → Option (Hp)
  | 0, _, _, _ => none
  | n + 1, v0, v3, h => f_cTally_take_b64 (f_cTally_take_b64_lp n) v0 v3 h
def f_cTally_take_b26 (k26 : Nat → Int → Int → Hp → Option (Hp)) (v0 : Nat) (v1 : Int) (v3 : Int) (h : Hp) : Option (Hp) :=
  if 5 ≤ v3 then (
    if hR h v0 0 = 0 then none else
    if ix 4 (ln h (hR h v0 0)) then
      if ix 4 (ln h (hR h v0 0)) then
        lt1 (sJ h (hR h v0 0) (Int.toNat 4) (w64 ((hJ h (hR h v0 0) (Int.toNat 4)) + v1))) fun h12 =>
        f_cTally_take_b64_lp FU v0 0 h12
      else none
    else none
  ) else
  if hR h v0 0 = 0 then none else
  if ix v3 (ln h (hR h v0 0)) then
    if hR h v0 2 = 0 then none else
    if ix v3 (ln h (hR h v0 2)) then
      if ix v3 (ln h (hR h v0 0)) then
        lt1 (sJ h (hR h v0 0) v3.toNat (w64 ((hJ h (hR h v0 0) v3.toNat) + (hJ h (hR h v0 2) v3.toNat)))) fun h18 =>
        k26 v0 v1 (w32 (v3 + 1)) h18
      else none
    else none
  else none
def f_cTally_take_b26_lp : Nat → Nat → Int → Int → Hp → Option (Hp)
  | 0, _, _, _, _ => none
  | n + 1, v0, v1, v3, h => f_cTally_take_b26 (f_cTally_take_b26_lp n) v0 v1 v3 h
def f_cTally_take (v0 : Nat) (v1 : Int) (h : Hp) : Option (Hp) :=
  b2 (f_cTally_eight (hR h v0 3) 0 h) fun r3 h1 =>
  b2 (f_cTally_eight (hR h1 v0 3) 8 h1) fun r6 h4 =>
  b1 (f_cTally_split r3 r6 (hR h4 v0 2) h4) fun h7 =>
  f_cTally_take_b26_lp FU v0 v1 0 h7
def f_cTally_add_b50 (k3 : Nat → Nat → Int → Int → Int → Hp → Option (Hp)) (v0 : Nat) (v1 : Nat) (v2 : Int) (v3 : Int) (v4 : Int) (h : Hp) : Option (Hp) :=
  k3 v0 v1 v2 v3 (w32 (v4 + 1)) h
def f_cTally_add_b3 (k3 : Nat → Nat → Int → Int → Int → Hp → Option (Hp)) (v0 : Nat) (v1 : Nat) (v2 : Int) (v3 : Int) (v4 : Int) (h : Hp) : Option (Hp) :=
  if v3 ≤ v4 then (
    some h
  ) else
  if v1 = 0 then none else
  if ix (w32 (v2 + v4)) (ln h v1) then
    if hR h v0 3 = 0 then none else
    if ix (hI h v0 4) (ln h (hR h v0 3)) then
      lt1 (sI h (hR h v0 3) ((hI h v0 4).toNat) (i8 (hI h v1 ((w32 (v2 + v4)).toNat)))) fun h5 =>
      lt1 (sI h5 v0 4 (w32 ((hI h5 v0 4) + 1))) fun h6 =>
      if (hI h6 v0 4) ≠ 16 then (
        f_cTally_add_b50 k3 v0 v1 v2 v3 v4 h6
      ) else
      b1 (f_cTally_take v0 16777216 h6) fun h7 =>
      f_cTally_add_b50 k3 v0 v1 v2 v3 v4 h7
    else none
  else none
def f_cTally_add_b3_lp : Nat → Nat → Nat → Int → Int → Int → Hp → Option (Hp)
  | 0, _, _, _, _, _, _ => none
  | n + 1, v0, v1, v2, v3, v4, h => f_cTally_add_b3 (f_cTally_add_b3_lp n) v0 v1 v2 v3 v4 h
def f_cTally_add (v0 : Nat) (v1 : Nat) (v2 : Int) (v3 : Int) (h : Hp) : Option (Hp) :=
  f_cTally_add_b3_lp FU v0 v1 v2 v3 0 h
def f_cTally_finish_b37 (k6 : Nat → Int → Int → Int → Hp → Option (Hp)) (v0 : Nat) (v1 : Int) (v2 : Int) (v4 : Int) (s0 : Nat) (s1 : Int) (s2 : Int) (h : Hp) : Option (Hp) :=
  if s0 = 0 then none else
  if ix s1 (ln h s0) then
    lt1 (sI h s0 s1.toNat (i8 (i8 s2))) fun h6 =>
    lt1 (sI h6 v0 4 (w32 ((hI h6 v0 4) + 1))) fun h7 =>
    k6 v0 v1 v2 v4 h7
  else none
def f_cTally_finish_b6 (k6 : Nat → Int → Int → Int → Hp → Option (Hp)) (v0 : Nat) (v1 : Int) (v2 : Int) (v4 : Int) (h : Hp) : Option (Hp) :=
  if 16 ≤ (hI h v0 4) then (
    b1 (f_cTally_take v0 v2 h) fun h2 =>
    some h2
  ) else
  if (hI h v0 4) ≠ v4 then (
    f_cTally_finish_b37 k6 v0 v1 v2 v4 (hR h v0 3) (hI h v0 4) 0 h
  ) else
  f_cTally_finish_b37 k6 v0 v1 v2 v4 (hR h v0 3) (hI h v0 4) v1 h
def f_cTally_finish_b6_lp : Nat → Nat → Int → Int → Int → Hp → Option (Hp)
  | 0, _, _, _, _, _ => none
  | n + 1, v0, v1, v2, v4, h => f_cTally_finish_b6 (f_cTally_finish_b6_lp n) v0 v1 v2 v4 h
def f_cTally_finish (v0 : Nat) (v1 : Int) (v2 : Int) (h : Hp) : Option (Hp) :=
  lt1 (hI h v0 4) fun y1 =>
  f_cTally_finish_b6_lp FU v0 v1 v2 y1 h
def f_cTally_fill (v0 : Nat) (h : Hp) : Option (Hp) :=
  if (hI h v0 4) ≤ 0 then (
    some h
  ) else
  b1 (f_cTally_finish v0 0 16777216 h) fun h1 =>
  some h1
def f_cTally_isWhole_b48 (k21 : Nat → Int → Int → Hp → Option (Int × Hp)) (v0 : Nat) (v2 : Int) (s0 : Int) (h : Hp) : Option (Int × Hp) :=
  k21 v0 s0 (w32 (v2 + 1)) h
def f_cTally_isWhole_b47 (k21 : Nat → Int → Int → Hp → Option (Int × Hp)) (v0 : Nat) (v2 : Int) (h : Hp) : Option (Int × Hp) :=
  f_cTally_isWhole_b48 k21 v0 v2 0 h
def f_cTally_isWhole_b21 (k21 : Nat → Int → Int → Hp → Option (Int × Hp)) (v0 : Nat) (v1 : Int) (v2 : Int) (h : Hp) : Option (Int × Hp) :=
  if 5 ≤ v2 then (
    if v1 = 0 ∨ v1 = 1 then some (v1, h) else none
  ) else
  if v1 = 0 then (
    f_cTally_isWhole_b47 k21 v0 v2 h
  ) else
  if hR h v0 0 = 0 then none else
  if ix v2 (ln h (hR h v0 0)) then
    if (hJ h (hR h v0 0) v2.toNat) ≠ 67108863 then (
      f_cTally_isWhole_b47 k21 v0 v2 h
    ) else
    f_cTally_isWhole_b48 k21 v0 v2 1 h
  else none
def f_cTally_isWhole_b21_lp : Nat → Nat → Int → Int → Hp → Option (Int × Hp)
  | 0, _, _, _, _ => none
  | n + 1, v0, v1, v2, h => f_cTally_isWhole_b21 (f_cTally_isWhole_b21_lp n) v0 v1 v2 h
def f_cTally_isWhole_b18 (v0 : Nat) (s0 : Int) (h : Hp) : Option (Int × Hp) :=
  f_cTally_isWhole_b21_lp FU v0 s0 1 h
def f_cTally_isWhole (v0 : Nat) (h : Hp) : Option (Int × Hp) :=
  if hR h v0 0 = 0 then none else
  if ix 0 (ln h (hR h v0 0)) then
    if (hJ h (hR h v0 0) (Int.toNat 0)) < 67108859 then (
      f_cTally_isWhole_b18 v0 0 h
    ) else
    f_cTally_isWhole_b18 v0 1 h
  else none
def f_jLong_compare (v0 : Int) (v2 : Int) (h : Hp) : Option (Int × Hp) :=
  if v2 ≤ v0 then (
    if v0 ≠ v2 then (
      some (1, h)
    ) else
    some (0, h)
  ) else
  some ((-1), h)
def f_jLong_compareUnsigned (v0 : Int) (v2 : Int) (h : Hp) : Option (Int × Hp) :=
  b2 (f_jLong_compare (w64 (v0 + (-9223372036854775808))) (w64 (v2 + (-9223372036854775808))) h) fun r3 h1 =>
  some (r3, h1)
def f_cTally_end_b153 (k153 : Nat → Nat → Int → Int → Int → Int → Hp → Option (Hp)) (v0 : Nat) (v1 : Nat) (v2 : Int) (v5 : Int) (v7 : Int) (v9 : Int) (h : Hp) : Option (Hp) :=
  if 8 ≤ v9 then (
    some h
  ) else
  if v1 = 0 then none else
  if ix (w32 (v2 + v9)) (ln h v1) then
    lt1 (sI h v1 ((w32 (v2 + v9)).toNat) (i8 (i8 (w32 (lShr v7 (w32 (8 * v9))))))) fun h30 =>
    if ix (w32 ((w32 (v2 + 8)) + v9)) (ln h30 v1) then
      lt1 (sI h30 v1 ((w32 ((w32 (v2 + 8)) + v9)).toNat) (i8 (i8 (w32 (lShr v5 (w32 (8 * v9))))))) fun h32 =>
      k153 v0 v1 v2 v5 v7 (w32 (v9 + 1)) h32
    else none
  else none
def f_cTally_end_b153_lp : Nat → Nat → Nat → Int → Int → Int → Int → Hp → Option (Hp)
  | 0, _, _, _, _, _, _, _ => none
  | n + 1, v0, v1, v2, v5, v7, v9, h => f_cTally_end_b153 (f_cTally_end_b153_lp n) v0 v1 v2 v5 v7 v9 h
def f_cTally_end_b146 (v0 : Nat) (v1 : Nat) (v2 : Int) (v7 : Int) (s0 : Int) (s1 : Int) (s2 : Int) (h : Hp) : Option (Hp) :=
  lt1 (w64 (s0 + (w64 (s1 + s2)))) fun y27 =>
  f_cTally_end_b153_lp FU v0 v1 v2 y27 v7 0 h
def f_cTally_end_b60 (v0 : Nat) (v1 : Nat) (v2 : Int) (h : Hp) : Option (Hp) :=
  if hR h v0 0 = 0 then none else
  if ix 0 (ln h (hR h v0 0)) then
    if ix 1 (ln h (hR h v0 0)) then
      if ix 2 (ln h (hR h v0 0)) then
        lt1 (lOr (lOr (hJ h (hR h v0 0) (Int.toNat 0)) (lShl (hJ h (hR h v0 0) (Int.toNat 1)) 26)) (lShl (hJ h (hR h v0 0) (Int.toNat 2)) 52)) fun y18 =>
        if ix 2 (ln h (hR h v0 0)) then
          if ix 3 (ln h (hR h v0 0)) then
            if ix 4 (ln h (hR h v0 0)) then
              lt1 (lOr (lOr (lUshr (hJ h (hR h v0 0) (Int.toNat 2)) 12) (lShl (hJ h (hR h v0 0) (Int.toNat 3)) 14)) (lShl (hJ h (hR h v0 0) (Int.toNat 4)) 40)) fun y22 =>
              lt1 (w64 (y18 + (hJ h v0 5))) fun y23 =>
              b2 (f_jLong_compareUnsigned y23 y18 h) fun r26 h24 =>
              if 0 ≤ r26 then (
                f_cTally_end_b146 v0 v1 v2 y23 y22 (hJ h v0 6) 0 h24
              ) else
              f_cTally_end_b146 v0 v1 v2 y23 y22 (hJ h v0 6) 1 h24
            else none
          else none
        else none
      else none
    else none
  else none
def f_cTally_end_b42 (k42 : Nat → Nat → Int → Int → Hp → Option (Hp)) (v0 : Nat) (v1 : Nat) (v2 : Int) (v3 : Int) (h : Hp) : Option (Hp) :=
  if 5 ≤ v3 then (
    f_cTally_end_b60 v0 v1 v2 h
  ) else
  if hR h v0 0 = 0 then none else
  if ix v3 (ln h (hR h v0 0)) then
    lt1 (sJ h (hR h v0 0) v3.toNat 0) fun h35 =>
    k42 v0 v1 v2 (w32 (v3 + 1)) h35
  else none
def f_cTally_end_b42_lp : Nat → Nat → Nat → Int → Int → Hp → Option (Hp)
  | 0, _, _, _, _, _ => none
  | n + 1, v0, v1, v2, v3, h => f_cTally_end_b42 (f_cTally_end_b42_lp n) v0 v1 v2 v3 h
def f_cTally_end_b13 (v0 : Nat) (v1 : Nat) (v2 : Int) (h : Hp) : Option (Hp) :=
  b1 (f_cTally_carry v0 h) fun h3 =>
  b1 (f_cTally_carry v0 h3) fun h5 =>
  b2 (f_cTally_isWhole v0 h5) fun r9 h7 =>
  if r9 = 0 then (
    f_cTally_end_b60 v0 v1 v2 h7
  ) else
  if hR h7 v0 0 = 0 then none else
  if ix 0 (ln h7 (hR h7 v0 0)) then
    if ix 0 (ln h7 (hR h7 v0 0)) then
      lt1 (sJ h7 (hR h7 v0 0) (Int.toNat 0) (w64 ((hJ h7 (hR h7 v0 0) (Int.toNat 0)) - 67108859))) fun h13 =>
      f_cTally_end_b42_lp FU v0 v1 v2 1 h13
    else none
  else none
def f_cTally_end (v0 : Nat) (v1 : Nat) (v2 : Int) (h : Hp) : Option (Hp) :=
  if (hI h v0 4) ≤ 0 then (
    f_cTally_end_b13 v0 v1 v2 h
  ) else
  b1 (f_cTally_finish v0 1 0 h) fun h1 =>
  f_cTally_end_b13 v0 v1 v2 h1
def f_cGuard_reckon_b129 (k77 : Nat → Nat → Int → Int → Int → Hp → Option (Hp)) (v0 : Nat) (v1 : Nat) (v6 : Int) (v7 : Int) (v8 : Int) (s0 : Nat) (s1 : Int) (s2 : Int) (h : Hp) : Option (Hp) :=
  if s0 = 0 then none else
  if ix s1 (ln h s0) then
    lt1 (sI h s0 s1.toNat (i8 (i8 s2))) fun h33 =>
    k77 v0 v1 v6 v7 (w32 (v8 + 1)) h33
  else none
def f_cGuard_reckon_b120 (k77 : Nat → Nat → Int → Int → Int → Hp → Option (Hp)) (v0 : Nat) (v1 : Nat) (v6 : Int) (v7 : Int) (v8 : Int) (s0 : Nat) (s1 : Int) (s2 : Int) (h : Hp) : Option (Hp) :=
  f_cGuard_reckon_b129 k77 v0 v1 v6 v7 v8 s0 s1 (iShr s2 (w32 (8 * (iRem v8 8)))) h
def f_cGuard_reckon_b77 (k77 : Nat → Nat → Int → Int → Int → Hp → Option (Hp)) (v0 : Nat) (v1 : Nat) (v6 : Int) (v7 : Int) (v8 : Int) (h : Hp) : Option (Hp) :=
  if 16 ≤ v8 then (
    if v1 = 0 then none else
    if hR h v1 2 = 0 then none else
    b1 (f_cTally_add (hR h v1 2) (hR h v1 5) 0 16 h) fun h25 =>
    if hR h25 v1 2 = 0 then none else
    b1 (f_cTally_end (hR h25 v1 2) (hR h25 v1 6) 0 h25) fun h28 =>
    some h28
  ) else
  if v1 = 0 then none else
  if (iRem v8 8) ≤ 3 then (
    if 8 ≤ v8 then (
      f_cGuard_reckon_b120 k77 v0 v1 v6 v7 v8 (hR h v1 5) v8 (w32 (v7 - v6)) h
    ) else
    f_cGuard_reckon_b120 k77 v0 v1 v6 v7 v8 (hR h v1 5) v8 v6 h
  ) else
  f_cGuard_reckon_b129 k77 v0 v1 v6 v7 v8 (hR h v1 5) v8 0 h
def f_cGuard_reckon_b77_lp : Nat → Nat → Nat → Int → Int → Int → Hp → Option (Hp)
  | 0, _, _, _, _, _, _ => none
  | n + 1, v0, v1, v6, v7, v8, h => f_cGuard_reckon_b77 (f_cGuard_reckon_b77_lp n) v0 v1 v6 v7 v8 h
def f_cGuard_reckon (v0 : Nat) (v1 : Nat) (v2 : Int) (v4 : Nat) (v5 : Int) (v6 : Int) (v7 : Int) (h : Hp) : Option (Hp) :=
  b1 (f_cGuard_begin v0 v1 v2 0 h) fun h1 =>
  if v1 = 0 then none else
  if hR h1 v1 1 = 0 then none else
  b1 (f_cKeystream_next (hR h1 v1 1) h1) fun h5 =>
  if hR h5 v1 1 = 0 then none else
  if hR h5 v1 2 = 0 then none else
  b1 (f_cTally_begin (hR h5 v1 2) (hR h5 (hR h5 v1 1) 2) h5) fun h9 =>
  if hR h9 v1 2 = 0 then none else
  b1 (f_cTally_add (hR h9 v1 2) v4 v5 v6 h9) fun h12 =>
  if hR h12 v1 2 = 0 then none else
  b1 (f_cTally_fill (hR h12 v1 2) h12) fun h15 =>
  if hR h15 v1 2 = 0 then none else
  b1 (f_cTally_add (hR h15 v1 2) v4 (w32 (v5 + v6)) (w32 (v7 - v6)) h15) fun h18 =>
  if hR h18 v1 2 = 0 then none else
  b1 (f_cTally_fill (hR h18 v1 2) h18) fun h21 =>
  f_cGuard_reckon_b77_lp FU v0 v1 v6 v7 0 h21
def f_cKeystream_cover_b21 (k3 : Nat → Nat → Int → Int → Int → Hp → Option (Hp)) (v0 : Nat) (v1 : Nat) (v2 : Int) (v3 : Int) (v4 : Int) (h : Hp) : Option (Hp) :=
  if v1 = 0 then none else
  if ix (w32 (v2 + v4)) (ln h v1) then
    if hR h v0 2 = 0 then none else
    if ix (iRem v4 64) (ln h (hR h v0 2)) then
      if ix (w32 (v2 + v4)) (ln h v1) then
        lt1 (sI h v1 ((w32 (v2 + v4)).toNat) (i8 (i8 (iXor (hI h v1 ((w32 (v2 + v4)).toNat)) (hI h (hR h v0 2) ((iRem v4 64).toNat)))))) fun h8 =>
        k3 v0 v1 v2 v3 (w32 (v4 + 1)) h8
      else none
    else none
  else none
def f_cKeystream_cover_b3 (k3 : Nat → Nat → Int → Int → Int → Hp → Option (Hp)) (v0 : Nat) (v1 : Nat) (v2 : Int) (v3 : Int) (v4 : Int) (h : Hp) : Option (Hp) :=
  if v3 ≤ v4 then (
    some h
  ) else
  if (iRem v4 64) ≠ 0 then (
    f_cKeystream_cover_b21 k3 v0 v1 v2 v3 v4 h
  ) else
  b1 (f_cKeystream_next v0 h) fun h1 =>
  f_cKeystream_cover_b21 k3 v0 v1 v2 v3 v4 h1
def f_cKeystream_cover_b3_lp : Nat → Nat → Nat → Int → Int → Int → Hp → Option (Hp)
  | 0, _, _, _, _, _, _ => none
  | n + 1, v0, v1, v2, v3, v4, h => f_cKeystream_cover_b3 (f_cKeystream_cover_b3_lp n) v0 v1 v2 v3 v4 h
def f_cKeystream_cover (v0 : Nat) (v1 : Nat) (v2 : Int) (v3 : Int) (h : Hp) : Option (Hp) :=
  f_cKeystream_cover_b3_lp FU v0 v1 v2 v3 0 h
def f_cGuard_open_b27 (k27 : Nat → Nat → Int → Nat → Int → Int → Int → Int → Int → Hp → Option (Int × Hp)) (v0 : Nat) (v1 : Nat) (v2 : Int) (v4 : Nat) (v5 : Int) (v6 : Int) (v8 : Int) (v9 : Int) (v10 : Int) (h : Hp) : Option (Int × Hp) :=
  if 16 ≤ v10 then (
    if v9 = 0 then (
      b1 (f_cGuard_begin v0 v1 v2 1 h) fun h4 =>
      if v1 = 0 then none else
      if hR h4 v1 1 = 0 then none else
      b1 (f_cKeystream_cover (hR h4 v1 1) v4 (w32 (v5 + v6)) (w32 (v8 - v6)) h4) fun h8 =>
      some (v8, h8)
    ) else
    some ((-1), h)
  ) else
  if v1 = 0 then none else
  if hR h v1 6 = 0 then none else
  if ix v10 (ln h (hR h v1 6)) then
    if v4 = 0 then none else
    if ix (w32 ((w32 (v5 + v8)) + v10)) (ln h v4) then
      lt1 (iOr v9 (iXor (hI h (hR h v1 6) v10.toNat) (hI h v4 ((w32 ((w32 (v5 + v8)) + v10)).toNat)))) fun y15 =>
      k27 v0 v1 v2 v4 v5 v6 v8 y15 (w32 (v10 + 1)) h
    else none
  else none
def f_cGuard_open_b27_lp : Nat → Nat → Nat → Int → Nat → Int → Int → Int → Int → Int → Hp → Option (Int × Hp)
  | 0, _, _, _, _, _, _, _, _, _, _ => none
  | n + 1, v0, v1, v2, v4, v5, v6, v8, v9, v10, h => f_cGuard_open_b27 (f_cGuard_open_b27_lp n) v0 v1 v2 v4 v5 v6 v8 v9 v10 h
def f_cGuard_open (v0 : Nat) (v1 : Nat) (v2 : Int) (v4 : Nat) (v5 : Int) (v6 : Int) (v7 : Int) (h : Hp) : Option (Int × Hp) :=
  lt1 (w32 (v7 - 16)) fun y1 =>
  b1 (f_cGuard_reckon v0 v1 v2 v4 v5 v6 y1 h) fun h2 =>
  f_cGuard_open_b27_lp FU v0 v1 v2 v4 v5 v6 y1 0 0 h2
def f_cSide_open_b104 (v0 : Nat) (v1 : Nat) (v2 : Int) (v3 : Int) (v4 : Int) (v5 : Int) (v7 : Nat) (s0 : Nat) (s1 : Int) (h : Hp) : Option (Int × Hp) :=
  b2 (f_cCounting_grow s1 v5 v4 h) fun r27 h25 =>
  if s0 = 0 then none else
  lt1 (sJ h25 s0 30 r27) fun h29 =>
  if v7 = 0 then none else
  b2 (f_cRanges_has v7 (hJ h29 v0 30) h29) fun r33 h31 =>
  if r33 = 0 then (
    if hR h31 v0 37 = 0 then none else
    lt1 (w32 ((w32 ((hI h31 (hR h31 v0 37) 4) + v4)) - v3)) fun y35 =>
    if hR h31 v0 5 = 0 then none else
    if ix v2 (ln h31 (hR h31 v0 5)) then
      if hR h31 (hR h31 v0 5) v2.toNat = 0 then none else
      b2 (f_cGuard_open (hR h31 (hR h31 v0 5) v2.toNat) (hR h31 v0 3) (hJ h31 v0 30) v1 v3 y35 (w32 ((hI h31 (hR h31 v0 37) 5) - v3)) h31) fun r41 h39 =>
      lt1 (sI h39 v0 29 (w32 (v3 + y35))) fun h42 =>
      if 0 ≤ r41 then (
        some (w32 (v3 + r41), h42)
      ) else
      some ((-1), h42)
    else none
  ) else
  some ((-1), h31)
def f_cSide_open (v0 : Nat) (v1 : Nat) (v2 : Int) (h : Hp) : Option (Int × Hp) :=
  if hR h v0 37 = 0 then none else
  lt1 (hI h (hR h v0 37) 3) fun y2 =>
  if hR h v0 5 = 0 then none else
  if ix v2 (ln h (hR h v0 5)) then
    if hR h (hR h v0 5) v2.toNat = 0 then none else
    b2 (f_cGuard_shield (hR h (hR h v0 5) v2.toNat) (hR h v0 3) v1 y2 (w32 ((hI h (hR h v0 37) 4) - y2)) 0 h) fun r8 h6 =>
    if hR h6 v0 37 = 0 then none else
    if hR h6 v0 35 = 0 then none else
    b1 (f_cBytes_over (hR h6 v0 35) v1 (hI h6 (hR h6 v0 37) 4) (hI h6 (hR h6 v0 37) 5) h6) fun h11 =>
    if hR h11 v0 35 = 0 then none else
    b2 (f_cBytes_many (hR h11 v0 35) r8 h11) fun r16 h14 =>
    if hR h14 v0 9 = 0 then none else
    if hR h14 (hR h14 v0 9) 0 = 0 then none else
    if ix v2 (ln h14 (hR h14 (hR h14 v0 9) 0)) then
      if hR h14 (hR h14 (hR h14 v0 9) 0) v2.toNat = 0 then none else
      lt1 (hR h14 (hR h14 (hR h14 (hR h14 v0 9) 0) v2.toNat) 13) fun y21 =>
      if y21 = 0 then none else
      if (hI h14 y21 2) ≠ 0 then (
        if hR h14 y21 1 = 0 then none else
        if ix 0 (ln h14 (hR h14 y21 1)) then
          f_cSide_open_b104 v0 v1 v2 y2 r8 r16 y21 v0 (hJ h14 (hR h14 y21 1) (Int.toNat 0)) h14
        else none
      ) else
      f_cSide_open_b104 v0 v1 v2 y2 r8 r16 y21 v0 (-1) h14
    else none
  else none
def f_cSide_forget (v0 : Nat) (h : Hp) : Option (Hp) :=
  if hR h v0 6 = 0 then none else
  if ix 0 (ln h (hR h v0 6)) then
    lt1 (sI h (hR h v0 6) (Int.toNat 0) 0) fun h3 =>
    if hR h3 v0 7 = 0 then none else
    if hR h3 (hR h3 v0 7) 11 = 0 then none else
    if ix 0 (ln h3 (hR h3 (hR h3 v0 7) 11)) then
      lt1 (sI h3 (hR h3 (hR h3 v0 7) 11) (Int.toNat 0) 0) fun h7 =>
      some h7
    else none
  else none
def f_cSpace_is (v0 : Nat) (v1 : Int) (v2 : Int) (h : Hp) : Option (Int × Hp) :=
  if hR h v0 2 = 0 then none else
  if ix v1 (ln h (hR h v0 2)) then
    if (iAnd (hI h (hR h v0 2) v1.toNat) v2) = 0 then (
      some (0, h)
    ) else
    some (1, h)
  else none
def f_cSpace_inFlight_b45 (k7 : Nat → Int → Int → Hp → Option (Int × Hp)) (v0 : Nat) (v1 : Int) (v2 : Int) (h : Hp) : Option (Int × Hp) :=
  k7 v0 v1 (w32 (v2 + 1)) h
def f_cSpace_inFlight_b7 (k7 : Nat → Int → Int → Hp → Option (Int × Hp)) (v0 : Nat) (v1 : Int) (v2 : Int) (h : Hp) : Option (Int × Hp) :=
  if (hI h v0 3) ≤ v2 then (
    some (v1, h)
  ) else
  if hR h v0 2 = 0 then none else
  if ix v2 (ln h (hR h v0 2)) then
    if (iAnd (hI h (hR h v0 2) v2.toNat) 3) ≠ 0 then (
      f_cSpace_inFlight_b45 k7 v0 v1 v2 h
    ) else
    b2 (f_cSpace_is v0 v2 8 h) fun r6 h4 =>
    if r6 = 0 then (
      f_cSpace_inFlight_b45 k7 v0 v1 v2 h4
    ) else
    if hR h4 v0 1 = 0 then none else
    if ix v2 (ln h4 (hR h4 v0 1)) then
      lt1 (w32 (v1 + (hI h4 (hR h4 v0 1) v2.toNat))) fun y9 =>
      f_cSpace_inFlight_b45 k7 v0 y9 v2 h4
    else none
  else none
def f_cSpace_inFlight_b7_lp : Nat → Nat → Int → Int → Hp → Option (Int × Hp)
  | 0, _, _, _, _ => none
  | n + 1, v0, v1, v2, h => f_cSpace_inFlight_b7 (f_cSpace_inFlight_b7_lp n) v0 v1 v2 h
def f_cSpace_inFlight (v0 : Nat) (h : Hp) : Option (Int × Hp) :=
  lt1 (hI h v0 9) fun y1 =>
  f_cSpace_inFlight_b7_lp FU v0 0 y1 h
def f_cQueue_clear (v0 : Nat) (h : Hp) : Option (Hp) :=
  lt1 (sI h v0 1 0) fun h1 =>
  lt1 (sI h1 v0 2 0) fun h2 =>
  some h2
def f_cRanges_clear (v0 : Nat) (h : Hp) : Option (Hp) :=
  lt1 (sI h v0 2 0) fun h1 =>
  lt1 (sJ h1 v0 3 0) fun h2 =>
  some h2
def f_cSpace_discard (v0 : Nat) (h : Hp) : Option (Hp) :=
  lt1 (sI h v0 10 1) fun h1 =>
  lt1 (sI h1 v0 4 0) fun h2 =>
  lt1 (sI h2 v0 5 0) fun h3 =>
  lt1 (sI h3 v0 8 (-1)) fun h4 =>
  if hR h4 v0 11 = 0 then none else
  b1 (f_cQueue_clear (hR h4 v0 11) h4) fun h6 =>
  if hR h6 v0 12 = 0 then none else
  b1 (f_cQueue_clear (hR h6 v0 12) h6) fun h9 =>
  if hR h9 v0 13 = 0 then none else
  b1 (f_cRanges_clear (hR h9 v0 13) h9) fun h12 =>
  lt1 (sI h12 v0 14 0) fun h14 =>
  lt1 (sI h14 v0 17 0) fun h15 =>
  some h15
def f_cBook_discard (v0 : Nat) (v1 : Int) (h : Hp) : Option (Hp) :=
  if hR h v0 2 = 0 then none else
  if hR h v0 0 = 0 then none else
  if ix v1 (ln h (hR h v0 0)) then
    if hR h (hR h v0 0) v1.toNat = 0 then none else
    b2 (f_cSpace_inFlight (hR h (hR h v0 0) v1.toNat) h) fun r7 h5 =>
    lt1 (sI h5 (hR h v0 2) 3 (w32 ((hI h (hR h v0 2) 3) - r7))) fun h8 =>
    if hR h8 v0 0 = 0 then none else
    if ix v1 (ln h8 (hR h8 v0 0)) then
      if hR h8 (hR h8 v0 0) v1.toNat = 0 then none else
      b1 (f_cSpace_discard (hR h8 (hR h8 v0 0) v1.toNat) h8) fun h12 =>
      lt1 (sI h12 v0 4 0) fun h14 =>
      some h14
    else none
  else none
def f_cSide_discard (v0 : Nat) (v1 : Int) (h : Hp) : Option (Hp) :=
  if hR h v0 9 = 0 then none else
  if hR h (hR h v0 9) 0 = 0 then none else
  if ix v1 (ln h (hR h (hR h v0 9) 0)) then
    if hR h (hR h (hR h v0 9) 0) v1.toNat = 0 then none else
    if (hI h (hR h (hR h (hR h v0 9) 0) v1.toNat) 10) = 0 then (
      b1 (f_cBook_discard (hR h v0 9) v1 h) fun h5 =>
      if hR h5 v0 6 = 0 then none else
      if ix v1 (ln h5 (hR h5 v0 6)) then
        lt1 (sI h5 (hR h5 v0 6) v1.toNat 0) fun h9 =>
        if hR h9 v0 32 = 0 then none else
        if ix v1 (ln h9 (hR h9 v0 32)) then
          lt1 (sI h9 (hR h9 v0 32) v1.toNat 0) fun h12 =>
          some h12
        else none
      else none
    ) else
    some h
  else none
def f_cSide_opened_b81 (v0 : Nat) (h : Hp) : Option (Hp) :=
  if hR h v0 9 = 0 then none else
  lt1 (sI h v0 26 (hI h (hR h v0 9) 3)) fun h17 =>
  lt1 (sI h17 v0 31 0) fun h18 =>
  some h18
def f_cSide_opened_b58 (v0 : Nat) (v2 : Int) (h : Hp) : Option (Hp) :=
  if (hI h v0 0) ≠ 1 then (
    f_cSide_opened_b81 v0 h
  ) else
  if v2 ≠ 1 then (
    f_cSide_opened_b81 v0 h
  ) else
  lt1 (sI h v0 14 1) fun h13 =>
  b1 (f_cSide_discard v0 0 h13) fun h14 =>
  f_cSide_opened_b81 v0 h14
def f_cSide_opened_b23 (v0 : Nat) (v1 : Nat) (v2 : Int) (h : Hp) : Option (Hp) :=
  if (hI h v0 13) ≠ 0 then (
    f_cSide_opened_b58 v0 v2 h
  ) else
  if 2 ≤ v2 then (
    f_cSide_opened_b58 v0 v2 h
  ) else
  lt1 (sI h v0 13 1) fun h7 =>
  if hR h7 v0 37 = 0 then none else
  if v1 = 0 then none else
  if hR h7 v0 12 = 0 then none else
  if cpk (hI h7 (hR h7 v0 37) 9) 0 8 (ln h7 v1) (ln h7 (hR h7 v0 12)) then
    lt1 (cpI h7 v1 ((hI h7 (hR h7 v0 37) 9).toNat) (hR h7 v0 12) (Int.toNat 0) (Int.toNat 8)) fun h12 =>
    f_cSide_opened_b58 v0 v2 h12
  else none
def f_cSide_opened (v0 : Nat) (v1 : Nat) (v2 : Int) (h : Hp) : Option (Hp) :=
  if (hI h v0 1) ≠ 0 then (
    f_cSide_opened_b23 v0 v1 v2 h
  ) else
  lt1 (sI h v0 1 1) fun h1 =>
  b1 (f_cSide_tell v0 h1) fun h2 =>
  if hR h2 v0 7 = 0 then none else
  b1 (f_cGreeting_begin (hR h2 v0 7) h2) fun h5 =>
  f_cSide_opened_b23 v0 v1 v2 h5
def f_cFrame_clear_b32 (k32 : Nat → Int → Hp → Option (Hp)) (v0 : Nat) (v1 : Int) (h : Hp) : Option (Hp) :=
  if 3 ≤ v1 then (
    lt1 (sI h v0 8 0) fun h7 =>
    lt1 (sI h7 v0 9 0) fun h8 =>
    lt1 (sI h8 v0 10 0) fun h9 =>
    lt1 (sI h9 v0 11 0) fun h10 =>
    some h10
  ) else
  if hR h v0 6 = 0 then none else
  if ix v1 (ln h (hR h v0 6)) then
    lt1 (sJ h (hR h v0 6) v1.toNat 0) fun h13 =>
    k32 v0 (w32 (v1 + 1)) h13
  else none
def f_cFrame_clear_b32_lp : Nat → Nat → Int → Hp → Option (Hp)
  | 0, _, _, _ => none
  | n + 1, v0, v1, h => f_cFrame_clear_b32 (f_cFrame_clear_b32_lp n) v0 v1 h
def f_cFrame_clear (v0 : Nat) (h : Hp) : Option (Hp) :=
  lt1 (sI h v0 0 0) fun h1 =>
  lt1 (sI h1 v0 1 0) fun h2 =>
  lt1 (sJ h2 v0 2 0) fun h3 =>
  lt1 (sJ h3 v0 3 0) fun h4 =>
  lt1 (sJ h4 v0 4 0) fun h5 =>
  lt1 (sJ h5 v0 5 0) fun h6 =>
  f_cFrame_clear_b32_lp FU v0 0 h6
def f_cFrame_isKind (v0 : Int) (h : Hp) : Option (Int × Hp) :=
  if v0 < 0 then (
    some (0, h)
  ) else
  if 30 < v0 then (
    some (0, h)
  ) else
  some (1, h)
def f_cFrame_fails (v0 : Nat) (v1 : Int) (h : Hp) : Option (Int × Hp) :=
  lt1 (sI h v0 1 v1) fun h1 =>
  some (v1, h1)
def f_cFrame_isEarly_b17 (h : Hp) : Option (Int × Hp) :=
  some (1, h)
def f_cFrame_isEarly (v0 : Int) (h : Hp) : Option (Int × Hp) :=
  if v0 < 4 then (
    f_cFrame_isEarly_b17  h
  ) else
  if v0 = 6 then (
    f_cFrame_isEarly_b17  h
  ) else
  if v0 ≠ 28 then (
    some (0, h)
  ) else
  f_cFrame_isEarly_b17  h
def f_cFrame_paddings_b5 (k5 : Nat → Nat → Hp → Option (Int × Hp)) (v0 : Nat) (v1 : Nat) (h : Hp) : Option (Int × Hp) :=
  if v1 = 0 then none else
  b2 (f_cBytes_left v1 h) fun r5 h3 =>
  if r5 ≤ 0 then (
    some (1, h3)
  ) else
  if hR h3 v1 0 = 0 then none else
  if ix (hI h3 v1 1) (ln h3 (hR h3 v1 0)) then
    if (hI h3 (hR h3 v1 0) ((hI h3 v1 1).toNat)) ≠ 0 then (
      some (1, h3)
    ) else
    b2 (f_cBytes_pass v1 1 h3) fun r10 h8 =>
    lt1 (sJ h8 v0 2 (w64 ((hJ h8 v0 2) + 1))) fun h11 =>
    k5 v0 v1 h11
  else none
def f_cFrame_paddings_b5_lp : Nat → Nat → Nat → Hp → Option (Int × Hp)
  | 0, _, _, _ => none
  | n + 1, v0, v1, h => f_cFrame_paddings_b5 (f_cFrame_paddings_b5_lp n) v0 v1 h
def f_cFrame_paddings (v0 : Nat) (v1 : Nat) (h : Hp) : Option (Int × Hp) :=
  lt1 (sJ h v0 2 1) fun h1 =>
  f_cFrame_paddings_b5_lp FU v0 v1 h1
def f_cFrame_twice (v0 : Nat) (h : Hp) : Option (Nat × Hp) :=
  if v0 = 0 then none else
  if (0 : Int) ≤ (w32 (2 * (ln h v0 : Int))) ∧ hN h + 1 ≤ CN ∧ hZ h + (w32 (2 * (ln h v0 : Int))).toNat ≤ CZ then
    lt1 (nwC h 105 ((w32 (2 * (ln h v0 : Int))).toNat) ((w32 (2 * (ln h v0 : Int))).toNat)) fun h3 =>
    lt1 (hN h) fun y5 =>
    if cpk 0 0 (ln h3 v0 : Int) (ln h3 v0) (ln h3 y5) then
      lt1 (cpJ h3 v0 (Int.toNat 0) y5 (Int.toNat 0) ((ln h3 v0 : Int).toNat)) fun h8 =>
      some (y5, h8)
    else none
  else none
def f_cFrame_span_b34 (v0 : Nat) (v1 : Int) (v3 : Int) (h : Hp) : Option (Hp) :=
  if hR h v0 12 = 0 then none else
  if ix (hI h v0 11) (ln h (hR h v0 12)) then
    lt1 (sJ h (hR h v0 12) ((hI h v0 11).toNat) v1) fun h12 =>
    if hR h12 v0 13 = 0 then none else
    if ix (hI h12 v0 11) (ln h12 (hR h12 v0 13)) then
      lt1 (sJ h12 (hR h12 v0 13) ((hI h12 v0 11).toNat) v3) fun h15 =>
      lt1 (sI h15 v0 11 (w32 ((hI h15 v0 11) + 1))) fun h16 =>
      some h16
    else none
  else none
def f_cFrame_span (v0 : Nat) (v1 : Int) (v3 : Int) (h : Hp) : Option (Hp) :=
  if hR h v0 12 = 0 then none else
  if (hI h v0 11) ≠ (ln h (hR h v0 12) : Int) then (
    f_cFrame_span_b34 v0 v1 v3 h
  ) else
  b2 (f_cFrame_twice (hR h v0 12) h) fun r4 h2 =>
  lt1 (sR h2 v0 12 r4) fun h5 =>
  b2 (f_cFrame_twice (hR h5 v0 13) h5) fun r8 h6 =>
  lt1 (sR h6 v0 13 r8) fun h9 =>
  f_cFrame_span_b34 v0 v1 v3 h9
def f_cFrame_acknowledges_b138 (k64 : Nat → Nat → Int → Int → Int → Int → Hp → Option (Int × Hp)) (v0 : Nat) (v1 : Nat) (v2 : Int) (v4 : Int) (v6 : Int) (v7 : Int) (h : Hp) : Option (Int × Hp) :=
  lt1 (w64 (v7 + 1)) fun y30 =>
  k64 v0 v1 v2 v4 v6 y30 h
def f_cFrame_acknowledges_b117 (k64 : Nat → Nat → Int → Int → Int → Int → Hp → Option (Int × Hp)) (v0 : Nat) (v1 : Nat) (v2 : Int) (v4 : Int) (v7 : Int) (v9 : Int) (s0 : Int) (h : Hp) : Option (Int × Hp) :=
  if s0 = 0 then (
    f_cFrame_acknowledges_b138 k64 v0 v1 v2 0 s0 v7 h
  ) else
  b1 (f_cFrame_span v0 v4 v9 h) fun h28 =>
  f_cFrame_acknowledges_b138 k64 v0 v1 v2 v4 s0 v7 h28
def f_cFrame_acknowledges_b116 (k64 : Nat → Nat → Int → Int → Int → Int → Hp → Option (Int × Hp)) (v0 : Nat) (v1 : Nat) (v2 : Int) (v4 : Int) (v7 : Int) (v9 : Int) (h : Hp) : Option (Int × Hp) :=
  f_cFrame_acknowledges_b117 k64 v0 v1 v2 v4 v7 v9 0 h
def f_cFrame_acknowledges_b150 (k150 : Nat → Nat → Int → Int → Hp → Option (Int × Hp)) (v0 : Nat) (v1 : Nat) (v6 : Int) (v7 : Int) (h : Hp) : Option (Int × Hp) :=
  if 3 ≤ v7 then (
    if v6 = 0 ∨ v6 = 1 then some (v6, h) else none
  ) else
  if (hI h v0 0) ≠ 3 then (
    if v6 = 0 ∨ v6 = 1 then some (v6, h) else none
  ) else
  if v1 = 0 then none else
  b2 (f_cBytes_number v1 h) fun r36 h34 =>
  if hR h v0 6 = 0 then none else
  if ix v7 (ln h34 (hR h v0 6)) then
    lt1 (sJ h34 (hR h v0 6) v7.toNat r36) fun h39 =>
    k150 v0 v1 v6 (w32 (v7 + 1)) h39
  else none
def f_cFrame_acknowledges_b150_lp : Nat → Nat → Nat → Int → Int → Hp → Option (Int × Hp)
  | 0, _, _, _, _, _ => none
  | n + 1, v0, v1, v6, v7, h => f_cFrame_acknowledges_b150 (f_cFrame_acknowledges_b150_lp n) v0 v1 v6 v7 h
def f_cFrame_acknowledges_b147 (v0 : Nat) (v1 : Nat) (v6 : Int) (h : Hp) : Option (Int × Hp) :=
  f_cFrame_acknowledges_b150_lp FU v0 v1 v6 0 h
def f_cFrame_acknowledges_b64 (k64 : Nat → Nat → Int → Int → Int → Int → Hp → Option (Int × Hp)) (v0 : Nat) (v1 : Nat) (v2 : Int) (v4 : Int) (v6 : Int) (v7 : Int) (h : Hp) : Option (Int × Hp) :=
  if v2 ≤ v7 then (
    f_cFrame_acknowledges_b147 v0 v1 v6 h
  ) else
  if v1 = 0 then none else
  if (hI h v1 3) ≠ 0 then (
    f_cFrame_acknowledges_b147 v0 v1 v6 h
  ) else
  b2 (f_cBytes_number v1 h) fun r22 h20 =>
  lt1 (w64 ((w64 (v4 - r22)) - 2)) fun y23 =>
  b2 (f_cBytes_number v1 h20) fun r26 h24 =>
  lt1 (w64 (y23 - r26)) fun y27 =>
  if v6 = 0 then (
    f_cFrame_acknowledges_b116 k64 v0 v1 v2 y27 v7 y23 h24
  ) else
  if y27 < 0 then (
    f_cFrame_acknowledges_b116 k64 v0 v1 v2 y27 v7 y23 h24
  ) else
  f_cFrame_acknowledges_b117 k64 v0 v1 v2 y27 v7 y23 1 h24
def f_cFrame_acknowledges_b64_lp : Nat → Nat → Nat → Int → Int → Int → Int → Hp → Option (Int × Hp)
  | 0, _, _, _, _, _, _, _ => none
  | n + 1, v0, v1, v2, v4, v6, v7, h => f_cFrame_acknowledges_b64 (f_cFrame_acknowledges_b64_lp n) v0 v1 v2 v4 v6 v7 h
def f_cFrame_acknowledges_b61 (v0 : Nat) (v1 : Nat) (v2 : Int) (v4 : Int) (v6 : Int) (h : Hp) : Option (Int × Hp) :=
  f_cFrame_acknowledges_b64_lp FU v0 v1 v2 v4 v6 0 h
def f_cFrame_acknowledges_b44 (v0 : Nat) (v1 : Nat) (v2 : Int) (v4 : Int) (s0 : Int) (h : Hp) : Option (Int × Hp) :=
  if s0 = 0 then (
    f_cFrame_acknowledges_b61 v0 v1 v2 v4 s0 h
  ) else
  b1 (f_cFrame_span v0 v4 (hJ h v0 2) h) fun h17 =>
  f_cFrame_acknowledges_b61 v0 v1 v2 v4 s0 h17
def f_cFrame_acknowledges (v0 : Nat) (v1 : Nat) (h : Hp) : Option (Int × Hp) :=
  if v1 = 0 then none else
  b2 (f_cBytes_number v1 h) fun r4 h2 =>
  lt1 (sJ h2 v0 2 r4) fun h5 =>
  b2 (f_cBytes_number v1 h5) fun r8 h6 =>
  lt1 (sJ h6 v0 3 r8) fun h9 =>
  b2 (f_cBytes_number v1 h9) fun r12 h10 =>
  b2 (f_cBytes_number v1 h10) fun r15 h13 =>
  lt1 (w64 ((hJ h10 v0 2) - r15)) fun y16 =>
  if y16 < 0 then (
    f_cFrame_acknowledges_b44 v0 v1 r12 y16 0 h13
  ) else
  f_cFrame_acknowledges_b44 v0 v1 r12 y16 1 h13
def f_cFrame_slice_b34 (v0 : Nat) (v1 : Nat) (s0 : Nat) (s1 : Int) (h : Hp) : Option (Hp) :=
  if s0 = 0 then none else
  lt1 (sI h s0 9 s1) fun h11 =>
  if v1 = 0 then none else
  b2 (f_cBytes_pass v1 (hI h11 v0 9) h11) fun r15 h13 =>
  lt1 (sI h13 v0 8 r15) fun h16 =>
  some h16
def f_cFrame_slice_b20 (v0 : Nat) (v1 : Nat) (v2 : Int) (h : Hp) : Option (Hp) :=
  if v1 = 0 then none else
  if (hI h v1 3) = 0 then (
    f_cFrame_slice_b34 v0 v1 v0 (w32 v2) h
  ) else
  f_cFrame_slice_b34 v0 v1 v0 0 h
def f_cFrame_slice (v0 : Nat) (v1 : Nat) (h : Hp) : Option (Hp) :=
  if v1 = 0 then none else
  b2 (f_cBytes_number v1 h) fun r4 h2 =>
  b2 (f_cBytes_left v1 h2) fun r7 h5 =>
  if r4 ≤ r7 then (
    f_cFrame_slice_b20 v0 v1 r4 h5
  ) else
  lt1 (sI h5 v1 3 1) fun h8 =>
  f_cFrame_slice_b20 v0 v1 r4 h8
def f_cFrame_allowed_b18 (v0 : Nat) (h : Hp) : Option (Int × Hp) :=
  if (w64 (4611686018427387903 - (hI h v0 9))) < (hJ h v0 3) then (
    some (0, h)
  ) else
  some (1, h)
def f_cFrame_allowed_b153 (v0 : Nat) (h : Hp) : Option (Int × Hp) :=
  some (1, h)
def f_cFrame_allowed_b142 (v0 : Nat) (h : Hp) : Option (Int × Hp) :=
  if 1152921504606846976 < (hJ h v0 2) then (
    some (0, h)
  ) else
  f_cFrame_allowed_b153 v0 h
def f_cFrame_allowed (v0 : Nat) (h : Hp) : Option (Int × Hp) :=
  if (hI h v0 0) = 6 then (
    f_cFrame_allowed_b18 v0 h
  ) else
  if (hI h v0 0) ≠ 8 then (
    if (hI h v0 0) ≠ 7 then (
      if (hI h v0 0) ≠ 24 then (
        if (hI h v0 0) = 18 then (
          f_cFrame_allowed_b142 v0 h
        ) else
        if (hI h v0 0) = 19 then (
          f_cFrame_allowed_b142 v0 h
        ) else
        if (hI h v0 0) = 22 then (
          f_cFrame_allowed_b142 v0 h
        ) else
        if (hI h v0 0) ≠ 23 then (
          f_cFrame_allowed_b153 v0 h
        ) else
        f_cFrame_allowed_b142 v0 h
      ) else
      if (hJ h v0 2) < (hJ h v0 3) then (
        some (0, h)
      ) else
      if (hI h v0 9) ≤ 0 then (
        some (0, h)
      ) else
      if 20 < (hI h v0 9) then (
        some (0, h)
      ) else
      some (1, h)
    ) else
    if (hI h v0 9) ≤ 0 then (
      some (0, h)
    ) else
    some (1, h)
  ) else
  f_cFrame_allowed_b18 v0 h
def f_cFrame_streams_b77 (v0 : Nat) (h : Hp) : Option (Int × Hp) :=
  b2 (f_cFrame_allowed v0 h) fun r25 h23 =>
  if r25 = 0 ∨ r25 = 1 then some (r25, h23) else none
def f_cFrame_streams_b40 (v0 : Nat) (v1 : Nat) (h : Hp) : Option (Int × Hp) :=
  if (hJ h v0 5) ≠ 1 then (
    if v1 = 0 then none else
    b2 (f_cBytes_left v1 h) fun r15 h13 =>
    lt1 (sI h13 v0 9 r15) fun h16 =>
    b2 (f_cBytes_pass v1 (hI h16 v0 9) h16) fun r19 h17 =>
    lt1 (sI h17 v0 8 r19) fun h20 =>
    f_cFrame_streams_b77 v0 h20
  ) else
  b1 (f_cFrame_slice v0 v1 h) fun h21 =>
  f_cFrame_streams_b77 v0 h21
def f_cFrame_streams (v0 : Nat) (v1 : Nat) (v2 : Int) (h : Hp) : Option (Int × Hp) :=
  lt1 (sJ h v0 4 (iAnd v2 1)) fun h1 =>
  lt1 (sJ h1 v0 5 (iAnd (iShr v2 1) 1)) fun h2 =>
  if v1 = 0 then none else
  b2 (f_cBytes_number v1 h2) fun r6 h4 =>
  lt1 (sJ h4 v0 2 r6) fun h7 =>
  if (iAnd v2 4) = 0 then (
    f_cFrame_streams_b40 v0 v1 h7
  ) else
  b2 (f_cBytes_number v1 h7) fun r10 h8 =>
  lt1 (sJ h8 v0 3 r10) fun h11 =>
  f_cFrame_streams_b40 v0 v1 h11
def f_cFrame_names (v0 : Nat) (v1 : Nat) (h : Hp) : Option (Int × Hp) :=
  if v1 = 0 then none else
  b2 (f_cBytes_number v1 h) fun r4 h2 =>
  lt1 (sJ h2 v0 2 r4) fun h5 =>
  b2 (f_cBytes_number v1 h5) fun r8 h6 =>
  lt1 (sJ h6 v0 3 r8) fun h9 =>
  b2 (f_cBytes_one v1 h9) fun r12 h10 =>
  lt1 (sI h10 v0 9 r12) fun h13 =>
  b2 (f_cBytes_pass v1 (hI h13 v0 9) h13) fun r16 h14 =>
  lt1 (sI h14 v0 8 r16) fun h17 =>
  b2 (f_cBytes_pass v1 16 h17) fun r20 h18 =>
  lt1 (sI h18 v0 10 r20) fun h21 =>
  b2 (f_cFrame_allowed v0 h21) fun r24 h22 =>
  if r24 = 0 ∨ r24 = 1 then some (r24, h22) else none
def f_cFrame_carries_b54 (v0 : Nat) (h : Hp) : Option (Int × Hp) :=
  some (1, h)
def f_cFrame_carries (v0 : Nat) (h : Hp) : Option (Int × Hp) :=
  if (hI h v0 0) = 6 then (
    f_cFrame_carries_b54 v0 h
  ) else
  if (hI h v0 0) = 7 then (
    f_cFrame_carries_b54 v0 h
  ) else
  if (hI h v0 0) = 8 then (
    f_cFrame_carries_b54 v0 h
  ) else
  if (hI h v0 0) = 24 then (
    f_cFrame_carries_b54 v0 h
  ) else
  if (hI h v0 0) ≤ 27 then (
    some (0, h)
  ) else
  if 30 ≤ (hI h v0 0) then (
    some (0, h)
  ) else
  f_cFrame_carries_b54 v0 h
def f_cFrame_fields_b152 (v0 : Nat) (v1 : Nat) (h : Hp) : Option (Int × Hp) :=
  b2 (f_cFrame_acknowledges v0 v1 h) fun r106 h104 =>
  if r106 = 0 ∨ r106 = 1 then some (r106, h104) else none
def f_cFrame_fields_b281 (v0 : Nat) (h : Hp) : Option (Int × Hp) :=
  b2 (f_cFrame_allowed v0 h) fun r97 h95 =>
  if r97 = 0 ∨ r97 = 1 then some (r97, h95) else none
def f_cFrame_fields_b269 (v0 : Nat) (v1 : Nat) (h : Hp) : Option (Int × Hp) :=
  b2 (f_cFrame_carries v0 h) fun r92 h90 =>
  if r92 = 0 then (
    f_cFrame_fields_b281 v0 h90
  ) else
  b1 (f_cFrame_slice v0 v1 h90) fun h93 =>
  f_cFrame_fields_b281 v0 h93
def f_cFrame_fields_b253 (v0 : Nat) (v1 : Nat) (h : Hp) : Option (Int × Hp) :=
  if (hI h v0 0) ≠ 4 then (
    f_cFrame_fields_b269 v0 v1 h
  ) else
  if v1 = 0 then none else
  b2 (f_cBytes_number v1 h) fun r88 h86 =>
  lt1 (sJ h86 v0 4 r88) fun h89 =>
  f_cFrame_fields_b269 v0 v1 h89
def f_cFrame_fields_b245 (v0 : Nat) (v1 : Nat) (h : Hp) : Option (Int × Hp) :=
  if v1 = 0 then none else
  b2 (f_cBytes_number v1 h) fun r102 h100 =>
  lt1 (sJ h100 v0 3 r102) fun h103 =>
  f_cFrame_fields_b253 v0 v1 h103
def f_cFrame_fields_b209 (v0 : Nat) (v1 : Nat) (h : Hp) : Option (Int × Hp) :=
  if (hI h v0 0) < 7 then (
    f_cFrame_fields_b245 v0 v1 h
  ) else
  if (hI h v0 0) = 17 then (
    f_cFrame_fields_b245 v0 v1 h
  ) else
  if (hI h v0 0) = 21 then (
    f_cFrame_fields_b245 v0 v1 h
  ) else
  if (hI h v0 0) ≠ 28 then (
    f_cFrame_fields_b253 v0 v1 h
  ) else
  f_cFrame_fields_b245 v0 v1 h
def f_cFrame_fields_b183 (v0 : Nat) (v1 : Nat) (h : Hp) : Option (Int × Hp) :=
  if (hI h v0 0) = 6 then (
    f_cFrame_fields_b209 v0 v1 h
  ) else
  if (hI h v0 0) = 7 then (
    f_cFrame_fields_b209 v0 v1 h
  ) else
  if v1 = 0 then none else
  b2 (f_cBytes_number v1 h) fun r83 h81 =>
  lt1 (sJ h81 v0 2 r83) fun h84 =>
  f_cFrame_fields_b209 v0 v1 h84
def f_cFrame_fields_b171 (v0 : Nat) (v1 : Nat) (h : Hp) : Option (Int × Hp) :=
  if v1 = 0 then none else
  b2 (f_cBytes_many v1 8 h) fun r78 h76 =>
  lt1 (sJ h76 v0 2 r78) fun h79 =>
  some (1, h79)
def f_cFrame_fields (v0 : Nat) (v1 : Nat) (v2 : Int) (h : Hp) : Option (Int × Hp) :=
  if hI h v0 0 = 0 then (
    b2 (f_cFrame_paddings v0 v1 h) fun r5 h3 =>
    if r5 = 0 ∨ r5 = 1 then some (r5, h3) else none
  ) else
  if hI h v0 0 = 1 then (
    some (1, h)
  ) else
  if hI h v0 0 = 2 then (
    f_cFrame_fields_b152 v0 v1 h
  ) else
  if hI h v0 0 = 3 then (
    f_cFrame_fields_b152 v0 v1 h
  ) else
  if hI h v0 0 = 4 then (
    f_cFrame_fields_b183 v0 v1 h
  ) else
  if hI h v0 0 = 5 then (
    f_cFrame_fields_b183 v0 v1 h
  ) else
  if hI h v0 0 = 6 then (
    f_cFrame_fields_b183 v0 v1 h
  ) else
  if hI h v0 0 = 7 then (
    f_cFrame_fields_b183 v0 v1 h
  ) else
  if hI h v0 0 = 8 then (
    b2 (f_cFrame_streams v0 v1 v2 h) fun r25 h23 =>
    if r25 = 0 ∨ r25 = 1 then some (r25, h23) else none
  ) else
  if hI h v0 0 = 9 then (
    f_cFrame_fields_b183 v0 v1 h
  ) else
  if hI h v0 0 = 10 then (
    f_cFrame_fields_b183 v0 v1 h
  ) else
  if hI h v0 0 = 11 then (
    f_cFrame_fields_b183 v0 v1 h
  ) else
  if hI h v0 0 = 12 then (
    f_cFrame_fields_b183 v0 v1 h
  ) else
  if hI h v0 0 = 13 then (
    f_cFrame_fields_b183 v0 v1 h
  ) else
  if hI h v0 0 = 14 then (
    f_cFrame_fields_b183 v0 v1 h
  ) else
  if hI h v0 0 = 15 then (
    f_cFrame_fields_b183 v0 v1 h
  ) else
  if hI h v0 0 = 16 then (
    f_cFrame_fields_b183 v0 v1 h
  ) else
  if hI h v0 0 = 17 then (
    f_cFrame_fields_b183 v0 v1 h
  ) else
  if hI h v0 0 = 18 then (
    f_cFrame_fields_b183 v0 v1 h
  ) else
  if hI h v0 0 = 19 then (
    f_cFrame_fields_b183 v0 v1 h
  ) else
  if hI h v0 0 = 20 then (
    f_cFrame_fields_b183 v0 v1 h
  ) else
  if hI h v0 0 = 21 then (
    f_cFrame_fields_b183 v0 v1 h
  ) else
  if hI h v0 0 = 22 then (
    f_cFrame_fields_b183 v0 v1 h
  ) else
  if hI h v0 0 = 23 then (
    f_cFrame_fields_b183 v0 v1 h
  ) else
  if hI h v0 0 = 24 then (
    b2 (f_cFrame_names v0 v1 h) fun r61 h59 =>
    if r61 = 0 ∨ r61 = 1 then some (r61, h59) else none
  ) else
  if hI h v0 0 = 25 then (
    f_cFrame_fields_b183 v0 v1 h
  ) else
  if hI h v0 0 = 26 then (
    f_cFrame_fields_b171 v0 v1 h
  ) else
  if hI h v0 0 = 27 then (
    f_cFrame_fields_b171 v0 v1 h
  ) else
  if hI h v0 0 = 28 then (
    f_cFrame_fields_b183 v0 v1 h
  ) else
  if hI h v0 0 = 29 then (
    f_cFrame_fields_b183 v0 v1 h
  ) else
  if hI h v0 0 = 30 then (
    some (1, h)
  ) else
  f_cFrame_fields_b183 v0 v1 h
def f_cFrame_read_b70 (v0 : Nat) (v1 : Nat) (v3 : Int) (h : Hp) : Option (Int × Hp) :=
  b2 (f_cFrame_fields v0 v1 v3 h) fun r24 h22 =>
  if v1 = 0 then none else
  if (hI h22 v1 3) = 0 then (
    if r24 = 0 then (
      b2 (f_cFrame_fails v0 3 h22) fun r28 h26 =>
      some (r28, h26)
    ) else
    some (0, h22)
  ) else
  b2 (f_cFrame_fails v0 1 h22) fun r31 h29 =>
  some (r31, h29)
def f_cFrame_read_b49 (v0 : Nat) (v1 : Nat) (v2 : Int) (v3 : Int) (s0 : Nat) (s1 : Int) (h : Hp) : Option (Int × Hp) :=
  if s0 = 0 then none else
  lt1 (sI h s0 0 s1) fun h15 =>
  if 2 ≤ v2 then (
    f_cFrame_read_b70 v0 v1 v3 h15
  ) else
  b2 (f_cFrame_isEarly v3 h15) fun r18 h16 =>
  if r18 ≠ 0 then (
    f_cFrame_read_b70 v0 v1 v3 h16
  ) else
  b2 (f_cFrame_fails v0 4 h16) fun r21 h19 =>
  some (r21, h19)
def f_cFrame_read_b48 (v0 : Nat) (v1 : Nat) (v2 : Int) (v3 : Int) (s0 : Nat) (h : Hp) : Option (Int × Hp) :=
  f_cFrame_read_b49 v0 v1 v2 v3 s0 v3 h
def f_cFrame_read (v0 : Nat) (v1 : Nat) (v2 : Int) (h : Hp) : Option (Int × Hp) :=
  b1 (f_cFrame_clear v0 h) fun h1 =>
  if v1 = 0 then none else
  lt1 (sR h1 v0 7 (hR h1 v1 0)) fun h4 =>
  b2 (f_cBytes_one v1 h4) fun r7 h5 =>
  b2 (f_cFrame_isKind r7 h5) fun r10 h8 =>
  if r10 ≠ 0 then (
    if r7 ≤ 7 then (
      f_cFrame_read_b48 v0 v1 v2 r7 v0 h8
    ) else
    if 16 ≤ r7 then (
      f_cFrame_read_b48 v0 v1 v2 r7 v0 h8
    ) else
    f_cFrame_read_b49 v0 v1 v2 r7 v0 8 h8
  ) else
  b2 (f_cFrame_fails v0 2 h8) fun r13 h11 =>
  some (r13, h11)
def f_cBook_isSent (v0 : Nat) (v1 : Int) (h : Hp) : Option (Int × Hp) :=
  if hR h v0 9 = 0 then none else
  if ix 0 (ln h (hR h v0 9)) then
    if hR h v0 0 = 0 then none else
    if ix v1 (ln h (hR h v0 0)) then
      if hR h (hR h v0 0) v1.toNat = 0 then none else
      if (hI h (hR h (hR h v0 0) v1.toNat) 3) ≤ (hJ h (hR h v0 9) (Int.toNat 0)) then (
        some (0, h)
      ) else
      some (1, h)
    else none
  else none
def f_cSpace_state (v0 : Nat) (v1 : Int) (h : Hp) : Option (Int × Hp) :=
  if (hI h v0 10) = 0 then (
    if hR h v0 2 = 0 then none else
    if ix v1 (ln h (hR h v0 2)) then
      some (iAnd (hI h (hR h v0 2) v1.toNat) 3, h)
    else none
  ) else
  some (3, h)
def f_cTrip_sample_b73 (v0 : Nat) (s0 : Int) (h : Hp) : Option (Hp) :=
  lt1 (sI h v0 1 (w32 ((hI h v0 1) + (w32 ((if 0 ≤ (w32 ((iDiv (hI h v0 0) 8) - s0)) then (w32 ((iDiv (hI h v0 0) 8) - s0)) else w32 (-(w32 ((iDiv (hI h v0 0) 8) - s0)))) - (iDiv (hI h v0 1) 4)))))) fun h7 =>
  lt1 (sI h7 v0 0 (w32 ((hI h7 v0 0) + (w32 (s0 - (iDiv (hI h7 v0 0) 8)))))) fun h8 =>
  some h8
def f_cTrip_sample_b25 (v0 : Nat) (v1 : Int) (v2 : Int) (v3 : Int) (s0 : Nat) (s1 : Int) (h : Hp) : Option (Hp) :=
  if s0 = 0 then none else
  lt1 (sI h s0 3 s1) fun h3 =>
  if 0 ≤ (hI h3 v0 4) then (
    if v2 < (w32 ((hI h3 v0 3) + v3)) then (
      f_cTrip_sample_b73 v0 v2 h3
    ) else
    f_cTrip_sample_b73 v0 (w32 (v2 - v3)) h3
  ) else
  lt1 (sI h3 v0 4 v1) fun h4 =>
  lt1 (sI h4 v0 0 (w32 (8 * v2))) fun h5 =>
  lt1 (sI h5 v0 1 (w32 (2 * v2))) fun h6 =>
  some h6
def f_cTrip_sample (v0 : Nat) (v1 : Int) (v2 : Int) (v3 : Int) (h : Hp) : Option (Hp) :=
  lt1 (sI h v0 2 v2) fun h1 =>
  if 0 ≤ (hI h1 v0 3) then (
    f_cTrip_sample_b25 v0 v1 v2 v3 v0 (min (hI h1 v0 3) v2) h1
  ) else
  f_cTrip_sample_b25 v0 v1 v2 v3 v0 v2 h1
def f_cSpace_settle_b85 (v0 : Nat) (v1 : Int) (h : Hp) : Option (Int × Hp) :=
  b2 (f_cSpace_is v0 v1 8 h) fun r15 h13 =>
  if r15 = 0 then (
    some (0, h13)
  ) else
  if hR h13 v0 1 = 0 then none else
  if ix v1 (ln h13 (hR h13 v0 1)) then
    some (hI h13 (hR h13 v0 1) v1.toNat, h13)
  else none
def f_cSpace_settle_b47 (k47 : Nat → Int → Hp → Option (Int × Hp)) (v0 : Nat) (v1 : Int) (h : Hp) : Option (Int × Hp) :=
  if (hI h v0 3) ≤ (hI h v0 9) then (
    f_cSpace_settle_b85 v0 v1 h
  ) else
  if hR h v0 2 = 0 then none else
  if ix (hI h v0 9) (ln h (hR h v0 2)) then
    if (iAnd (hI h (hR h v0 2) ((hI h v0 9).toNat)) 3) = 0 then (
      f_cSpace_settle_b85 v0 v1 h
    ) else
    lt1 (sI h v0 9 (w32 ((hI h v0 9) + 1))) fun h12 =>
    k47 v0 v1 h12
  else none
def f_cSpace_settle_b47_lp : Nat → Nat → Int → Hp → Option (Int × Hp)
  | 0, _, _, _ => none
  | n + 1, v0, v1, h => f_cSpace_settle_b47 (f_cSpace_settle_b47_lp n) v0 v1 h
def f_cSpace_settle (v0 : Nat) (v1 : Int) (v2 : Int) (h : Hp) : Option (Int × Hp) :=
  if hR h v0 2 = 0 then none else
  if ix v1 (ln h (hR h v0 2)) then
    if ix v1 (ln h (hR h v0 2)) then
      lt1 (sI h (hR h v0 2) v1.toNat (i8 (i8 (iOr (iAnd (hI h (hR h v0 2) v1.toNat) (-4)) v2)))) fun h4 =>
      lt1 (sI h4 v0 4 (w32 ((hI h4 v0 4) - 1))) fun h5 =>
      b2 (f_cSpace_is v0 v1 4 h5) fun r8 h6 =>
      if r8 = 0 then (
        f_cSpace_settle_b47_lp FU v0 v1 h6
      ) else
      lt1 (sI h6 v0 5 (w32 ((hI h6 v0 5) - 1))) fun h9 =>
      f_cSpace_settle_b47_lp FU v0 v1 h9
    else none
  else none
def f_cWindow_grow_b50 (v0 : Nat) (s0 : Nat) (s1 : Int) (s2 : Int) (h : Hp) : Option (Hp) :=
  if s0 = 0 then none else
  lt1 (sI h s0 0 (w32 (s1 + s2))) fun h3 =>
  some h3
def f_cWindow_grow_b36 (v0 : Nat) (v2 : Int) (s0 : Nat) (s1 : Int) (h : Hp) : Option (Hp) :=
  f_cWindow_grow_b50 v0 s0 s1 v2 h
def f_cWindow_grow (v0 : Nat) (v1 : Int) (v2 : Int) (v3 : Int) (h : Hp) : Option (Hp) :=
  if v1 ≤ (hI h v0 2) then (
    some h
  ) else
  if v3 ≠ 0 then (
    if (hI h v0 1) < 0 then (
      f_cWindow_grow_b36 v0 v2 v0 (hI h v0 0) h
    ) else
    if (hI h v0 1) ≤ (hI h v0 0) then (
      if hI h v0 0 = 0 then none else
      f_cWindow_grow_b50 v0 v0 (hI h v0 0) (iDiv (w32 (1200 * v2)) (hI h v0 0)) h
    ) else
    f_cWindow_grow_b36 v0 v2 v0 (hI h v0 0) h
  ) else
  some h
def f_cQueue_add_b40 (v0 : Nat) (v1 : Int) (h : Hp) : Option (Hp) :=
  if hR h v0 0 = 0 then none else
  if ix (hI h v0 2) (ln h (hR h v0 0)) then
    lt1 (sI h (hR h v0 0) ((hI h v0 2).toNat) v1) fun h13 =>
    lt1 (sI h13 v0 2 (w32 ((hI h13 v0 2) + 1))) fun h14 =>
    some h14
  else none
def f_cQueue_add (v0 : Nat) (v1 : Int) (h : Hp) : Option (Hp) :=
  if hR h v0 0 = 0 then none else
  if (hI h v0 2) ≠ (ln h (hR h v0 0) : Int) then (
    f_cQueue_add_b40 v0 v1 h
  ) else
  if (0 : Int) ≤ (w32 (2 * (hI h v0 2))) ∧ hN h + 1 ≤ CN ∧ hZ h + (w32 (2 * (hI h v0 2))).toNat ≤ CZ then
    lt1 (nwC h 101 ((w32 (2 * (hI h v0 2))).toNat) ((w32 (2 * (hI h v0 2))).toNat)) fun h3 =>
    lt1 (hN h) fun y5 =>
    if hR h3 v0 0 = 0 then none else
    if cpk 0 0 (hI h3 v0 2) (ln h3 (hR h3 v0 0)) (ln h3 y5) then
      lt1 (cpI h3 (hR h3 v0 0) (Int.toNat 0) y5 (Int.toNat 0) ((hI h3 v0 2).toNat)) fun h9 =>
      lt1 (sR h9 v0 0 y5) fun h10 =>
      f_cQueue_add_b40 v0 v1 h10
    else none
  else none
def f_cBook_done_b45 (v0 : Nat) (v1 : Nat) (v2 : Int) (h : Hp) : Option (Hp) :=
  if v1 = 0 then none else
  if hR h v1 11 = 0 then none else
  b1 (f_cQueue_add (hR h v1 11) v2 h) fun h17 =>
  some h17
def f_cBook_done (v0 : Nat) (v1 : Nat) (v2 : Int) (h : Hp) : Option (Hp) :=
  if v1 = 0 then none else
  b2 (f_cSpace_settle v1 v2 1 h) fun r4 h2 =>
  if hR h2 v0 2 = 0 then none else
  lt1 (sI h2 (hR h2 v0 2) 3 (w32 ((hI h2 (hR h2 v0 2) 3) - r4))) fun h6 =>
  if r4 ≤ 0 then (
    f_cBook_done_b45 v0 v1 v2 h6
  ) else
  if hR h6 v1 0 = 0 then none else
  if ix v2 (ln h6 (hR h6 v1 0)) then
    b2 (f_cSpace_is v1 v2 16 h6) fun r11 h9 =>
    if hR h6 v0 2 = 0 then none else
    b1 (f_cWindow_grow (hR h6 v0 2) (hI h6 (hR h6 v1 0) v2.toNat) r4 r11 h9) fun h13 =>
    f_cBook_done_b45 v0 v1 v2 h13
  else none
def f_cTrip_limit (v0 : Nat) (h : Hp) : Option (Int × Hp) :=
  some (max (iDiv (w32 (9 * (max (iDiv (hI h v0 0) 8) (hI h v0 2)))) 8) 1, h)
def f_cWindow_shrink (v0 : Nat) (v1 : Int) (v2 : Int) (h : Hp) : Option (Hp) :=
  if (hI h v0 2) < v2 then (
    lt1 (sI h v0 2 v1) fun h1 =>
    lt1 (sI h1 v0 1 (iDiv (hI h1 v0 0) 2)) fun h2 =>
    lt1 (sI h2 v0 0 (max (hI h2 v0 1) 2400)) fun h3 =>
    some h3
  ) else
  some h
def f_cBook_persists_b60 (k34 : Nat → Nat → Int → Int → Int → Hp → Option (Int × Hp)) (v0 : Nat) (v1 : Nat) (v3 : Int) (v5 : Int) (s0 : Int) (h : Hp) : Option (Int × Hp) :=
  k34 v0 v1 v3 s0 (w32 (v5 + 1)) h
def f_cBook_persists_b59 (k34 : Nat → Nat → Int → Int → Int → Hp → Option (Int × Hp)) (v0 : Nat) (v1 : Nat) (v3 : Int) (v5 : Int) (h : Hp) : Option (Int × Hp) :=
  f_cBook_persists_b60 k34 v0 v1 v3 v5 0 h
def f_cBook_persists_b34 (k34 : Nat → Nat → Int → Int → Int → Hp → Option (Int × Hp)) (v0 : Nat) (v1 : Nat) (v3 : Int) (v4 : Int) (v5 : Int) (h : Hp) : Option (Int × Hp) :=
  if v3 ≤ v5 then (
    if v4 = 0 ∨ v4 = 1 then some (v4, h) else none
  ) else
  if v4 = 0 then (
    f_cBook_persists_b59 k34 v0 v1 v3 v5 h
  ) else
  if v1 = 0 then none else
  b2 (f_cSpace_state v1 v5 h) fun r13 h11 =>
  if r13 = 1 then (
    f_cBook_persists_b59 k34 v0 v1 v3 v5 h11
  ) else
  f_cBook_persists_b60 k34 v0 v1 v3 v5 1 h11
def f_cBook_persists_b34_lp : Nat → Nat → Nat → Int → Int → Int → Hp → Option (Int × Hp)
  | 0, _, _, _, _, _, _ => none
  | n + 1, v0, v1, v3, v4, v5, h => f_cBook_persists_b34 (f_cBook_persists_b34_lp n) v0 v1 v3 v4 v5 h
def f_cBook_persists (v0 : Nat) (v1 : Nat) (v2 : Int) (v3 : Int) (h : Hp) : Option (Int × Hp) :=
  if v1 = 0 then none else
  if hR h v1 0 = 0 then none else
  if ix v3 (ln h (hR h v1 0)) then
    if ix v2 (ln h (hR h v1 0)) then
      if hR h v0 1 = 0 then none else
      b2 (f_cTrip_patience (hR h v0 1) 1 h) fun r8 h6 =>
      if (w32 (3 * r8)) < (w32 ((hI h (hR h v1 0) v3.toNat) - (hI h (hR h v1 0) v2.toNat))) then (
        f_cBook_persists_b34_lp FU v0 v1 v3 1 v2 h6
      ) else
      some (0, h6)
    else none
  else none
def f_cWindow_collapse (v0 : Nat) (h : Hp) : Option (Hp) :=
  lt1 (sI h v0 0 2400) fun h1 =>
  lt1 (sI h1 v0 2 (-1)) fun h2 =>
  some h2
def f_cBook_losses_b242 (v0 : Nat) (v2 : Nat) (v5 : Int) (v6 : Int) (v7 : Int) (h : Hp) : Option (Int × Hp) :=
  if v5 < 0 then (
    if v7 = 0 ∨ v7 = 1 then some (v7, h) else none
  ) else
  b2 (f_cBook_persists v0 v2 v5 v6 h) fun r44 h42 =>
  if r44 = 0 then (
    if v7 = 0 ∨ v7 = 1 then some (v7, h42) else none
  ) else
  if hR h42 v0 2 = 0 then none else
  b1 (f_cWindow_collapse (hR h42 v0 2) h42) fun h47 =>
  if v7 = 0 ∨ v7 = 1 then some (v7, h47) else none
def f_cBook_losses_b218 (k38 : Nat → Nat → Int → Int → Int → Int → Int → Int → Hp → Option (Int × Hp)) (v0 : Nat) (v2 : Nat) (v3 : Int) (v4 : Int) (v5 : Int) (v6 : Int) (v7 : Int) (v8 : Int) (h : Hp) : Option (Int × Hp) :=
  k38 v0 v2 v3 v4 v5 v6 v7 (w32 (v8 + 1)) h
def f_cBook_losses_b195 (k38 : Nat → Nat → Int → Int → Int → Int → Int → Int → Hp → Option (Int × Hp)) (v0 : Nat) (v2 : Nat) (v3 : Int) (v4 : Int) (v5 : Int) (v6 : Int) (v7 : Int) (v8 : Int) (h : Hp) : Option (Int × Hp) :=
  f_cBook_losses_b218 k38 v0 v2 v3 v4 v5 v6 v7 v8 h
def f_cBook_losses_b189 (k38 : Nat → Nat → Int → Int → Int → Int → Int → Int → Hp → Option (Int × Hp)) (v0 : Nat) (v2 : Nat) (v3 : Int) (v4 : Int) (v7 : Int) (v8 : Int) (s0 : Int) (h : Hp) : Option (Int × Hp) :=
  f_cBook_losses_b195 k38 v0 v2 v3 v4 s0 v8 v7 v8 h
def f_cBook_losses_b128 (k38 : Nat → Nat → Int → Int → Int → Int → Int → Int → Hp → Option (Int × Hp)) (v0 : Nat) (v2 : Nat) (v3 : Int) (v4 : Int) (v5 : Int) (v6 : Int) (v8 : Int) (h : Hp) : Option (Int × Hp) :=
  if v2 = 0 then none else
  if hR h v2 12 = 0 then none else
  b1 (f_cQueue_add (hR h v2 12) v8 h) fun h33 =>
  b2 (f_cSpace_is v2 v8 4 h33) fun r37 h35 =>
  if r37 = 0 then (
    f_cBook_losses_b195 k38 v0 v2 v3 v4 v5 v6 1 v8 h35
  ) else
  if hR h35 v0 1 = 0 then none else
  if (hI h35 (hR h35 v0 1) 4) < 0 then (
    f_cBook_losses_b195 k38 v0 v2 v3 v4 v5 v6 1 v8 h35
  ) else
  if hR h35 v2 0 = 0 then none else
  if ix v8 (ln h35 (hR h35 v2 0)) then
    if (hI h35 (hR h35 v2 0) v8.toNat) ≤ (hI h35 (hR h35 v0 1) 4) then (
      f_cBook_losses_b195 k38 v0 v2 v3 v4 v5 v6 1 v8 h35
    ) else
    if 0 ≤ v5 then (
      f_cBook_losses_b189 k38 v0 v2 v3 v4 1 v8 v5 h35
    ) else
    f_cBook_losses_b189 k38 v0 v2 v3 v4 1 v8 v8 h35
  else none
def f_cBook_losses_b86 (k38 : Nat → Nat → Int → Int → Int → Int → Int → Int → Hp → Option (Int × Hp)) (v0 : Nat) (v2 : Nat) (v3 : Int) (v4 : Int) (v5 : Int) (v6 : Int) (v8 : Int) (h : Hp) : Option (Int × Hp) :=
  if v2 = 0 then none else
  b2 (f_cSpace_settle v2 v8 2 h) fun r25 h23 =>
  if hR h23 v0 2 = 0 then none else
  lt1 (sI h23 (hR h23 v0 2) 3 (w32 ((hI h23 (hR h23 v0 2) 3) - r25))) fun h27 =>
  if r25 ≤ 0 then (
    f_cBook_losses_b128 k38 v0 v2 v3 v4 v5 v6 v8 h27
  ) else
  if hR h27 v2 0 = 0 then none else
  if ix v8 (ln h27 (hR h27 v2 0)) then
    lt1 (max v4 (hI h27 (hR h27 v2 0) v8.toNat)) fun y30 =>
    f_cBook_losses_b128 k38 v0 v2 v3 y30 v5 v6 v8 h27
  else none
def f_cBook_losses_b38 (k38 : Nat → Nat → Int → Int → Int → Int → Int → Int → Hp → Option (Int × Hp)) (v0 : Nat) (v2 : Nat) (v3 : Int) (v4 : Int) (v5 : Int) (v6 : Int) (v7 : Int) (v8 : Int) (h : Hp) : Option (Int × Hp) :=
  if v2 = 0 then none else
  if (hI h v2 6) ≤ v8 then (
    if v4 < 0 then (
      f_cBook_losses_b242 v0 v2 v5 v6 v7 h
    ) else
    if hR h v0 2 = 0 then none else
    b1 (f_cWindow_shrink (hR h v0 2) (hI h v0 3) v4 h) fun h13 =>
    f_cBook_losses_b242 v0 v2 v5 v6 v7 h13
  ) else
  b2 (f_cSpace_state v2 v8 h) fun r17 h15 =>
  if r17 = 0 then (
    if v8 ≤ (w32 ((hI h15 v2 6) - 3)) then (
      f_cBook_losses_b86 k38 v0 v2 v3 v4 v5 v6 v8 h15
    ) else
    if hR h15 v2 0 = 0 then none else
    if ix v8 (ln h15 (hR h15 v2 0)) then
      if (hI h15 v0 3) < (w32 ((hI h15 (hR h15 v2 0) v8.toNat) + v3)) then (
        if 0 ≤ (hI h15 v2 8) then (
          f_cBook_losses_b218 k38 v0 v2 v3 v4 v5 v6 v7 v8 h15
        ) else
        if ix v8 (ln h15 (hR h15 v2 0)) then
          lt1 (sI h15 v2 8 (w32 ((hI h15 (hR h15 v2 0) v8.toNat) + v3))) fun h21 =>
          f_cBook_losses_b218 k38 v0 v2 v3 v4 v5 v6 v7 v8 h21
        else none
      ) else
      f_cBook_losses_b86 k38 v0 v2 v3 v4 v5 v6 v8 h15
    else none
  ) else
  f_cBook_losses_b218 k38 v0 v2 v3 v4 v5 v6 v7 v8 h15
def f_cBook_losses_b38_lp : Nat → Nat → Nat → Int → Int → Int → Int → Int → Int → Hp → Option (Int × Hp)
  | 0, _, _, _, _, _, _, _, _, _ => none
  | n + 1, v0, v2, v3, v4, v5, v6, v7, v8, h => f_cBook_losses_b38 (f_cBook_losses_b38_lp n) v0 v2 v3 v4 v5 v6 v7 v8 h
def f_cBook_losses (v0 : Nat) (v1 : Int) (h : Hp) : Option (Int × Hp) :=
  if hR h v0 0 = 0 then none else
  if ix v1 (ln h (hR h v0 0)) then
    lt1 (hR h (hR h v0 0) v1.toNat) fun y3 =>
    if hR h v0 1 = 0 then none else
    b2 (f_cTrip_limit (hR h v0 1) h) fun r7 h5 =>
    if y3 = 0 then none else
    lt1 (sI h5 y3 8 (-1)) fun h9 =>
    lt1 (hI h9 y3 9) fun y10 =>
    f_cBook_losses_b38_lp FU v0 y3 r7 (-1) (-1) (-1) 0 y10 h9
  else none
def f_cBook_acknowledge_b132 (k54 : Nat → Int → Int → Nat → Int → Int → Int → Int → Int → Hp → Option (Int × Hp)) (k81 : Nat → Int → Int → Nat → Int → Int → Int → Int → Int → Int → Hp → Option (Int × Hp)) (v0 : Nat) (v1 : Int) (v2 : Int) (v3 : Nat) (v4 : Int) (v5 : Int) (v6 : Int) (v7 : Int) (v8 : Int) (v9 : Int) (h : Hp) : Option (Int × Hp) :=
  k81 v0 v1 v2 v3 v4 v5 v6 v7 v8 (w32 (v9 + 1)) h
def f_cBook_acknowledge_b130 (k54 : Nat → Int → Int → Nat → Int → Int → Int → Int → Int → Hp → Option (Int × Hp)) (k81 : Nat → Int → Int → Nat → Int → Int → Int → Int → Int → Int → Hp → Option (Int × Hp)) (v0 : Nat) (v1 : Int) (v2 : Int) (v3 : Nat) (v4 : Int) (v5 : Int) (v7 : Int) (v8 : Int) (v9 : Int) (s0 : Int) (h : Hp) : Option (Int × Hp) :=
  f_cBook_acknowledge_b132 k54 k81 v0 v1 v2 v3 v4 v5 s0 v7 v8 v9 h
def f_cBook_acknowledge_b125 (k54 : Nat → Int → Int → Nat → Int → Int → Int → Int → Int → Hp → Option (Int × Hp)) (k81 : Nat → Int → Int → Nat → Int → Int → Int → Int → Int → Int → Hp → Option (Int × Hp)) (v0 : Nat) (v1 : Int) (v2 : Int) (v3 : Nat) (v4 : Int) (v5 : Int) (v7 : Int) (v8 : Int) (v9 : Int) (h : Hp) : Option (Int × Hp) :=
  f_cBook_acknowledge_b130 k54 k81 v0 v1 v2 v3 v4 v5 v7 v8 v9 1 h
def f_cBook_acknowledge_b81 (k54 : Nat → Int → Int → Nat → Int → Int → Int → Int → Int → Hp → Option (Int × Hp)) (k81 : Nat → Int → Int → Nat → Int → Int → Int → Int → Int → Int → Hp → Option (Int × Hp)) (v0 : Nat) (v1 : Int) (v2 : Int) (v3 : Nat) (v4 : Int) (v5 : Int) (v6 : Int) (v7 : Int) (v8 : Int) (v9 : Int) (h : Hp) : Option (Int × Hp) :=
  if hR h v0 9 = 0 then none else
  if ix v8 (ln h (hR h v0 9)) then
    if (hJ h (hR h v0 9) v8.toNat) < v9 then (
      k54 v0 v1 v2 v3 v4 v5 v6 v7 (w32 (v8 + 1)) h
    ) else
    if v3 = 0 then none else
    b2 (f_cSpace_state v3 v9 h) fun r44 h42 =>
    if r44 = 0 then (
      if v6 ≠ 0 then (
        f_cBook_acknowledge_b125 k54 k81 v0 v1 v2 v3 v4 v5 (w32 (v7 + 1)) v8 v9 h42
      ) else
      b2 (f_cSpace_is v3 v9 4 h42) fun r47 h45 =>
      if r47 = 0 then (
        f_cBook_acknowledge_b130 k54 k81 v0 v1 v2 v3 v4 v5 (w32 (v7 + 1)) v8 v9 0 h45
      ) else
      f_cBook_acknowledge_b125 k54 k81 v0 v1 v2 v3 v4 v5 (w32 (v7 + 1)) v8 v9 h45
    ) else
    f_cBook_acknowledge_b132 k54 k81 v0 v1 v2 v3 v4 v5 v6 v7 v8 v9 h42
  else none
def f_cBook_acknowledge_b81_lp (k54 : Nat → Int → Int → Nat → Int → Int → Int → Int → Int → Hp → Option (Int × Hp)) : Nat → Nat → Int → Int → Nat → Int → Int → Int → Int → Int → Int → Hp → Option (Int × Hp)
  | 0, _, _, _, _, _, _, _, _, _, _, _ => none
  | n + 1, v0, v1, v2, v3, v4, v5, v6, v7, v8, v9, h => f_cBook_acknowledge_b81 k54 (f_cBook_acknowledge_b81_lp k54 n) v0 v1 v2 v3 v4 v5 v6 v7 v8 v9 h
def f_cBook_acknowledge_b260 (k207 : Nat → Int → Nat → Int → Int → Hp → Option (Int × Hp)) (k230 : Nat → Int → Nat → Int → Int → Int → Hp → Option (Int × Hp)) (v0 : Nat) (v1 : Int) (v3 : Nat) (v7 : Int) (v8 : Int) (v9 : Int) (h : Hp) : Option (Int × Hp) :=
  k230 v0 v1 v3 v7 v8 (w32 (v9 + 1)) h
def f_cBook_acknowledge_b230 (k207 : Nat → Int → Nat → Int → Int → Hp → Option (Int × Hp)) (k230 : Nat → Int → Nat → Int → Int → Int → Hp → Option (Int × Hp)) (v0 : Nat) (v1 : Int) (v3 : Nat) (v7 : Int) (v8 : Int) (v9 : Int) (h : Hp) : Option (Int × Hp) :=
  if hR h v0 9 = 0 then none else
  if ix v8 (ln h (hR h v0 9)) then
    if (hJ h (hR h v0 9) v8.toNat) < v9 then (
      k207 v0 v1 v3 v7 (w32 (v8 + (-1))) h
    ) else
    if v3 = 0 then none else
    b2 (f_cSpace_state v3 v9 h) fun r33 h31 =>
    if r33 ≠ 0 then (
      f_cBook_acknowledge_b260 k207 k230 v0 v1 v3 v7 v8 v9 h31
    ) else
    b1 (f_cBook_done v0 v3 v9 h31) fun h34 =>
    f_cBook_acknowledge_b260 k207 k230 v0 v1 v3 v7 v8 v9 h34
  else none
def f_cBook_acknowledge_b230_lp (k207 : Nat → Int → Nat → Int → Int → Hp → Option (Int × Hp)) : Nat → Nat → Int → Nat → Int → Int → Int → Hp → Option (Int × Hp)
  | 0, _, _, _, _, _, _, _ => none
  | n + 1, v0, v1, v3, v7, v8, v9, h => f_cBook_acknowledge_b230 k207 (f_cBook_acknowledge_b230_lp k207 n) v0 v1 v3 v7 v8 v9 h
def f_cBook_acknowledge_b207 (k207 : Nat → Int → Nat → Int → Int → Hp → Option (Int × Hp)) (v0 : Nat) (v1 : Int) (v3 : Nat) (v7 : Int) (v8 : Int) (h : Hp) : Option (Int × Hp) :=
  if v8 < 0 then (
    b2 (f_cBook_losses v0 v1 h) fun r22 h20 =>
    lt1 (sI h20 v0 4 0) fun h23 =>
    some (v7, h23)
  ) else
  if hR h v0 8 = 0 then none else
  if ix v8 (ln h (hR h v0 8)) then
    if v3 = 0 then none else
    lt1 (w32 (max (hJ h (hR h v0 8) v8.toNat) (hI h v3 9))) fun y27 =>
    f_cBook_acknowledge_b230_lp k207 FU v0 v1 v3 v7 v8 y27 h
  else none
def f_cBook_acknowledge_b207_lp : Nat → Nat → Int → Nat → Int → Int → Hp → Option (Int × Hp)
  | 0, _, _, _, _, _, _ => none
  | n + 1, v0, v1, v3, v7, v8, h => f_cBook_acknowledge_b207 (f_cBook_acknowledge_b207_lp n) v0 v1 v3 v7 v8 h
def f_cBook_acknowledge_b199 (v0 : Nat) (v1 : Int) (v3 : Nat) (v7 : Int) (h : Hp) : Option (Int × Hp) :=
  lt1 (w32 ((hI h v0 10) - 1)) fun y19 =>
  f_cBook_acknowledge_b207_lp FU v0 v1 v3 v7 y19 h
def f_cBook_acknowledge_b196 (v0 : Nat) (v1 : Int) (v3 : Nat) (v7 : Int) (s0 : Nat) (s1 : Int) (s2 : Int) (s3 : Int) (h : Hp) : Option (Int × Hp) :=
  if s0 = 0 then none else
  b1 (f_cTrip_sample s0 s1 s2 s3 h) fun h37 =>
  f_cBook_acknowledge_b199 v0 v1 v3 v7 h37
def f_cBook_acknowledge_b54 (k54 : Nat → Int → Int → Nat → Int → Int → Int → Int → Int → Hp → Option (Int × Hp)) (v0 : Nat) (v1 : Int) (v2 : Int) (v3 : Nat) (v4 : Int) (v5 : Int) (v6 : Int) (v7 : Int) (v8 : Int) (h : Hp) : Option (Int × Hp) :=
  if (hI h v0 10) ≤ v8 then (
    if v7 ≠ 0 then (
      if v5 = 0 then (
        f_cBook_acknowledge_b199 v0 v1 v3 v7 h
      ) else
      if v6 = 0 then (
        f_cBook_acknowledge_b199 v0 v1 v3 v7 h
      ) else
      if v3 = 0 then none else
      if hR h v3 0 = 0 then none else
      if ix v4 (ln h (hR h v3 0)) then
        if 2 ≤ v1 then (
          f_cBook_acknowledge_b196 v0 v1 v3 v7 (hR h v0 1) (hI h v0 3) (w32 ((hI h v0 3) - (hI h (hR h v3 0) v4.toNat))) (min v2 25) h
        ) else
        f_cBook_acknowledge_b196 v0 v1 v3 v7 (hR h v0 1) (hI h v0 3) (w32 ((hI h v0 3) - (hI h (hR h v3 0) v4.toNat))) 0 h
      else none
    ) else
    some (0, h)
  ) else
  if hR h v0 8 = 0 then none else
  if ix v8 (ln h (hR h v0 8)) then
    if v3 = 0 then none else
    lt1 (w32 (max (hJ h (hR h v0 8) v8.toNat) (hI h v3 9))) fun y18 =>
    f_cBook_acknowledge_b81_lp k54 FU v0 v1 v2 v3 v4 v5 v6 v7 v8 y18 h
  else none
def f_cBook_acknowledge_b54_lp : Nat → Nat → Int → Int → Nat → Int → Int → Int → Int → Int → Hp → Option (Int × Hp)
  | 0, _, _, _, _, _, _, _, _, _, _ => none
  | n + 1, v0, v1, v2, v3, v4, v5, v6, v7, v8, h => f_cBook_acknowledge_b54 (f_cBook_acknowledge_b54_lp n) v0 v1 v2 v3 v4 v5 v6 v7 v8 h
def f_cBook_acknowledge_b43 (v0 : Nat) (v1 : Int) (v2 : Int) (v3 : Nat) (v4 : Int) (s0 : Int) (h : Hp) : Option (Int × Hp) :=
  f_cBook_acknowledge_b54_lp FU v0 v1 v2 v3 v4 s0 0 0 0 h
def f_cBook_acknowledge (v0 : Nat) (v1 : Int) (v2 : Int) (h : Hp) : Option (Int × Hp) :=
  if hR h v0 0 = 0 then none else
  if ix v1 (ln h (hR h v0 0)) then
    lt1 (hR h (hR h v0 0) v1.toNat) fun y3 =>
    if hR h v0 9 = 0 then none else
    if ix 0 (ln h (hR h v0 9)) then
      lt1 (w32 (hJ h (hR h v0 9) (Int.toNat 0))) fun y6 =>
      if y3 = 0 then none else
      lt1 (sI h y3 6 (max (hI h y3 6) y6)) fun h8 =>
      b2 (f_cSpace_state y3 y6 h8) fun r11 h9 =>
      if r11 ≠ 0 then (
        f_cBook_acknowledge_b43 v0 v1 v2 y3 y6 0 h9
      ) else
      f_cBook_acknowledge_b43 v0 v1 v2 y3 y6 1 h9
    else none
  else none
def f_cQueue_next (v0 : Nat) (h : Hp) : Option (Int × Hp) :=
  if (hI h v0 1) ≠ (hI h v0 2) then (
    lt1 (sI h v0 1 (w32 ((hI h v0 1) + 1))) fun h1 =>
    if hR h v0 0 = 0 then none else
    if ix (hI h v0 1) (ln h1 (hR h v0 0)) then
      some (hI h1 (hR h v0 0) ((hI h v0 1).toNat), h1)
    else none
  ) else
  some ((-1), h)
def f_cCargo_end (v0 : Nat) (v1 : Int) (h : Hp) : Option (Int × Hp) :=
  if (hI h v0 6) ≤ (w32 (v1 + 1)) then (
    some (hI h v0 7, h)
  ) else
  if hR h v0 0 = 0 then none else
  if ix (w32 (v1 + 1)) (ln h (hR h v0 0)) then
    some (hI h (hR h v0 0) ((w32 (v1 + 1)).toNat), h)
  else none
def f_cCrypto_gone_b43 (k4 : Nat → Int → Int → Int → Int → Hp → Option (Hp)) (v0 : Nat) (v1 : Int) (v3 : Int) (v4 : Int) (v5 : Int) (h : Hp) : Option (Hp) :=
  k4 v0 v1 v3 v4 (w32 (v5 + 1)) h
def f_cCrypto_gone_b42 (k4 : Nat → Int → Int → Int → Int → Hp → Option (Hp)) (v0 : Nat) (v1 : Int) (v3 : Int) (v4 : Int) (v5 : Int) (s0 : Nat) (s1 : Int) (s2 : Int) (h : Hp) : Option (Hp) :=
  if s0 = 0 then none else
  if ix s1 (ln h s0) then
    lt1 (sI h s0 s1.toNat (i8 s2)) fun h6 =>
    f_cCrypto_gone_b43 k4 v0 v1 v3 v4 v5 h6
  else none
def f_cCrypto_gone_b4 (k4 : Nat → Int → Int → Int → Int → Hp → Option (Hp)) (v0 : Nat) (v1 : Int) (v3 : Int) (v4 : Int) (v5 : Int) (h : Hp) : Option (Hp) :=
  if (w64 (v1 + v3)) ≤ v5 then (
    some h
  ) else
  if hR h v0 0 = 0 then none else
  if ix v5 (ln h (hR h v0 0)) then
    if (hI h (hR h v0 0) v5.toNat) = 3 then (
      f_cCrypto_gone_b43 k4 v0 v1 v3 v4 v5 h
    ) else
    if v4 = 0 then (
      f_cCrypto_gone_b42 k4 v0 v1 v3 v4 v5 (hR h v0 0) v5 2 h
    ) else
    f_cCrypto_gone_b42 k4 v0 v1 v3 v4 v5 (hR h v0 0) v5 3 h
  else none
def f_cCrypto_gone_b4_lp : Nat → Nat → Int → Int → Int → Int → Hp → Option (Hp)
  | 0, _, _, _, _, _, _ => none
  | n + 1, v0, v1, v3, v4, v5, h => f_cCrypto_gone_b4 (f_cCrypto_gone_b4_lp n) v0 v1 v3 v4 v5 h
def f_cCrypto_gone (v0 : Nat) (v1 : Int) (v3 : Int) (v4 : Int) (h : Hp) : Option (Hp) :=
  lt1 (w32 v1) fun y1 =>
  f_cCrypto_gone_b4_lp FU v0 v1 v3 v4 y1 h
def f_cSpans_release (v0 : Nat) (v1 : Int) (h : Hp) : Option (Hp) :=
  if hR h v0 2 = 0 then none else
  if ix v1 (ln h (hR h v0 2)) then
    lt1 (sI h (hR h v0 2) v1.toNat (hI h v0 4)) fun h3 =>
    lt1 (sI h3 v0 4 v1) fun h4 =>
    some h4
  else none
def f_cSpans_make_b102 (v0 : Nat) (v1 : Int) (v2 : Int) (v3 : Int) (v4 : Int) (h : Hp) : Option (Int × Hp) :=
  if hR h v0 0 = 0 then none else
  if ix v4 (ln h (hR h v0 0)) then
    lt1 (sI h (hR h v0 0) v4.toNat v1) fun h22 =>
    if hR h22 v0 1 = 0 then none else
    if ix v4 (ln h22 (hR h22 v0 1)) then
      lt1 (sI h22 (hR h22 v0 1) v4.toNat v2) fun h25 =>
      if hR h25 v0 2 = 0 then none else
      if ix v4 (ln h25 (hR h25 v0 2)) then
        lt1 (sI h25 (hR h25 v0 2) v4.toNat v3) fun h28 =>
        some (v4, h28)
      else none
    else none
  else none
def f_cSpans_make_b89 (v0 : Nat) (v1 : Int) (v2 : Int) (v3 : Int) (h : Hp) : Option (Int × Hp) :=
  lt1 (sI h v0 3 (w32 ((hI h v0 3) + 1))) fun h18 =>
  lt1 (hI h v0 3) fun y19 =>
  f_cSpans_make_b102 v0 v1 v2 v3 y19 h18
def f_cSpans_make (v0 : Nat) (v1 : Int) (v2 : Int) (v3 : Int) (h : Hp) : Option (Int × Hp) :=
  lt1 (hI h v0 4) fun y1 =>
  if y1 = (-1) then (
    if hR h v0 0 = 0 then none else
    if (hI h v0 3) ≠ (ln h (hR h v0 0) : Int) then (
      f_cSpans_make_b89 v0 v1 v2 v3 h
    ) else
    b2 (f_jArrays_copyOf_AII (hR h v0 0) (w32 (2 * (hI h v0 3))) h) fun r5 h3 =>
    lt1 (sR h3 v0 0 r5) fun h6 =>
    b2 (f_jArrays_copyOf_AII (hR h6 v0 1) (w32 (2 * (hI h6 v0 3))) h6) fun r9 h7 =>
    lt1 (sR h7 v0 1 r9) fun h10 =>
    b2 (f_jArrays_copyOf_AII (hR h10 v0 2) (w32 (2 * (hI h10 v0 3))) h10) fun r13 h11 =>
    lt1 (sR h11 v0 2 r13) fun h14 =>
    f_cSpans_make_b89 v0 v1 v2 v3 h14
  ) else
  if hR h v0 2 = 0 then none else
  if ix y1 (ln h (hR h v0 2)) then
    lt1 (sI h v0 4 (hI h (hR h v0 2) y1.toNat)) fun h17 =>
    f_cSpans_make_b102 v0 v1 v2 v3 y1 h17
  else none
def f_cSpans_add_b113 (v0 : Nat) (v1 : Int) (v4 : Int) (v5 : Int) (v6 : Int) (v7 : Int) (h : Hp) : Option (Int × Hp) :=
  b2 (f_cSpans_make v0 v6 v7 v5 h) fun r20 h18 =>
  if v4 ≠ (-1) then (
    if hR h18 v0 2 = 0 then none else
    if ix v4 (ln h18 (hR h18 v0 2)) then
      lt1 (sI h18 (hR h18 v0 2) v4.toNat r20) fun h23 =>
      some (v1, h23)
    else none
  ) else
  some (r20, h18)
def f_cSpans_add_b45 (k45 : Nat → Int → Int → Int → Int → Int → Hp → Option (Int × Hp)) (v0 : Nat) (v1 : Int) (v4 : Int) (v5 : Int) (v6 : Int) (v7 : Int) (h : Hp) : Option (Int × Hp) :=
  if v5 = (-1) then (
    f_cSpans_add_b113 v0 v1 v4 v5 v6 v7 h
  ) else
  if hR h v0 0 = 0 then none else
  if ix v5 (ln h (hR h v0 0)) then
    if v7 < (hI h (hR h v0 0) v5.toNat) then (
      f_cSpans_add_b113 v0 v1 v4 v5 v6 v7 h
    ) else
    if ix v5 (ln h (hR h v0 0)) then
      lt1 (min v6 (hI h (hR h v0 0) v5.toNat)) fun y9 =>
      if hR h v0 1 = 0 then none else
      if ix v5 (ln h (hR h v0 1)) then
        lt1 (max v7 (hI h (hR h v0 1) v5.toNat)) fun y12 =>
        if hR h v0 2 = 0 then none else
        if ix v5 (ln h (hR h v0 2)) then
          lt1 (hI h (hR h v0 2) v5.toNat) fun y15 =>
          b1 (f_cSpans_release v0 v5 h) fun h16 =>
          k45 v0 v1 v4 y15 y9 y12 h16
        else none
      else none
    else none
  else none
def f_cSpans_add_b45_lp : Nat → Nat → Int → Int → Int → Int → Int → Hp → Option (Int × Hp)
  | 0, _, _, _, _, _, _, _ => none
  | n + 1, v0, v1, v4, v5, v6, v7, h => f_cSpans_add_b45 (f_cSpans_add_b45_lp n) v0 v1 v4 v5 v6 v7 h
def f_cSpans_add_b12 (k12 : Nat → Int → Int → Int → Int → Int → Int → Hp → Option (Int × Hp)) (v0 : Nat) (v1 : Int) (v2 : Int) (v4 : Int) (v5 : Int) (v6 : Int) (v7 : Int) (h : Hp) : Option (Int × Hp) :=
  if v5 = (-1) then (
    f_cSpans_add_b45_lp FU v0 v1 v4 v5 v6 v7 h
  ) else
  if hR h v0 1 = 0 then none else
  if ix v5 (ln h (hR h v0 1)) then
    if v2 ≤ (hI h (hR h v0 1) v5.toNat) then (
      f_cSpans_add_b45_lp FU v0 v1 v4 v5 v6 v7 h
    ) else
    if hR h v0 2 = 0 then none else
    if ix v5 (ln h (hR h v0 2)) then
      lt1 (hI h (hR h v0 2) v5.toNat) fun y5 =>
      k12 v0 v1 v2 v5 y5 v6 v7 h
    else none
  else none
def f_cSpans_add_b12_lp : Nat → Nat → Int → Int → Int → Int → Int → Int → Hp → Option (Int × Hp)
  | 0, _, _, _, _, _, _, _, _ => none
  | n + 1, v0, v1, v2, v4, v5, v6, v7, h => f_cSpans_add_b12 (f_cSpans_add_b12_lp n) v0 v1 v2 v4 v5 v6 v7 h
def f_cSpans_add (v0 : Nat) (v1 : Int) (v2 : Int) (v3 : Int) (h : Hp) : Option (Int × Hp) :=
  f_cSpans_add_b12_lp FU v0 v1 v2 (-1) v1 v2 v3 h
def f_cSpans_trim_b55 (v0 : Nat) (v1 : Int) (v2 : Int) (h : Hp) : Option (Hp) :=
  if hR h v0 1 = 0 then none else
  if ix v1 (ln h (hR h v0 1)) then
    lt1 (sI h (hR h v0 1) v1.toNat v2) fun h18 =>
    some h18
  else none
def f_cSpans_trim (v0 : Nat) (v1 : Int) (v2 : Int) (v3 : Int) (h : Hp) : Option (Hp) :=
  if hR h v0 0 = 0 then none else
  if ix v1 (ln h (hR h v0 0)) then
    if (hI h (hR h v0 0) v1.toNat) < v2 then (
      if hR h v0 1 = 0 then none else
      if ix v1 (ln h (hR h v0 1)) then
        if (hI h (hR h v0 1) v1.toNat) ≤ v3 then (
          f_cSpans_trim_b55 v0 v1 v2 h
        ) else
        if ix v1 (ln h (hR h v0 1)) then
          if hR h v0 2 = 0 then none else
          if ix v1 (ln h (hR h v0 2)) then
            b2 (f_cSpans_make v0 v3 (hI h (hR h v0 1) v1.toNat) (hI h (hR h v0 2) v1.toNat) h) fun r10 h8 =>
            if hR h8 v0 2 = 0 then none else
            if ix v1 (ln h8 (hR h8 v0 2)) then
              lt1 (sI h8 (hR h8 v0 2) v1.toNat r10) fun h13 =>
              f_cSpans_trim_b55 v0 v1 v2 h13
            else none
          else none
        else none
      else none
    ) else
    if ix v1 (ln h (hR h v0 0)) then
      lt1 (sI h (hR h v0 0) v1.toNat v3) fun h15 =>
      some h15
    else none
  else none
def f_cSpans_cut_b123 (k9 : Nat → Int → Int → Int → Int → Int → Hp → Option (Int × Hp)) (v0 : Nat) (v2 : Int) (v3 : Int) (v4 : Int) (v5 : Int) (v7 : Int) (h : Hp) : Option (Int × Hp) :=
  k9 v0 v2 v3 v4 v5 v7 h
def f_cSpans_cut_b119 (k9 : Nat → Int → Int → Int → Int → Int → Hp → Option (Int × Hp)) (v0 : Nat) (v2 : Int) (v3 : Int) (v4 : Int) (v6 : Int) (v7 : Int) (h : Hp) : Option (Int × Hp) :=
  f_cSpans_cut_b123 k9 v0 v2 v3 v4 v6 v7 h
def f_cSpans_cut_b62 (k9 : Nat → Int → Int → Int → Int → Int → Hp → Option (Int × Hp)) (v0 : Nat) (v2 : Int) (v3 : Int) (v4 : Int) (v5 : Int) (v6 : Int) (v7 : Int) (s0 : Int) (h : Hp) : Option (Int × Hp) :=
  if s0 = 0 then (
    if hR h v0 1 = 0 then none else
    if ix v6 (ln h (hR h v0 1)) then
      if (hI h (hR h v0 1) v6.toNat) ≤ v2 then (
        f_cSpans_cut_b119 k9 v0 v2 v3 v4 v6 v7 h
      ) else
      b1 (f_cSpans_trim v0 v6 v2 v3 h) fun h11 =>
      f_cSpans_cut_b119 k9 v0 v2 v3 v4 v6 v7 h11
    else none
  ) else
  b1 (f_cSpans_release v0 v6 h) fun h13 =>
  if v5 ≠ (-1) then (
    if hR h13 v0 2 = 0 then none else
    if ix v5 (ln h13 (hR h13 v0 2)) then
      lt1 (sI h13 (hR h13 v0 2) v5.toNat v7) fun h17 =>
      f_cSpans_cut_b123 k9 v0 v2 v3 v4 v5 v7 h17
    else none
  ) else
  f_cSpans_cut_b123 k9 v0 v2 v3 v7 v5 v7 h13
def f_cSpans_cut_b61 (k9 : Nat → Int → Int → Int → Int → Int → Hp → Option (Int × Hp)) (v0 : Nat) (v2 : Int) (v3 : Int) (v4 : Int) (v5 : Int) (v6 : Int) (v7 : Int) (h : Hp) : Option (Int × Hp) :=
  f_cSpans_cut_b62 k9 v0 v2 v3 v4 v5 v6 v7 0 h
def f_cSpans_cut_b9 (k9 : Nat → Int → Int → Int → Int → Int → Hp → Option (Int × Hp)) (v0 : Nat) (v2 : Int) (v3 : Int) (v4 : Int) (v5 : Int) (v6 : Int) (h : Hp) : Option (Int × Hp) :=
  if v6 = (-1) then (
    some (v4, h)
  ) else
  if hR h v0 0 = 0 then none else
  if ix v6 (ln h (hR h v0 0)) then
    if v3 ≤ (hI h (hR h v0 0) v6.toNat) then (
      some (v4, h)
    ) else
    if hR h v0 2 = 0 then none else
    if ix v6 (ln h (hR h v0 2)) then
      lt1 (hI h (hR h v0 2) v6.toNat) fun y5 =>
      if ix v6 (ln h (hR h v0 0)) then
        if (hI h (hR h v0 0) v6.toNat) < v2 then (
          f_cSpans_cut_b61 k9 v0 v2 v3 v4 v5 v6 y5 h
        ) else
        if hR h v0 1 = 0 then none else
        if ix v6 (ln h (hR h v0 1)) then
          if v3 < (hI h (hR h v0 1) v6.toNat) then (
            f_cSpans_cut_b61 k9 v0 v2 v3 v4 v5 v6 y5 h
          ) else
          f_cSpans_cut_b62 k9 v0 v2 v3 v4 v5 v6 y5 1 h
        else none
      else none
    else none
  else none
def f_cSpans_cut_b9_lp : Nat → Nat → Int → Int → Int → Int → Int → Hp → Option (Int × Hp)
  | 0, _, _, _, _, _, _, _ => none
  | n + 1, v0, v2, v3, v4, v5, v6, h => f_cSpans_cut_b9 (f_cSpans_cut_b9_lp n) v0 v2 v3 v4 v5 v6 h
def f_cSpans_cut (v0 : Nat) (v1 : Int) (v2 : Int) (v3 : Int) (h : Hp) : Option (Int × Hp) :=
  f_cSpans_cut_b9_lp FU v0 v2 v3 v1 (-1) v1 h
def f_cSpans_count_b4 (k4 : Nat → Int → Int → Hp → Option (Int × Hp)) (v0 : Nat) (v2 : Int) (v3 : Int) (h : Hp) : Option (Int × Hp) :=
  if v3 = (-1) then (
    some (v2, h)
  ) else
  if hR h v0 1 = 0 then none else
  if ix v3 (ln h (hR h v0 1)) then
    if hR h v0 0 = 0 then none else
    if ix v3 (ln h (hR h v0 0)) then
      lt1 (w32 (v2 + (w32 ((hI h (hR h v0 1) v3.toNat) - (hI h (hR h v0 0) v3.toNat))))) fun y5 =>
      if hR h v0 2 = 0 then none else
      if ix v3 (ln h (hR h v0 2)) then
        lt1 (hI h (hR h v0 2) v3.toNat) fun y8 =>
        k4 v0 y5 y8 h
      else none
    else none
  else none
def f_cSpans_count_b4_lp : Nat → Nat → Int → Int → Hp → Option (Int × Hp)
  | 0, _, _, _, _ => none
  | n + 1, v0, v2, v3, h => f_cSpans_count_b4 (f_cSpans_count_b4_lp n) v0 v2 v3 h
def f_cSpans_count (v0 : Nat) (v1 : Int) (h : Hp) : Option (Int × Hp) :=
  f_cSpans_count_b4_lp FU v0 0 v1 h
def f_cHall_isGone_b186 (v0 : Nat) (v1 : Nat) (v4 : Int) (h : Hp) : Option (Hp) :=
  if v4 = 0 then (
    some h
  ) else
  if v1 = 0 then none else
  if (hI h v1 3) = 4 then (
    some h
  ) else
  lt1 (sI h v1 3 3) fun h43 =>
  some h43
def f_cHall_isGone_b126 (k126 : Nat → Nat → Int → Int → Int → Hp → Option (Hp)) (v0 : Nat) (v1 : Nat) (v3 : Int) (v4 : Int) (v6 : Int) (h : Hp) : Option (Hp) :=
  if v6 = (-1) then (
    f_cHall_isGone_b186 v0 v1 v4 h
  ) else
  if v3 ≤ 0 then (
    f_cHall_isGone_b186 v0 v1 v4 h
  ) else
  if v1 = 0 then none else
  if hR h v0 6 = 0 then none else
  if hR h (hR h v0 6) 0 = 0 then none else
  if ix v6 (ln h (hR h (hR h v0 6) 0)) then
    if hR h (hR h v0 6) 1 = 0 then none else
    if ix v6 (ln h (hR h (hR h v0 6) 1)) then
      b2 (f_cSpans_cut (hR h v0 6) (hI h v1 6) (hI h (hR h (hR h v0 6) 0) v6.toNat) (hI h (hR h (hR h v0 6) 1) v6.toNat) h) fun r36 h34 =>
      lt1 (sI h34 v1 6 r36) fun h37 =>
      if hR h37 v0 6 = 0 then none else
      if hR h37 (hR h37 v0 6) 2 = 0 then none else
      if ix v6 (ln h37 (hR h37 (hR h37 v0 6) 2)) then
        lt1 (hI h37 (hR h37 (hR h37 v0 6) 2) v6.toNat) fun y41 =>
        k126 v0 v1 v3 v4 y41 h37
      else none
    else none
  else none
def f_cHall_isGone_b126_lp : Nat → Nat → Nat → Int → Int → Int → Hp → Option (Hp)
  | 0, _, _, _, _, _, _ => none
  | n + 1, v0, v1, v3, v4, v6, h => f_cHall_isGone_b126 (f_cHall_isGone_b126_lp n) v0 v1 v3 v4 v6 h
def f_cHall_isGone_b120 (v0 : Nat) (v1 : Nat) (v3 : Int) (v4 : Int) (h : Hp) : Option (Hp) :=
  if v1 = 0 then none else
  lt1 (hI h v1 7) fun y27 =>
  f_cHall_isGone_b126_lp FU v0 v1 v3 v4 y27 h
def f_cHall_isGone_b57 (v0 : Nat) (v1 : Nat) (h : Hp) : Option (Hp) :=
  if v1 = 0 then none else
  if (hI h v1 0) ≠ 1 then (
    some h
  ) else
  if (hI h v1 3) ≠ 4 then (
    some h
  ) else
  if hR h v0 6 = 0 then none else
  b2 (f_cSpans_count (hR h v0 6) (hI h v1 7) h) fun r24 h22 =>
  if r24 ≠ (hI h22 v1 1) then (
    some h22
  ) else
  lt1 (sI h22 v1 0 2) fun h25 =>
  some h25
def f_cHall_isGone_b47 (v0 : Nat) (v1 : Nat) (v4 : Int) (h : Hp) : Option (Hp) :=
  if v4 = 0 then (
    f_cHall_isGone_b57 v0 v1 h
  ) else
  if v1 = 0 then none else
  lt1 (sI h v1 3 4) fun h19 =>
  f_cHall_isGone_b57 v0 v1 h19
def f_cHall_isGone (v0 : Nat) (v1 : Nat) (v2 : Int) (v3 : Int) (v4 : Int) (v5 : Int) (h : Hp) : Option (Hp) :=
  if v5 = 0 then (
    if v3 ≤ 0 then (
      f_cHall_isGone_b120 v0 v1 v3 v4 h
    ) else
    if v1 = 0 then none else
    if hR h v0 6 = 0 then none else
    b2 (f_cSpans_add (hR h v0 6) (hI h v1 6) v2 (w32 (v2 + v3)) h) fun r5 h3 =>
    lt1 (sI h3 v1 6 r5) fun h6 =>
    f_cHall_isGone_b120 v0 v1 v3 v4 h6
  ) else
  if v3 ≤ 0 then (
    f_cHall_isGone_b47 v0 v1 v4 h
  ) else
  if v1 = 0 then none else
  if hR h v0 6 = 0 then none else
  b2 (f_cSpans_add (hR h v0 6) (hI h v1 7) v2 (w32 (v2 + v3)) h) fun r11 h9 =>
  lt1 (sI h9 v1 7 r11) fun h12 =>
  if hR h12 v0 6 = 0 then none else
  b2 (f_cSpans_cut (hR h12 v0 6) (hI h12 v1 6) v2 (w32 (v2 + v3)) h12) fun r16 h14 =>
  lt1 (sI h14 v1 6 r16) fun h17 =>
  f_cHall_isGone_b47 v0 v1 v4 h17
def f_cHall_isLost_b222 (v0 : Nat) (s0 : Nat) (s1 : Int) (h : Hp) : Option (Hp) :=
  if s0 = 0 then none else
  lt1 (sJ h s0 5 s1) fun h28 =>
  some h28
def f_cHall_isLost_b178 (v0 : Nat) (v1 : Int) (v3 : Int) (h : Hp) : Option (Hp) :=
  if hR h v0 3 = 0 then none else
  if ix (w32 (v1 - 22)) (ln h (hR h v0 3)) then
    if ix (w32 (v1 - 22)) (ln h (hR h v0 3)) then
      if hR h (hR h v0 3) ((w32 (v1 - 22)).toNat) = 0 then none else
      if v3 ≠ (hJ h (hR h (hR h v0 3) ((w32 (v1 - 22)).toNat)) 5) then (
        if ix (w32 (v1 - 22)) (ln h (hR h v0 3)) then
          f_cHall_isLost_b222 v0 (hR h (hR h v0 3) ((w32 (v1 - 22)).toNat)) (hJ h (hR h (hR h v0 3) ((w32 (v1 - 22)).toNat)) 5) h
        else none
      ) else
      f_cHall_isLost_b222 v0 (hR h (hR h v0 3) ((w32 (v1 - 22)).toNat)) (-1) h
    else none
  else none
def f_cHall_isLost_b166 (v0 : Nat) (v1 : Int) (v3 : Int) (h : Hp) : Option (Hp) :=
  if v1 = 22 then (
    f_cHall_isLost_b178 v0 v1 v3 h
  ) else
  if v1 ≠ 23 then (
    some h
  ) else
  f_cHall_isLost_b178 v0 v1 v3 h
def f_cHall_isLost_b133 (v0 : Nat) (v1 : Int) (v2 : Int) (v3 : Int) (v5 : Int) (h : Hp) : Option (Hp) :=
  if v1 ≠ 21 then (
    f_cHall_isLost_b166 v0 v1 v3 h
  ) else
  if hR h v0 1 = 0 then none else
  if ix v2 (ln h (hR h v0 1)) then
    if hR h (hR h v0 1) v2.toNat = 0 then none else
    if v5 ≠ (hJ h (hR h (hR h v0 1) v2.toNat) 10) then (
      f_cHall_isLost_b166 v0 v1 v3 h
    ) else
    if ix v2 (ln h (hR h v0 1)) then
      lt1 (sJ h (hR h (hR h v0 1) v2.toNat) 10 (-1)) fun h21 =>
      f_cHall_isLost_b166 v0 v1 v3 h21
    else none
  else none
def f_cHall_isLost_b111 (v0 : Nat) (v1 : Int) (v2 : Int) (v3 : Int) (v5 : Int) (h : Hp) : Option (Hp) :=
  if v1 ≠ 20 then (
    f_cHall_isLost_b133 v0 v1 v2 v3 v5 h
  ) else
  if v3 ≠ (hJ h v0 10) then (
    f_cHall_isLost_b133 v0 v1 v2 v3 v5 h
  ) else
  lt1 (sJ h v0 10 (-1)) fun h16 =>
  f_cHall_isLost_b133 v0 v1 v2 v3 v5 h16
def f_cHall_isLost_b80 (v0 : Nat) (v1 : Int) (v2 : Int) (v3 : Int) (v5 : Int) (h : Hp) : Option (Hp) :=
  if hR h v0 3 = 0 then none else
  if ix (w32 (v1 - 18)) (ln h (hR h v0 3)) then
    if hR h (hR h v0 3) ((w32 (v1 - 18)).toNat) = 0 then none else
    if v3 ≠ (hI h (hR h (hR h v0 3) ((w32 (v1 - 18)).toNat)) 2) then (
      f_cHall_isLost_b111 v0 v1 v2 v3 v5 h
    ) else
    if ix (w32 (v1 - 18)) (ln h (hR h v0 3)) then
      lt1 (sI h (hR h (hR h v0 3) ((w32 (v1 - 18)).toNat)) 6 1) fun h15 =>
      f_cHall_isLost_b111 v0 v1 v2 v3 v5 h15
    else none
  else none
def f_cHall_isLost_b68 (v0 : Nat) (v1 : Int) (v2 : Int) (v3 : Int) (v5 : Int) (h : Hp) : Option (Hp) :=
  if v1 = 18 then (
    f_cHall_isLost_b80 v0 v1 v2 v3 v5 h
  ) else
  if v1 ≠ 19 then (
    f_cHall_isLost_b111 v0 v1 v2 v3 v5 h
  ) else
  f_cHall_isLost_b80 v0 v1 v2 v3 v5 h
def f_cHall_isLost_b36 (v0 : Nat) (v1 : Int) (v2 : Int) (v3 : Int) (v5 : Int) (h : Hp) : Option (Hp) :=
  if v1 ≠ 17 then (
    f_cHall_isLost_b68 v0 v1 v2 v3 v5 h
  ) else
  if hR h v0 2 = 0 then none else
  if ix v2 (ln h (hR h v0 2)) then
    if hR h (hR h v0 2) v2.toNat = 0 then none else
    if v5 ≠ (hI h (hR h (hR h v0 2) v2.toNat) 6) then (
      f_cHall_isLost_b68 v0 v1 v2 v3 v5 h
    ) else
    if ix v2 (ln h (hR h v0 2)) then
      lt1 (sI h (hR h (hR h v0 2) v2.toNat) 10 1) fun h10 =>
      f_cHall_isLost_b68 v0 v1 v2 v3 v5 h10
    else none
  else none
def f_cHall_isLost_b15 (v0 : Nat) (v1 : Int) (v2 : Int) (v3 : Int) (v5 : Int) (h : Hp) : Option (Hp) :=
  if v1 ≠ 16 then (
    f_cHall_isLost_b36 v0 v1 v2 v3 v5 h
  ) else
  if v3 ≠ (hI h v0 14) then (
    f_cHall_isLost_b36 v0 v1 v2 v3 v5 h
  ) else
  lt1 (sI h v0 16 1) fun h5 =>
  f_cHall_isLost_b36 v0 v1 v2 v3 v5 h5
def f_cHall_isLost (v0 : Nat) (v1 : Int) (v2 : Int) (v3 : Int) (v5 : Int) (h : Hp) : Option (Hp) :=
  if v1 ≠ 5 then (
    f_cHall_isLost_b15 v0 v1 v2 v3 v5 h
  ) else
  if hR h v0 2 = 0 then none else
  if ix v2 (ln h (hR h v0 2)) then
    if hR h (hR h v0 2) v2.toNat = 0 then none else
    lt1 (sI h (hR h (hR h v0 2) v2.toNat) 11 1) fun h4 =>
    f_cHall_isLost_b15 v0 v1 v2 v3 v5 h4
  else none
def f_cHall_gone_b114 (v0 : Nat) (v10 : Int) (v11 : Int) (h : Hp) : Option (Hp) :=
  b1 (f_cHall_mayBeOver v0 v10 v11 h) fun h24 =>
  some h24
def f_cHall_gone_b55 (v0 : Nat) (v9 : Int) (v10 : Int) (v11 : Int) (s0 : Nat) (s1 : Nat) (s2 : Int) (s3 : Int) (s4 : Int) (h : Hp) : Option (Hp) :=
  if s0 = 0 then none else
  b1 (f_cHall_isGone s0 s1 s2 s3 s4 v9 h) fun h20 =>
  b1 (f_cHall_mayBeOver v0 v10 v11 h20) fun h22 =>
  some h22
def f_cHall_gone_b14 (v0 : Nat) (v1 : Int) (v2 : Int) (v4 : Int) (v6 : Int) (v7 : Int) (v9 : Int) (s0 : Int) (h : Hp) : Option (Hp) :=
  if v1 ≠ 8 then (
    if v1 ≠ 4 then (
      if v9 ≠ 0 then (
        some h
      ) else
      b1 (f_cHall_isLost v0 v1 s0 v2 v4 h) fun h1 =>
      some h1
    ) else
    b2 (f_cHall_isOver v0 s0 h) fun r5 h3 =>
    if v9 = 0 then (
      if hR h3 v0 1 = 0 then none else
      if ix s0 (ln h3 (hR h3 v0 1)) then
        if hR h3 (hR h3 v0 1) s0.toNat = 0 then none else
        lt1 (sI h3 (hR h3 (hR h3 v0 1) s0.toNat) 11 1) fun h9 =>
        f_cHall_gone_b114 v0 s0 r5 h9
      else none
    ) else
    if hR h3 v0 1 = 0 then none else
    if ix s0 (ln h3 (hR h3 v0 1)) then
      if hR h3 (hR h3 v0 1) s0.toNat = 0 then none else
      lt1 (sI h3 (hR h3 (hR h3 v0 1) s0.toNat) 0 4) fun h13 =>
      f_cHall_gone_b114 v0 s0 r5 h13
    else none
  ) else
  b2 (f_cHall_isOver v0 s0 h) fun r16 h14 =>
  if hR h14 v0 1 = 0 then none else
  if ix s0 (ln h14 (hR h14 v0 1)) then
    if v7 ≠ 1 then (
      f_cHall_gone_b55 v0 v9 s0 r16 v0 (hR h14 (hR h14 v0 1) s0.toNat) (w32 v4) v6 0 h14
    ) else
    f_cHall_gone_b55 v0 v9 s0 r16 v0 (hR h14 (hR h14 v0 1) s0.toNat) (w32 v4) v6 1 h14
  else none
def f_cHall_gone (v0 : Nat) (v1 : Int) (v2 : Int) (v4 : Int) (v6 : Int) (v7 : Int) (v9 : Int) (h : Hp) : Option (Hp) :=
  if 256 ≤ v2 then (
    f_cHall_gone_b14 v0 v1 v2 v4 v6 v7 v9 0 h
  ) else
  f_cHall_gone_b14 v0 v1 v2 v4 v6 v7 v9 (w32 v2) h
def f_cSide_gone_b194 (k17 : Nat → Int → Int → Int → Nat → Int → Hp → Option (Hp)) (v0 : Nat) (v1 : Int) (v2 : Int) (v3 : Int) (v4 : Nat) (v5 : Int) (h : Hp) : Option (Hp) :=
  k17 v0 v1 v2 v3 v4 (w32 (v5 + 1)) h
def f_cSide_gone_b127 (k17 : Nat → Int → Int → Int → Nat → Int → Hp → Option (Hp)) (v0 : Nat) (v1 : Int) (v2 : Int) (v3 : Int) (v4 : Nat) (v5 : Int) (s0 : Nat) (s1 : Int) (h : Hp) : Option (Hp) :=
  if s0 = 0 then none else
  if ¬ (s1 = 0 ∨ s1 = 1) then none else
  lt1 (sI h s0 15 s1) fun h41 =>
  f_cSide_gone_b194 k17 v0 v1 v2 v3 v4 v5 h41
def f_cSide_gone_b122 (k17 : Nat → Int → Int → Int → Nat → Int → Hp → Option (Hp)) (v0 : Nat) (v1 : Int) (v2 : Int) (v3 : Int) (v4 : Nat) (v5 : Int) (s0 : Nat) (h : Hp) : Option (Hp) :=
  f_cSide_gone_b127 k17 v0 v1 v2 v3 v4 v5 s0 1 h
def f_cSide_gone_b126 (k17 : Nat → Int → Int → Int → Nat → Int → Hp → Option (Hp)) (v0 : Nat) (v1 : Int) (v2 : Int) (v3 : Int) (v4 : Nat) (v5 : Int) (s0 : Nat) (h : Hp) : Option (Hp) :=
  f_cSide_gone_b127 k17 v0 v1 v2 v3 v4 v5 s0 0 h
def f_cSide_gone_b100 (k17 : Nat → Int → Int → Int → Nat → Int → Hp → Option (Hp)) (v0 : Nat) (v1 : Int) (v2 : Int) (v3 : Int) (v4 : Nat) (v5 : Int) (s0 : Nat) (s1 : Int) (h : Hp) : Option (Hp) :=
  if s0 = 0 then none else
  if ¬ (s1 = 0 ∨ s1 = 1) then none else
  lt1 (sI h s0 16 s1) fun h38 =>
  if (hI h38 v0 16) ≠ 0 then (
    f_cSide_gone_b126 k17 v0 v1 v2 v3 v4 v5 v0 h38
  ) else
  if (hI h38 v0 15) ≠ 0 then (
    f_cSide_gone_b122 k17 v0 v1 v2 v3 v4 v5 v0 h38
  ) else
  if v3 ≠ 0 then (
    f_cSide_gone_b126 k17 v0 v1 v2 v3 v4 v5 v0 h38
  ) else
  f_cSide_gone_b122 k17 v0 v1 v2 v3 v4 v5 v0 h38
def f_cSide_gone_b95 (k17 : Nat → Int → Int → Int → Nat → Int → Hp → Option (Hp)) (v0 : Nat) (v1 : Int) (v2 : Int) (v3 : Int) (v4 : Nat) (v5 : Int) (s0 : Nat) (h : Hp) : Option (Hp) :=
  f_cSide_gone_b100 k17 v0 v1 v2 v3 v4 v5 s0 1 h
def f_cSide_gone_b17 (k17 : Nat → Int → Int → Int → Nat → Int → Hp → Option (Hp)) (v0 : Nat) (v1 : Int) (v2 : Int) (v3 : Int) (v4 : Nat) (v5 : Int) (h : Hp) : Option (Hp) :=
  if v4 = 0 then none else
  b2 (f_cCargo_end v4 v2 h) fun r11 h9 =>
  if r11 ≤ v5 then (
    some h9
  ) else
  if hR h9 v4 2 = 0 then none else
  if ix v5 (ln h9 (hR h9 v4 2)) then
    if (hI h9 (hR h9 v4 2) v5.toNat) ≠ 6 then (
      if ix v5 (ln h9 (hR h9 v4 2)) then
        if (hI h9 (hR h9 v4 2) v5.toNat) ≠ 30 then (
          if ix v5 (ln h9 (hR h9 v4 2)) then
            if (hI h9 (hR h9 v4 2) v5.toNat) = 27 then (
              f_cSide_gone_b194 k17 v0 v1 v2 v3 v4 v5 h9
            ) else
            if ix v5 (ln h9 (hR h9 v4 2)) then
              if hR h9 v4 3 = 0 then none else
              if ix v5 (ln h9 (hR h9 v4 3)) then
                if hR h9 v4 4 = 0 then none else
                if ix v5 (ln h9 (hR h9 v4 4)) then
                  if hR h9 v4 1 = 0 then none else
                  if ix v5 (ln h9 (hR h9 v4 1)) then
                    if hR h9 v4 5 = 0 then none else
                    if ix v5 (ln h9 (hR h9 v4 5)) then
                      if hR h9 v0 11 = 0 then none else
                      b1 (f_cHall_gone (hR h9 v0 11) (hI h9 (hR h9 v4 2) v5.toNat) (hJ h9 (hR h9 v4 3) v5.toNat) (hJ h9 (hR h9 v4 4) v5.toNat) (hI h9 (hR h9 v4 1) v5.toNat) (hJ h9 (hR h9 v4 5) v5.toNat) v3 h9) fun h26 =>
                      f_cSide_gone_b194 k17 v0 v1 v2 v3 v4 v5 h26
                    else none
                  else none
                else none
              else none
            else none
          else none
        ) else
        if (hI h9 v0 16) ≠ 0 then (
          f_cSide_gone_b95 k17 v0 v1 v2 v3 v4 v5 v0 h9
        ) else
        if v3 = 0 then (
          f_cSide_gone_b100 k17 v0 v1 v2 v3 v4 v5 v0 0 h9
        ) else
        f_cSide_gone_b95 k17 v0 v1 v2 v3 v4 v5 v0 h9
      else none
    ) else
    if hR h9 v0 8 = 0 then none else
    if ix v1 (ln h9 (hR h9 v0 8)) then
      if hR h9 v4 4 = 0 then none else
      if ix v5 (ln h9 (hR h9 v4 4)) then
        if hR h9 v4 1 = 0 then none else
        if ix v5 (ln h9 (hR h9 v4 1)) then
          if hR h9 (hR h9 v0 8) v1.toNat = 0 then none else
          b1 (f_cCrypto_gone (hR h9 (hR h9 v0 8) v1.toNat) (hJ h9 (hR h9 v4 4) v5.toNat) (hI h9 (hR h9 v4 1) v5.toNat) v3 h9) fun h35 =>
          f_cSide_gone_b194 k17 v0 v1 v2 v3 v4 v5 h35
        else none
      else none
    else none
  else none
def f_cSide_gone_b17_lp : Nat → Nat → Int → Int → Int → Nat → Int → Hp → Option (Hp)
  | 0, _, _, _, _, _, _, _ => none
  | n + 1, v0, v1, v2, v3, v4, v5, h => f_cSide_gone_b17 (f_cSide_gone_b17_lp n) v0 v1 v2 v3 v4 v5 h
def f_cSide_gone (v0 : Nat) (v1 : Int) (v2 : Int) (v3 : Int) (h : Hp) : Option (Hp) :=
  if hR h v0 10 = 0 then none else
  if ix v1 (ln h (hR h v0 10)) then
    lt1 (hR h (hR h v0 10) v1.toNat) fun y3 =>
    if y3 = 0 then none else
    if hR h y3 0 = 0 then none else
    if ix v2 (ln h (hR h y3 0)) then
      lt1 (hI h (hR h y3 0) v2.toNat) fun y7 =>
      f_cSide_gone_b17_lp FU v0 v1 v2 v3 y3 y7 h
    else none
  else none
def f_cSide_settle_b48 (k48 : Nat → Int → Nat → Int → Hp → Option (Hp)) (v0 : Nat) (v1 : Int) (v2 : Nat) (v3 : Int) (h : Hp) : Option (Hp) :=
  if v3 < 0 then (
    some h
  ) else
  b1 (f_cSide_gone v0 v1 v3 0 h) fun h22 =>
  if v2 = 0 then none else
  if hR h22 v2 12 = 0 then none else
  b2 (f_cQueue_next (hR h22 v2 12) h22) fun r28 h26 =>
  k48 v0 v1 v2 r28 h26
def f_cSide_settle_b48_lp : Nat → Nat → Int → Nat → Int → Hp → Option (Hp)
  | 0, _, _, _, _, _ => none
  | n + 1, v0, v1, v2, v3, h => f_cSide_settle_b48 (f_cSide_settle_b48_lp n) v0 v1 v2 v3 h
def f_cSide_settle_b18 (k18 : Nat → Int → Nat → Int → Hp → Option (Hp)) (v0 : Nat) (v1 : Int) (v2 : Nat) (v3 : Int) (h : Hp) : Option (Hp) :=
  if v3 < 0 then (
    if v2 = 0 then none else
    if hR h v2 12 = 0 then none else
    b2 (f_cQueue_next (hR h v2 12) h) fun r14 h12 =>
    f_cSide_settle_b48_lp FU v0 v1 v2 r14 h12
  ) else
  b1 (f_cSide_gone v0 v1 v3 1 h) fun h15 =>
  if v2 = 0 then none else
  if hR h15 v2 11 = 0 then none else
  b2 (f_cQueue_next (hR h15 v2 11) h15) fun r21 h19 =>
  k18 v0 v1 v2 r21 h19
def f_cSide_settle_b18_lp : Nat → Nat → Int → Nat → Int → Hp → Option (Hp)
  | 0, _, _, _, _, _ => none
  | n + 1, v0, v1, v2, v3, h => f_cSide_settle_b18 (f_cSide_settle_b18_lp n) v0 v1 v2 v3 h
def f_cSide_settle (v0 : Nat) (v1 : Int) (h : Hp) : Option (Hp) :=
  if hR h v0 9 = 0 then none else
  if hR h (hR h v0 9) 0 = 0 then none else
  if ix v1 (ln h (hR h (hR h v0 9) 0)) then
    lt1 (hR h (hR h (hR h v0 9) 0) v1.toNat) fun y4 =>
    if y4 = 0 then none else
    if hR h y4 11 = 0 then none else
    b2 (f_cQueue_next (hR h y4 11) h) fun r9 h7 =>
    f_cSide_settle_b18_lp FU v0 v1 y4 r9 h7
  else none
def f_cSide_acknowledged_b114 (v0 : Nat) (v1 : Int) (v3 : Int) (h : Hp) : Option (Int × Hp) :=
  if hR h v0 9 = 0 then none else
  lt1 (sI h (hR h v0 9) 10 0) fun h29 =>
  b1 (f_cSide_settle v0 v1 h29) fun h30 =>
  if v3 = 0 then (
    some (10, h30)
  ) else
  some (0, h30)
def f_cSide_acknowledged (v0 : Nat) (v1 : Int) (h : Hp) : Option (Int × Hp) :=
  if hR h v0 38 = 0 then none else
  lt1 (min (hI h (hR h v0 38) 11) 64) fun y2 =>
  if hR h v0 9 = 0 then none else
  if hR h (hR h v0 9) 0 = 0 then none else
  if ix v1 (ln h (hR h (hR h v0 9) 0)) then
    if hR h (hR h (hR h v0 9) 0) v1.toNat = 0 then none else
    if (hI h (hR h (hR h (hR h v0 9) 0) v1.toNat) 10) = 0 then (
      if hR h (hR h v0 38) 12 = 0 then none else
      if hR h (hR h v0 9) 8 = 0 then none else
      if cpk 0 0 y2 (ln h (hR h (hR h v0 38) 12)) (ln h (hR h (hR h v0 9) 8)) then
        lt1 (cpJ h (hR h (hR h v0 38) 12) (Int.toNat 0) (hR h (hR h v0 9) 8) (Int.toNat 0) y2.toNat) fun h10 =>
        if hR h10 v0 38 = 0 then none else
        if hR h10 v0 9 = 0 then none else
        if hR h10 (hR h10 v0 38) 13 = 0 then none else
        if hR h10 (hR h10 v0 9) 9 = 0 then none else
        if cpk 0 0 y2 (ln h10 (hR h10 (hR h10 v0 38) 13)) (ln h10 (hR h10 (hR h10 v0 9) 9)) then
          lt1 (cpJ h10 (hR h10 (hR h10 v0 38) 13) (Int.toNat 0) (hR h10 (hR h10 v0 9) 9) (Int.toNat 0) y2.toNat) fun h16 =>
          if hR h16 v0 9 = 0 then none else
          lt1 (sI h16 (hR h16 v0 9) 10 y2) fun h18 =>
          if hR h18 v0 9 = 0 then none else
          b2 (f_cBook_isSent (hR h18 v0 9) v1 h18) fun r22 h20 =>
          if r22 = 0 then (
            f_cSide_acknowledged_b114 v0 v1 r22 h20
          ) else
          if hR h20 v0 38 = 0 then none else
          if hR h20 v0 9 = 0 then none else
          b2 (f_cBook_acknowledge (hR h20 v0 9) v1 (w32 (min (hJ h20 (hR h20 v0 38) 3) 100000)) h20) fun r27 h25 =>
          f_cSide_acknowledged_b114 v0 v1 r22 h25
        else none
      else none
    ) else
    some (0, h)
  else none
def f_cCrypto_take_b21 (k21 : Nat → Nat → Int → Hp → Option (Int × Hp)) (v0 : Nat) (v1 : Nat) (v2 : Int) (h : Hp) : Option (Int × Hp) :=
  if v1 = 0 then none else
  if (hI h v1 9) ≤ v2 then (
    some (1, h)
  ) else
  if hR h v1 7 = 0 then none else
  if ix (w32 ((hI h v1 8) + v2)) (ln h (hR h v1 7)) then
    if hR h v0 2 = 0 then none else
    if ix (w32 ((w32 (hJ h v1 3)) + v2)) (ln h (hR h v0 2)) then
      lt1 (sI h (hR h v0 2) ((w32 ((w32 (hJ h v1 3)) + v2)).toNat) (i8 (hI h (hR h v1 7) ((w32 ((hI h v1 8) + v2)).toNat)))) fun h7 =>
      if hR h7 v0 3 = 0 then none else
      if ix (w32 ((w32 (hJ h7 v1 3)) + v2)) (ln h7 (hR h7 v0 3)) then
        lt1 (sI h7 (hR h7 v0 3) ((w32 ((w32 (hJ h7 v1 3)) + v2)).toNat) 1) fun h10 =>
        k21 v0 v1 (w32 (v2 + 1)) h10
      else none
    else none
  else none
def f_cCrypto_take_b21_lp : Nat → Nat → Nat → Int → Hp → Option (Int × Hp)
  | 0, _, _, _, _ => none
  | n + 1, v0, v1, v2, h => f_cCrypto_take_b21 (f_cCrypto_take_b21_lp n) v0 v1 v2 h
def f_cCrypto_take (v0 : Nat) (v1 : Nat) (h : Hp) : Option (Int × Hp) :=
  if v1 = 0 then none else
  if (w64 ((hJ h v1 3) + (hI h v1 9))) ≤ 2048 then (
    f_cCrypto_take_b21_lp FU v0 v1 0 h
  ) else
  some (0, h)
def f_cCrypto_more_b27 (v0 : Nat) (v1 : Int) (h : Hp) : Option (Int × Hp) :=
  some (w32 (v1 - (hI h v0 4)), h)
def f_cCrypto_more_b5 (k5 : Nat → Int → Hp → Option (Int × Hp)) (v0 : Nat) (v1 : Int) (h : Hp) : Option (Int × Hp) :=
  if 2048 ≤ v1 then (
    f_cCrypto_more_b27 v0 v1 h
  ) else
  if hR h v0 3 = 0 then none else
  if ix v1 (ln h (hR h v0 3)) then
    if (hI h (hR h v0 3) v1.toNat) = 0 then (
      f_cCrypto_more_b27 v0 v1 h
    ) else
    k5 v0 (w32 (v1 + 1)) h
  else none
def f_cCrypto_more_b5_lp : Nat → Nat → Int → Hp → Option (Int × Hp)
  | 0, _, _, _ => none
  | n + 1, v0, v1, h => f_cCrypto_more_b5 (f_cCrypto_more_b5_lp n) v0 v1 h
def f_cCrypto_more (v0 : Nat) (h : Hp) : Option (Int × Hp) :=
  lt1 (hI h v0 4) fun y1 =>
  f_cCrypto_more_b5_lp FU v0 y1 h
def f_cGreeting_levelOf (v0 : Int) (h : Hp) : Option (Int × Hp) :=
  if 8 ≤ v0 then (
    some (1, h)
  ) else
  some (0, h)
def f_cRow_clear (v0 : Nat) (h : Hp) : Option (Hp) :=
  lt1 (sI h v0 1 0) fun h1 =>
  some h1
def f_cGreeting_fails (v0 : Nat) (v1 : Int) (h : Hp) : Option (Int × Hp) :=
  lt1 (sI h v0 19 v1) fun h1 =>
  lt1 (sI h1 v0 20 0) fun h2 =>
  if hR h2 v0 9 = 0 then none else
  if ix 0 (ln h2 (hR h2 v0 9)) then
    if hR h2 (hR h2 v0 9) (Int.toNat 0) = 0 then none else
    b1 (f_cRow_clear (hR h2 (hR h2 v0 9) (Int.toNat 0)) h2) fun h6 =>
    if hR h6 v0 9 = 0 then none else
    if ix 1 (ln h6 (hR h6 v0 9)) then
      if hR h6 (hR h6 v0 9) (Int.toNat 1) = 0 then none else
      b1 (f_cRow_clear (hR h6 (hR h6 v0 9) (Int.toNat 1)) h6) fun h11 =>
      some (v1, h11)
    else none
  else none
def f_cGreeting_fits (v0 : Int) (v1 : Int) (h : Hp) : Option (Int × Hp) :=
  if v0 ≠ 1 then (
    if v0 ≠ 8 then (
      if v1 ≠ 32 then (
        some (0, h)
      ) else
      some (1, h)
    ) else
    if 300 < v1 then (
      some (0, h)
    ) else
    some (1, h)
  ) else
  if v1 < 32 then (
    some (0, h)
  ) else
  if 332 < v1 then (
    some (0, h)
  ) else
  some (1, h)
def f_cGreeting_keep (v0 : Nat) (v1 : Nat) (v2 : Int) (v3 : Int) (h : Hp) : Option (Hp) :=
  if v1 = 0 then none else
  if hR h v1 0 = 0 then none else
  if hR h v0 17 = 0 then none else
  if cpk v2 0 v3 (ln h (hR h v1 0)) (ln h (hR h v0 17)) then
    lt1 (cpI h (hR h v1 0) v2.toNat (hR h v0 17) (Int.toNat 0) v3.toNat) fun h5 =>
    lt1 (sI h5 v0 18 v3) fun h6 =>
    some h6
  else none
def f_cGreeting_digest (v0 : Nat) (h : Hp) : Option (Hp) :=
  if hR h v0 5 = 0 then none else
  b1 (f_cHash_begin (hR h v0 5) h) fun h2 =>
  if hR h2 v0 7 = 0 then none else
  if hR h2 v0 5 = 0 then none else
  b1 (f_cHash_add (hR h2 v0 5) (hR h2 (hR h2 v0 7) 0) 0 (hI h2 (hR h2 v0 7) 1) h2) fun h6 =>
  if hR h6 v0 5 = 0 then none else
  b1 (f_cHash_end (hR h6 v0 5) (hR h6 v0 14) 0 h6) fun h9 =>
  some h9
def f_cGreeting_greetSecrets (v0 : Nat) (h : Hp) : Option (Hp) :=
  b1 (f_cGreeting_digest v0 h) fun h1 =>
  b1 (f_cGreeting_mac v0 (hR h1 v0 1) 32 (hR h1 v0 14) 0 32 (hR h1 v0 12) h1) fun h3 =>
  b1 (f_cGreeting_secrets v0 1 (hR h3 v0 12) (hR h3 40 7) (hR h3 40 8) (hR h3 v0 14) 32 h3) fun h5 =>
  some h5
def f_cGreeting_prove (v0 : Nat) (v1 : Int) (h : Hp) : Option (Hp) :=
  b1 (f_cGreeting_digest v0 h) fun h1 =>
  if hR h1 v0 10 = 0 then none else
  if ix (w32 (2 + v1)) (ln h1 (hR h1 v0 10)) then
    if hR h1 v0 6 = 0 then none else
    b1 (f_cStretch_label (hR h1 v0 6) (hR h1 (hR h1 v0 10) ((w32 (2 + v1)).toNat)) 32 (hR h1 40 11) (hR h1 v0 16) 0 (hR h1 v0 15) 32 h1) fun h6 =>
    b1 (f_cGreeting_mac v0 (hR h6 v0 15) 32 (hR h6 v0 14) 0 32 (hR h6 v0 15) h6) fun h8 =>
    some h8
  else none
def f_cGreeting_talkSecrets (v0 : Nat) (h : Hp) : Option (Hp) :=
  b1 (f_cGreeting_digest v0 h) fun h1 =>
  b1 (f_cGreeting_mac v0 (hR h1 v0 12) 32 (hR h1 v0 14) 0 32 (hR h1 v0 13) h1) fun h3 =>
  b1 (f_cGreeting_secrets v0 2 (hR h3 v0 13) (hR h3 40 9) (hR h3 40 10) (hR h3 v0 14) 32 h3) fun h5 =>
  some h5
def f_cGreeting_hello (v0 : Nat) (v1 : Nat) (v2 : Int) (h : Hp) : Option (Hp) :=
  if v1 = 0 then none else
  if hR h v0 7 = 0 then none else
  b1 (f_cRow_add (hR h v0 7) (hR h v1 0) 0 (hI h v1 1) h) fun h3 =>
  b1 (f_cGreeting_keep v0 v1 36 (w32 (v2 - 32)) h3) fun h5 =>
  b1 (f_cGreeting_sends v0 0 2 (hR h5 v0 2) 32 (hR h5 v0 16) 0 h5) fun h7 =>
  b1 (f_cGreeting_greetSecrets v0 h7) fun h9 =>
  b1 (f_cGreeting_sends v0 1 8 (hR h9 v0 3) (hI h9 v0 4) (hR h9 v0 16) 0 h9) fun h11 =>
  b1 (f_cGreeting_prove v0 1 h11) fun h13 =>
  b1 (f_cGreeting_sends v0 1 20 (hR h13 v0 15) 32 (hR h13 v0 16) 0 h13) fun h15 =>
  b1 (f_cGreeting_talkSecrets v0 h15) fun h17 =>
  lt1 (sI h17 v0 20 20) fun h19 =>
  some h19
def f_cGreeting_done_b14 (k14 : Nat → Nat → Int → Int → Hp → Option (Hp)) (v0 : Nat) (v1 : Nat) (v2 : Int) (v3 : Int) (h : Hp) : Option (Hp) :=
  if 32 ≤ v3 then (
    if v2 = 0 then (
      lt1 (sI h v0 20 0) fun h3 =>
      lt1 (sI h3 v0 22 1) fun h4 =>
      if (hI h4 v0 0) ≠ 1 then (
        if v1 = 0 then none else
        if hR h4 v0 7 = 0 then none else
        b1 (f_cRow_add (hR h4 v0 7) (hR h4 v1 0) 0 (hI h4 v1 1) h4) fun h7 =>
        b1 (f_cGreeting_talkSecrets v0 h7) fun h9 =>
        b1 (f_cGreeting_prove v0 0 h9) fun h11 =>
        b1 (f_cGreeting_sends v0 1 20 (hR h11 v0 15) 32 (hR h11 v0 16) 0 h11) fun h13 =>
        some h13
      ) else
      some h4
    ) else
    b2 (f_cGreeting_fails v0 307 h) fun r17 h15 =>
    some h15
  ) else
  if hR h v0 15 = 0 then none else
  if ix v3 (ln h (hR h v0 15)) then
    if v1 = 0 then none else
    if hR h v1 0 = 0 then none else
    if ix (w32 (4 + v3)) (ln h (hR h v1 0)) then
      lt1 (iOr v2 (iXor (hI h (hR h v0 15) v3.toNat) (hI h (hR h v1 0) ((w32 (4 + v3)).toNat)))) fun y23 =>
      k14 v0 v1 y23 (w32 (v3 + 1)) h
    else none
  else none
def f_cGreeting_done_b14_lp : Nat → Nat → Nat → Int → Int → Hp → Option (Hp)
  | 0, _, _, _, _, _ => none
  | n + 1, v0, v1, v2, v3, h => f_cGreeting_done_b14 (f_cGreeting_done_b14_lp n) v0 v1 v2 v3 h
def f_cGreeting_done (v0 : Nat) (v1 : Nat) (h : Hp) : Option (Hp) :=
  b1 (f_cGreeting_prove v0 (w32 (1 - (hI h v0 0))) h) fun h1 =>
  f_cGreeting_done_b14_lp FU v0 v1 0 0 h1
def f_cGreeting_comes (v0 : Nat) (v1 : Nat) (v2 : Int) (h : Hp) : Option (Hp) :=
  if hI h v0 20 = 1 then (
    b1 (f_cGreeting_hello v0 v1 v2 h) fun h3 =>
    some h3
  ) else
  if hI h v0 20 = 2 then (
    if v1 = 0 then none else
    if hR h v0 7 = 0 then none else
    b1 (f_cRow_add (hR h v0 7) (hR h v1 0) 0 (hI h v1 1) h) fun h9 =>
    b1 (f_cGreeting_greetSecrets v0 h9) fun h11 =>
    lt1 (sI h11 v0 20 8) fun h13 =>
    some h13
  ) else
  if hI h v0 20 = 8 then (
    if v1 = 0 then none else
    if hR h v0 7 = 0 then none else
    b1 (f_cRow_add (hR h v0 7) (hR h v1 0) 0 (hI h v1 1) h) fun h18 =>
    b1 (f_cGreeting_keep v0 v1 4 v2 h18) fun h20 =>
    lt1 (sI h20 v0 20 20) fun h22 =>
    some h22
  ) else
  b1 (f_cGreeting_done v0 v1 h) fun h23 =>
  some h23
def f_cGreeting_take_b64 (v0 : Nat) (h : Hp) : Option (Int × Hp) :=
  b2 (f_cGreeting_fails v0 266 h) fun r33 h31 =>
  some (r33, h31)
def f_cGreeting_take_b194 (k17 : Nat → Int → Nat → Nat → Int → Int → Hp → Option (Int × Hp)) (v0 : Nat) (v1 : Int) (v2 : Nat) (v5 : Nat) (v6 : Int) (v7 : Int) (h : Hp) : Option (Int × Hp) :=
  if v6 ≠ v7 then (
    if v5 = 0 then none else
    b1 (f_cRow_add v5 v2 v6 1 h) fun h29 =>
    k17 v0 v1 v2 v5 (w32 (v6 + 1)) v7 h29
  ) else
  some (0, h)
def f_cGreeting_take_b157 (k17 : Nat → Int → Nat → Nat → Int → Int → Hp → Option (Int × Hp)) (v0 : Nat) (v1 : Int) (v2 : Nat) (v5 : Nat) (v6 : Int) (v7 : Int) (v8 : Int) (h : Hp) : Option (Int × Hp) :=
  if v5 = 0 then none else
  if (hI h v5 1) ≤ 3 then (
    f_cGreeting_take_b194 k17 v0 v1 v2 v5 v6 v7 h
  ) else
  if (hI h v5 1) ≠ (w32 (4 + v8)) then (
    f_cGreeting_take_b194 k17 v0 v1 v2 v5 v6 v7 h
  ) else
  b1 (f_cGreeting_comes v0 v5 v8 h) fun h24 =>
  b1 (f_cRow_clear v5 h24) fun h26 =>
  k17 v0 v1 v2 v5 v6 v7 h26
def f_cGreeting_take_b126 (k17 : Nat → Int → Nat → Nat → Int → Int → Hp → Option (Int × Hp)) (v0 : Nat) (v1 : Int) (v2 : Nat) (v5 : Nat) (v6 : Int) (v7 : Int) (s0 : Int) (h : Hp) : Option (Int × Hp) :=
  if v5 = 0 then none else
  if (hI h v5 1) ≤ 3 then (
    f_cGreeting_take_b157 k17 v0 v1 v2 v5 v6 v7 s0 h
  ) else
  b2 (f_cGreeting_fits (hI h v0 20) s0 h) fun r19 h17 =>
  if r19 ≠ 0 then (
    f_cGreeting_take_b157 k17 v0 v1 v2 v5 v6 v7 s0 h17
  ) else
  b2 (f_cGreeting_fails v0 306 h17) fun r22 h20 =>
  some (r22, h20)
def f_cGreeting_take_b72 (k17 : Nat → Int → Nat → Nat → Int → Int → Hp → Option (Int × Hp)) (v0 : Nat) (v1 : Int) (v2 : Nat) (v5 : Nat) (v6 : Int) (v7 : Int) (h : Hp) : Option (Int × Hp) :=
  if v5 = 0 then none else
  if 4 ≤ (hI h v5 1) then (
    if hR h v5 0 = 0 then none else
    if ix 1 (ln h (hR h v5 0)) then
      if ix 2 (ln h (hR h v5 0)) then
        if ix 3 (ln h (hR h v5 0)) then
          f_cGreeting_take_b126 k17 v0 v1 v2 v5 v6 v7 (iOr (iOr (iShl (iAnd (hI h (hR h v5 0) (Int.toNat 1)) 255) 16) (iShl (iAnd (hI h (hR h v5 0) (Int.toNat 2)) 255) 8)) (iAnd (hI h (hR h v5 0) (Int.toNat 3)) 255)) h
        else none
      else none
    else none
  ) else
  f_cGreeting_take_b126 k17 v0 v1 v2 v5 v6 v7 0 h
def f_cGreeting_take_b17 (k17 : Nat → Int → Nat → Nat → Int → Int → Hp → Option (Int × Hp)) (v0 : Nat) (v1 : Int) (v2 : Nat) (v5 : Nat) (v6 : Int) (v7 : Int) (h : Hp) : Option (Int × Hp) :=
  if (hI h v0 19) ≠ 0 then (
    some (hI h v0 19, h)
  ) else
  if v5 = 0 then none else
  if (hI h v5 1) ≤ 0 then (
    f_cGreeting_take_b72 k17 v0 v1 v2 v5 v6 v7 h
  ) else
  if (hI h v0 20) = 0 then (
    f_cGreeting_take_b64 v0 h
  ) else
  b2 (f_cGreeting_levelOf (hI h v0 20) h) fun r8 h6 =>
  if r8 ≠ v1 then (
    f_cGreeting_take_b64 v0 h6
  ) else
  if hR h6 v5 0 = 0 then none else
  if ix 0 (ln h6 (hR h6 v5 0)) then
    if (hI h6 (hR h6 v5 0) (Int.toNat 0)) = (hI h6 v0 20) then (
      f_cGreeting_take_b72 k17 v0 v1 v2 v5 v6 v7 h6
    ) else
    f_cGreeting_take_b64 v0 h6
  else none
def f_cGreeting_take_b17_lp : Nat → Nat → Int → Nat → Nat → Int → Int → Hp → Option (Int × Hp)
  | 0, _, _, _, _, _, _, _ => none
  | n + 1, v0, v1, v2, v5, v6, v7, h => f_cGreeting_take_b17 (f_cGreeting_take_b17_lp n) v0 v1 v2 v5 v6 v7 h
def f_cGreeting_take (v0 : Nat) (v1 : Int) (v2 : Nat) (v3 : Int) (v4 : Int) (h : Hp) : Option (Int × Hp) :=
  if hR h v0 9 = 0 then none else
  if ix v1 (ln h (hR h v0 9)) then
    lt1 (hR h (hR h v0 9) v1.toNat) fun y3 =>
    lt1 (w32 (v3 + v4)) fun y4 =>
    f_cGreeting_take_b17_lp FU v0 v1 v2 y3 v3 y4 h
  else none
def f_cParameters_isAnswer_b21 (h : Hp) : Option (Int × Hp) :=
  some (1, h)
def f_cParameters_isAnswer (v0 : Int) (h : Hp) : Option (Int × Hp) :=
  if v0 = 0 then (
    f_cParameters_isAnswer_b21  h
  ) else
  if v0 = 2 then (
    f_cParameters_isAnswer_b21  h
  ) else
  if v0 = 13 then (
    f_cParameters_isAnswer_b21  h
  ) else
  if v0 ≠ 16 then (
    some (0, h)
  ) else
  f_cParameters_isAnswer_b21  h
def f_cParameters_fits_b78 (v1 : Int) (h : Hp) : Option (Int × Hp) :=
  if 1152921504606846976 < v1 then (
    some (0, h)
  ) else
  some (1, h)
def f_cParameters_fits (v0 : Int) (v1 : Int) (h : Hp) : Option (Int × Hp) :=
  if v0 = 3 then (
    if v1 < 1200 then (
      some (0, h)
    ) else
    some (1, h)
  ) else
  if v0 = 4 then (
    some (1, h)
  ) else
  if v0 = 5 then (
    some (1, h)
  ) else
  if v0 = 6 then (
    some (1, h)
  ) else
  if v0 = 7 then (
    some (1, h)
  ) else
  if v0 = 8 then (
    f_cParameters_fits_b78 v1 h
  ) else
  if v0 = 9 then (
    f_cParameters_fits_b78 v1 h
  ) else
  if v0 = 10 then (
    if 20 < v1 then (
      some (0, h)
    ) else
    some (1, h)
  ) else
  if v0 = 11 then (
    if 16384 ≤ v1 then (
      some (0, h)
    ) else
    some (1, h)
  ) else
  if v0 = 12 then (
    some (1, h)
  ) else
  if v0 = 13 then (
    some (1, h)
  ) else
  if v0 = 14 then (
    if v1 < 2 then (
      some (0, h)
    ) else
    some (1, h)
  ) else
  some (1, h)
def f_cParameters_one_b240 (v0 : Nat) (v1 : Nat) (v5 : Int) (v6 : Int) (h : Hp) : Option (Int × Hp) :=
  if v1 = 0 then none else
  lt1 (sI h v1 1 v5) fun h38 =>
  if v6 = 0 then (
    some (3, h38)
  ) else
  some (0, h38)
def f_cParameters_one_b121 (v0 : Nat) (v1 : Nat) (v3 : Int) (v5 : Int) (s0 : Int) (h : Hp) : Option (Int × Hp) :=
  if v1 = 0 then none else
  b2 (f_cBytes_pass v1 v3 h) fun r42 h40 =>
  f_cParameters_one_b240 v0 v1 v5 s0 h40
def f_cParameters_one_b154 (v0 : Nat) (v1 : Nat) (v3 : Int) (v5 : Int) (s0 : Int) (h : Hp) : Option (Int × Hp) :=
  if v1 = 0 then none else
  b2 (f_cBytes_pass v1 v3 h) fun r46 h44 =>
  f_cParameters_one_b240 v0 v1 v5 s0 h44
def f_cParameters_one_b106 (v0 : Nat) (v1 : Nat) (v3 : Int) (v5 : Int) (h : Hp) : Option (Int × Hp) :=
  f_cParameters_one_b121 v0 v1 v3 v5 0 h
def f_cParameters_one_b238 (v0 : Nat) (v1 : Nat) (v5 : Int) (s0 : Int) (h : Hp) : Option (Int × Hp) :=
  f_cParameters_one_b240 v0 v1 v5 s0 h
def f_cParameters_one_b237 (v0 : Nat) (v1 : Nat) (v5 : Int) (h : Hp) : Option (Int × Hp) :=
  f_cParameters_one_b238 v0 v1 v5 0 h
def f_cParameters_one_b214 (v0 : Nat) (v1 : Nat) (v2 : Int) (v5 : Int) (v6 : Int) (s0 : Nat) (s1 : Int) (s2 : Int) (h : Hp) : Option (Int × Hp) :=
  if s0 = 0 then none else
  if ix s1 (ln h s0) then
    lt1 (sJ h s0 s1.toNat s2) fun h31 =>
    if v6 = 0 then (
      f_cParameters_one_b237 v0 v1 v5 h31
    ) else
    if hR h31 v0 0 = 0 then none else
    if ix v2 (ln h31 (hR h31 v0 0)) then
      b2 (f_cParameters_fits v2 (hJ h31 (hR h31 v0 0) v2.toNat) h31) fun r36 h34 =>
      if r36 = 0 then (
        f_cParameters_one_b237 v0 v1 v5 h34
      ) else
      f_cParameters_one_b238 v0 v1 v5 1 h34
    else none
  else none
def f_cParameters_one_b194 (v0 : Nat) (v1 : Nat) (v2 : Int) (v5 : Int) (s0 : Int) (h : Hp) : Option (Int × Hp) :=
  if s0 = 0 then (
    f_cParameters_one_b214 v0 v1 v2 v5 s0 (hR h v0 0) v2 0 h
  ) else
  if v1 = 0 then none else
  b2 (f_cBytes_number v1 h) fun r28 h26 =>
  f_cParameters_one_b214 v0 v1 v2 v5 s0 (hR h v0 0) v2 r28 h26
def f_cParameters_one_b193 (v0 : Nat) (v1 : Nat) (v2 : Int) (v5 : Int) (h : Hp) : Option (Int × Hp) :=
  f_cParameters_one_b194 v0 v1 v2 v5 0 h
def f_cParameters_one_b25 (v0 : Nat) (v1 : Nat) (v2 : Int) (v3 : Int) (h : Hp) : Option (Int × Hp) :=
  if hR h v0 1 = 0 then none else
  if ix v2 (ln h (hR h v0 1)) then
    lt1 (sI h (hR h v0 1) v2.toNat 1) fun h8 =>
    if v1 = 0 then none else
    if hR h8 v0 2 = 0 then none else
    if ix v2 (ln h8 (hR h8 v0 2)) then
      lt1 (sI h8 (hR h8 v0 2) v2.toNat (hI h8 v1 1)) fun h12 =>
      lt1 (w32 ((hI h12 v1 1) + v3)) fun y13 =>
      b2 (f_cParameters_isBytes v2 h12) fun r16 h14 =>
      if r16 = 0 then (
        if v2 ≠ 12 then (
          if v3 ≤ 0 then (
            f_cParameters_one_b193 v0 v1 v2 y13 h14
          ) else
          if hR h14 v1 0 = 0 then none else
          if ix (hI h14 v1 1) (ln h14 (hR h14 v1 0)) then
            if v3 ≠ (iShl 1 (iAnd (iShr (hI h14 (hR h14 v1 0) ((hI h14 v1 1).toNat)) 6) 3)) then (
              f_cParameters_one_b193 v0 v1 v2 y13 h14
            ) else
            f_cParameters_one_b194 v0 v1 v2 y13 1 h14
          else none
        ) else
        if hR h14 v0 0 = 0 then none else
        if ix v2 (ln h14 (hR h14 v0 0)) then
          lt1 (sJ h14 (hR h14 v0 0) v2.toNat 1) fun h21 =>
          if v3 ≠ 0 then (
            f_cParameters_one_b154 v0 v1 v3 y13 0 h21
          ) else
          f_cParameters_one_b154 v0 v1 v3 y13 1 h21
        else none
      ) else
      if hR h14 v0 0 = 0 then none else
      if ix v2 (ln h14 (hR h14 v0 0)) then
        lt1 (sJ h14 (hR h14 v0 0) v2.toNat v3) fun h24 =>
        if v2 ≠ 2 then (
          if v2 ≠ 13 then (
            if 20 < v3 then (
              f_cParameters_one_b121 v0 v1 v3 y13 0 h24
            ) else
            f_cParameters_one_b121 v0 v1 v3 y13 1 h24
          ) else
          if v3 < 41 then (
            f_cParameters_one_b106 v0 v1 v3 y13 h24
          ) else
          if 61 < v3 then (
            f_cParameters_one_b106 v0 v1 v3 y13 h24
          ) else
          f_cParameters_one_b121 v0 v1 v3 y13 1 h24
        ) else
        if v3 ≠ 16 then (
          f_cParameters_one_b121 v0 v1 v3 y13 0 h24
        ) else
        f_cParameters_one_b121 v0 v1 v3 y13 1 h24
      else none
    else none
  else none
def f_cParameters_one (v0 : Nat) (v1 : Nat) (v2 : Int) (v3 : Int) (v4 : Int) (h : Hp) : Option (Int × Hp) :=
  if hR h v0 1 = 0 then none else
  if ix v2 (ln h (hR h v0 1)) then
    if (hI h (hR h v0 1) v2.toNat) = 0 then (
      b2 (f_cParameters_isAnswer v2 h) fun r5 h3 =>
      if r5 = 0 then (
        f_cParameters_one_b25 v0 v1 v2 v3 h3
      ) else
      if v4 ≠ 0 then (
        f_cParameters_one_b25 v0 v1 v2 v3 h3
      ) else
      some (4, h3)
    ) else
    some (2, h)
  else none
def f_cParameters_read_b130 (k16 : Nat → Nat → Int → Int → Hp → Option (Int × Hp)) (v0 : Nat) (v1 : Nat) (v2 : Int) (v3 : Int) (h : Hp) : Option (Int × Hp) :=
  k16 v0 v1 v2 v3 h
def f_cParameters_read_b89 (k16 : Nat → Nat → Int → Int → Hp → Option (Int × Hp)) (v0 : Nat) (v1 : Nat) (v2 : Int) (v3 : Int) (v4 : Int) (v5 : Int) (v7 : Int) (s0 : Nat) (s1 : Int) (h : Hp) : Option (Int × Hp) :=
  if s0 = 0 then none else
  lt1 (sI h s0 3 s1) fun h23 =>
  if (hI h23 v0 3) ≤ 0 then (
    if 17 ≤ v5 then (
      if v1 = 0 then none else
      b2 (f_cBytes_pass v1 (w32 v7) h23) fun r27 h25 =>
      f_cParameters_read_b130 k16 v0 v1 v2 v3 h25
    ) else
    f_cParameters_read_b130 k16 v0 v1 v2 (w32 (v3 + 1)) h23
  ) else
  lt1 (sI h23 v0 4 v4) fun h28 =>
  some ((-1), h28)
def f_cParameters_read_b60 (k16 : Nat → Nat → Int → Int → Hp → Option (Int × Hp)) (v0 : Nat) (v1 : Nat) (v2 : Int) (v3 : Int) (v4 : Int) (v5 : Int) (v7 : Int) (s0 : Nat) (h : Hp) : Option (Int × Hp) :=
  f_cParameters_read_b89 k16 v0 v1 v2 v3 v4 v5 v7 s0 1 h
def f_cParameters_read_b16 (k16 : Nat → Nat → Int → Int → Hp → Option (Int × Hp)) (v0 : Nat) (v1 : Nat) (v2 : Int) (v3 : Int) (h : Hp) : Option (Int × Hp) :=
  if v1 = 0 then none else
  b2 (f_cBytes_left v1 h) fun r8 h6 =>
  if r8 ≤ 0 then (
    some (v3, h6)
  ) else
  lt1 (hI h6 v1 1) fun y9 =>
  b2 (f_cBytes_number v1 h6) fun r12 h10 =>
  b2 (f_cBytes_number v1 h10) fun r15 h13 =>
  if (hI h13 v1 3) ≠ 0 then (
    f_cParameters_read_b60 k16 v0 v1 v2 v3 y9 r12 r15 v0 h13
  ) else
  b2 (f_cBytes_left v1 h13) fun r18 h16 =>
  if r15 ≤ r18 then (
    if 17 ≤ r12 then (
      f_cParameters_read_b89 k16 v0 v1 v2 v3 y9 r12 r15 v0 0 h16
    ) else
    b2 (f_cParameters_one v0 v1 (w32 r12) (w32 r15) v2 h16) fun r21 h19 =>
    f_cParameters_read_b89 k16 v0 v1 v2 v3 y9 r12 r15 v0 r21 h19
  ) else
  f_cParameters_read_b60 k16 v0 v1 v2 v3 y9 r12 r15 v0 h16
def f_cParameters_read_b16_lp : Nat → Nat → Nat → Int → Int → Hp → Option (Int × Hp)
  | 0, _, _, _, _, _ => none
  | n + 1, v0, v1, v2, v3, h => f_cParameters_read_b16 (f_cParameters_read_b16_lp n) v0 v1 v2 v3 h
def f_cParameters_read (v0 : Nat) (v1 : Nat) (v2 : Int) (h : Hp) : Option (Int × Hp) :=
  b1 (f_cParameters_forget v0 h) fun h1 =>
  lt1 (sI h1 v0 3 0) fun h3 =>
  lt1 (sI h3 v0 4 (-1)) fun h4 =>
  f_cParameters_read_b16_lp FU v0 v1 v2 0 h4
def f_cSide_isName_b76 (k25 : Nat → Int → Int → Int → Int → Hp → Option (Int × Hp)) (v0 : Nat) (v1 : Int) (v2 : Int) (v4 : Int) (s0 : Int) (h : Hp) : Option (Int × Hp) :=
  k25 v0 v1 v2 s0 (w32 (v4 + 1)) h
def f_cSide_isName_b25 (k25 : Nat → Int → Int → Int → Int → Hp → Option (Int × Hp)) (v0 : Nat) (v1 : Int) (v2 : Int) (v3 : Int) (v4 : Int) (h : Hp) : Option (Int × Hp) :=
  if 8 ≤ v4 then (
    if v3 = 0 ∨ v3 = 1 then some (v3, h) else none
  ) else
  if v3 = 0 then (
    if v3 = 0 ∨ v3 = 1 then some (v3, h) else none
  ) else
  if hR h v0 7 = 0 then none else
  if hR h v0 34 = 0 then none else
  if hR h (hR h v0 34) 2 = 0 then none else
  if ix v1 (ln h (hR h (hR h v0 34) 2)) then
    if hR h (hR h v0 7) 17 = 0 then none else
    if ix (w32 ((hI h (hR h (hR h v0 34) 2) v1.toNat) + v4)) (ln h (hR h (hR h v0 7) 17)) then
      if hR h v0 12 = 0 then none else
      if ix (w32 ((w32 (v2 * 8)) + v4)) (ln h (hR h v0 12)) then
        if (hI h (hR h (hR h v0 7) 17) ((w32 ((hI h (hR h (hR h v0 34) 2) v1.toNat) + v4)).toNat)) ≠ (hI h (hR h v0 12) ((w32 ((w32 (v2 * 8)) + v4)).toNat)) then (
          f_cSide_isName_b76 k25 v0 v1 v2 v4 0 h
        ) else
        f_cSide_isName_b76 k25 v0 v1 v2 v4 1 h
      else none
    else none
  else none
def f_cSide_isName_b25_lp : Nat → Nat → Int → Int → Int → Int → Hp → Option (Int × Hp)
  | 0, _, _, _, _, _, _ => none
  | n + 1, v0, v1, v2, v3, v4, h => f_cSide_isName_b25 (f_cSide_isName_b25_lp n) v0 v1 v2 v3 v4 h
def f_cSide_isName_b21 (v0 : Nat) (v1 : Int) (v2 : Int) (s0 : Int) (h : Hp) : Option (Int × Hp) :=
  f_cSide_isName_b25_lp FU v0 v1 v2 s0 0 h
def f_cSide_isName (v0 : Nat) (v1 : Int) (v2 : Int) (h : Hp) : Option (Int × Hp) :=
  if hR h v0 34 = 0 then none else
  if hR h (hR h v0 34) 0 = 0 then none else
  if ix v1 (ln h (hR h (hR h v0 34) 0)) then
    if (hJ h (hR h (hR h v0 34) 0) v1.toNat) ≠ 8 then (
      f_cSide_isName_b21 v0 v1 v2 0 h
    ) else
    f_cSide_isName_b21 v0 v1 v2 1 h
  else none
def f_cHall_limits (v0 : Nat) (v1 : Int) (v3 : Int) (v5 : Int) (v7 : Int) (v9 : Int) (v11 : Int) (h : Hp) : Option (Hp) :=
  if hR h v0 5 = 0 then none else
  if ix 1 (ln h (hR h v0 5)) then
    lt1 (sJ h (hR h v0 5) (Int.toNat 1) v3) fun h3 =>
    if hR h3 v0 5 = 0 then none else
    if ix 2 (ln h3 (hR h3 v0 5)) then
      lt1 (sJ h3 (hR h3 v0 5) (Int.toNat 2) v5) fun h6 =>
      if hR h6 v0 5 = 0 then none else
      if ix 3 (ln h6 (hR h6 v0 5)) then
        lt1 (sJ h6 (hR h6 v0 5) (Int.toNat 3) v7) fun h9 =>
        lt1 (sJ h9 v0 9 v1) fun h10 =>
        if hR h10 v0 3 = 0 then none else
        if ix 0 (ln h10 (hR h10 v0 3)) then
          if hR h10 (hR h10 v0 3) (Int.toNat 0) = 0 then none else
          lt1 (sJ h10 (hR h10 (hR h10 v0 3) (Int.toNat 0)) 3 (min v9 64)) fun h14 =>
          if hR h14 v0 3 = 0 then none else
          if ix 1 (ln h14 (hR h14 v0 3)) then
            if hR h14 (hR h14 v0 3) (Int.toNat 1) = 0 then none else
            lt1 (sJ h14 (hR h14 (hR h14 v0 3) (Int.toNat 1)) 3 (min v11 64)) fun h18 =>
            some h18
          else none
        else none
      else none
    else none
  else none
def f_cSide_learn_b83 (v0 : Nat) (h : Hp) : Option (Int × Hp) :=
  if hR h v0 34 = 0 then none else
  lt1 (hR h (hR h v0 34) 0) fun y17 =>
  if y17 = 0 then none else
  if ix 4 (ln h y17) then
    if ix 5 (ln h y17) then
      if ix 6 (ln h y17) then
        if ix 7 (ln h y17) then
          if ix 8 (ln h y17) then
            if ix 9 (ln h y17) then
              if hR h v0 11 = 0 then none else
              b1 (f_cHall_limits (hR h v0 11) (hJ h y17 (Int.toNat 4)) (hJ h y17 (Int.toNat 5)) (hJ h y17 (Int.toNat 6)) (hJ h y17 (Int.toNat 7)) (hJ h y17 (Int.toNat 8)) (hJ h y17 (Int.toNat 9)) h) fun h26 =>
              some (1, h26)
            else none
          else none
        else none
      else none
    else none
  else none
def f_cSide_learn_b47 (v0 : Nat) (s0 : Nat) (s1 : Nat) (s2 : Int) (h : Hp) : Option (Int × Hp) :=
  if s0 = 0 then none else
  b2 (f_cParameters_read s0 s1 s2 h) fun r9 h7 =>
  if r9 < 0 then (
    some (0, h7)
  ) else
  b2 (f_cSide_isName v0 15 0 h7) fun r12 h10 =>
  if r12 ≠ 0 then (
    if (hI h10 v0 0) ≠ 0 then (
      f_cSide_learn_b83 v0 h10
    ) else
    b2 (f_cSide_isName v0 0 2 h10) fun r15 h13 =>
    if r15 ≠ 0 then (
      f_cSide_learn_b83 v0 h13
    ) else
    some (0, h13)
  ) else
  some (0, h10)
def f_cSide_learn (v0 : Nat) (h : Hp) : Option (Int × Hp) :=
  lt1 (sI h v0 27 1) fun h1 =>
  if hR h1 v0 7 = 0 then none else
  if hR h1 v0 35 = 0 then none else
  b1 (f_cBytes_over (hR h1 v0 35) (hR h1 (hR h1 v0 7) 17) 0 (hI h1 (hR h1 v0 7) 18) h1) fun h4 =>
  if (hI h4 v0 0) ≠ 0 then (
    f_cSide_learn_b47 v0 (hR h4 v0 34) (hR h4 v0 35) 0 h4
  ) else
  f_cSide_learn_b47 v0 (hR h4 v0 34) (hR h4 v0 35) 1 h4
def f_cSide_confirm (v0 : Nat) (h : Hp) : Option (Hp) :=
  if hR h v0 9 = 0 then none else
  lt1 (sI h (hR h v0 9) 6 1) fun h2 =>
  if hR h2 v0 9 = 0 then none else
  lt1 (sI h2 (hR h2 v0 9) 7 0) fun h4 =>
  b1 (f_cSide_discard v0 1 h4) fun h5 =>
  some h5
def f_cSide_follow_b107 (v0 : Nat) (h : Hp) : Option (Hp) :=
  if hR h v0 7 = 0 then none else
  if (hI h (hR h v0 7) 22) = 0 then (
    some h
  ) else
  if (hI h v0 1) = 1 then (
    lt1 (sI h v0 1 2) fun h21 =>
    b1 (f_cSide_arm v0 2 h21) fun h22 =>
    if (hI h22 v0 0) ≠ 1 then (
      some h22
    ) else
    lt1 (sI h22 v0 15 1) fun h24 =>
    b1 (f_cSide_confirm v0 h24) fun h25 =>
    some h25
  ) else
  some h
def f_cSide_follow_b41 (v0 : Nat) (h : Hp) : Option (Hp) :=
  if hR h v0 7 = 0 then none else
  if (hI h (hR h v0 7) 19) ≤ 0 then (
    if (hI h v0 27) ≠ 0 then (
      f_cSide_follow_b107 v0 h
    ) else
    if (hI h (hR h v0 7) 18) < 0 then (
      f_cSide_follow_b107 v0 h
    ) else
    b2 (f_cSide_learn v0 h) fun r15 h13 =>
    if r15 ≠ 0 then (
      f_cSide_follow_b107 v0 h13
    ) else
    b1 (f_cSide_close v0 28 8 8 h13) fun h16 =>
    some h16
  ) else
  b1 (f_cSide_close v0 28 (hI h (hR h v0 7) 19) (hI h (hR h v0 7) 19) h) fun h18 =>
  some h18
def f_cSide_follow (v0 : Nat) (h : Hp) : Option (Hp) :=
  if hR h v0 7 = 0 then none else
  if hR h (hR h v0 7) 11 = 0 then none else
  if ix 1 (ln h (hR h (hR h v0 7) 11)) then
    if (hI h (hR h (hR h v0 7) 11) (Int.toNat 1)) = 0 then (
      f_cSide_follow_b41 v0 h
    ) else
    if hR h v0 6 = 0 then none else
    if ix 1 (ln h (hR h v0 6)) then
      if (hI h (hR h v0 6) (Int.toNat 1)) ≠ 0 then (
        f_cSide_follow_b41 v0 h
      ) else
      if hR h v0 9 = 0 then none else
      if hR h (hR h v0 9) 0 = 0 then none else
      if ix 1 (ln h (hR h (hR h v0 9) 0)) then
        if hR h (hR h (hR h v0 9) 0) (Int.toNat 1) = 0 then none else
        if (hI h (hR h (hR h (hR h v0 9) 0) (Int.toNat 1)) 10) ≠ 0 then (
          f_cSide_follow_b41 v0 h
        ) else
        b1 (f_cSide_arm v0 1 h) fun h10 =>
        f_cSide_follow_b41 v0 h10
      else none
    else none
  else none
def f_cSide_greets (v0 : Nat) (v1 : Int) (h : Hp) : Option (Int × Hp) :=
  if v1 ≠ 2 then (
    if hR h v0 8 = 0 then none else
    if ix v1 (ln h (hR h v0 8)) then
      lt1 (hR h (hR h v0 8) v1.toNat) fun y3 =>
      if y3 = 0 then none else
      b2 (f_cCrypto_take y3 (hR h v0 38) h) fun r7 h5 =>
      if r7 ≠ 0 then (
        b2 (f_cCrypto_more y3 h5) fun r10 h8 =>
        if r10 ≤ 0 then (
          some (0, h8)
        ) else
        lt1 (hI h8 y3 4) fun y11 =>
        lt1 (sI h8 y3 4 (w32 ((hI h8 y3 4) + r10))) fun h12 =>
        if hR h12 v0 7 = 0 then none else
        b2 (f_cGreeting_take (hR h12 v0 7) v1 (hR h12 y3 2) y11 r10 h12) fun r16 h14 =>
        b1 (f_cSide_follow v0 h14) fun h17 =>
        some (0, h17)
      ) else
      some (13, h5)
    else none
  ) else
  if hR h v0 38 = 0 then none else
  if (w64 ((hJ h (hR h v0 38) 3) + (hI h (hR h v0 38) 9))) ≤ 0 then (
    some (0, h)
  ) else
  some (266, h)
def f_cSide_drains_b24 (v0 : Nat) (v1 : Nat) (s0 : Nat) (s1 : Int) (h : Hp) : Option (Hp) :=
  if v1 = 0 then none else
  if s0 = 0 then none else
  lt1 (sI h s0 2 (w32 (s1 + (w32 (min (hJ h v1 2) 9999))))) fun h5 =>
  if hR h5 v0 9 = 0 then none else
  b2 (f_cSide_patience v0 h5) fun r9 h7 =>
  lt1 (sI h7 v0 22 (w32 ((hI h5 (hR h5 v0 9) 3) + (w32 (3 * r9))))) fun h10 =>
  some h10
def f_cSide_drains (v0 : Nat) (v1 : Nat) (h : Hp) : Option (Hp) :=
  lt1 (sI h v0 1 4) fun h1 =>
  if v1 = 0 then none else
  if (hI h1 v1 0) ≠ 28 then (
    f_cSide_drains_b24 v0 v1 v0 20000 h1
  ) else
  f_cSide_drains_b24 v0 v1 v0 10000 h1
def f_cHall_allowed_b70 (v0 : Nat) (h : Hp) : Option (Int × Hp) :=
  some (5, h)
def f_cHall_allowed_b58 (v0 : Nat) (v1 : Int) (v4 : Int) (s0 : Int) (h : Hp) : Option (Int × Hp) :=
  if v4 = 0 then (
    f_cHall_allowed_b70 v0 h
  ) else
  if s0 ≠ 0 then (
    b2 (f_cHall_isOwn v0 v1 h) fun r16 h14 =>
    if r16 ≠ 0 then (
      some (0, h14)
    ) else
    b2 (f_cHall_way v0 v1 h14) fun r19 h17 =>
    if r19 = 0 then none else
    if (lDiv v1 4) < (hI h17 r19 2) then (
      some (0, h17)
    ) else
    some (4, h17)
  ) else
  f_cHall_allowed_b70 v0 h
def f_cHall_allowed_b53 (v0 : Nat) (v1 : Int) (v4 : Int) (h : Hp) : Option (Int × Hp) :=
  f_cHall_allowed_b58 v0 v1 v4 1 h
def f_cHall_allowed_b35 (v0 : Nat) (v1 : Int) (v3 : Int) (s0 : Int) (h : Hp) : Option (Int × Hp) :=
  b2 (f_cHall_isOneWay v1 h) fun r10 h8 =>
  if r10 = 0 then (
    f_cHall_allowed_b53 v0 v1 s0 h8
  ) else
  b2 (f_cHall_isOwn v0 v1 h8) fun r13 h11 =>
  if r13 ≠ v3 then (
    f_cHall_allowed_b58 v0 v1 s0 0 h11
  ) else
  f_cHall_allowed_b53 v0 v1 s0 h11
def f_cHall_allowed (v0 : Nat) (v1 : Int) (v3 : Int) (h : Hp) : Option (Int × Hp) :=
  b2 (f_cHall_isOwn v0 v1 h) fun r3 h1 =>
  if r3 = 0 then (
    f_cHall_allowed_b35 v0 v1 v3 1 h1
  ) else
  b2 (f_cHall_way v0 v1 h1) fun r6 h4 =>
  if r6 = 0 then none else
  if (hI h4 r6 0) ≤ (lDiv v1 4) then (
    f_cHall_allowed_b35 v0 v1 v3 0 h4
  ) else
  f_cHall_allowed_b35 v0 v1 v3 1 h4
def f_cHall_fits_b141 (v0 : Nat) (h : Hp) : Option (Int × Hp) :=
  some (3, h)
def f_cHall_fits_b107 (v0 : Nat) (v2 : Int) (v6 : Int) (s0 : Int) (h : Hp) : Option (Int × Hp) :=
  if s0 < v2 then (
    f_cHall_fits_b141 v0 h
  ) else
  if (w64 ((hI h v0 12) + (max (w64 (v2 - v6)) 0))) ≤ (hI h v0 14) then (
    some (0, h)
  ) else
  f_cHall_fits_b141 v0 h
def f_cHall_fits_b82 (v0 : Nat) (v1 : Int) (v2 : Int) (v5 : Nat) (v6 : Int) (h : Hp) : Option (Int × Hp) :=
  if v5 ≠ 0 then (
    if v5 = 0 then none else
    f_cHall_fits_b107 v0 v2 v6 (hI h v5 6) h
  ) else
  b2 (f_cHall_rule v0 v1 0 h) fun r9 h7 =>
  if hR h v0 4 = 0 then none else
  if ix r9 (ln h7 (hR h v0 4)) then
    f_cHall_fits_b107 v0 v2 v6 (hI h7 (hR h v0 4) r9.toNat) h7
  else none
def f_cHall_fits_b66 (v0 : Nat) (v1 : Int) (v2 : Int) (v4 : Int) (v5 : Nat) (v6 : Int) (h : Hp) : Option (Int × Hp) :=
  if v4 = 0 then (
    f_cHall_fits_b82 v0 v1 v2 v5 v6 h
  ) else
  if v6 ≤ v2 then (
    f_cHall_fits_b82 v0 v1 v2 v5 v6 h
  ) else
  some (6, h)
def f_cHall_fits_b38 (v0 : Nat) (v1 : Int) (v2 : Int) (v4 : Int) (v5 : Nat) (v6 : Int) (s0 : Int) (h : Hp) : Option (Int × Hp) :=
  if s0 < 0 then (
    f_cHall_fits_b66 v0 v1 v2 v4 v5 v6 h
  ) else
  if s0 < v2 then (
    some (6, h)
  ) else
  if v4 = 0 then (
    f_cHall_fits_b66 v0 v1 v2 v4 v5 v6 h
  ) else
  if v2 ≠ s0 then (
    some (6, h)
  ) else
  f_cHall_fits_b66 v0 v1 v2 v4 v5 v6 h
def f_cHall_fits_b22 (v0 : Nat) (v1 : Int) (v2 : Int) (v4 : Int) (v5 : Nat) (s0 : Int) (h : Hp) : Option (Int × Hp) :=
  if v5 ≠ 0 then (
    if v5 = 0 then none else
    f_cHall_fits_b38 v0 v1 v2 v4 v5 s0 (hI h v5 5) h
  ) else
  f_cHall_fits_b38 v0 v1 v2 v4 v5 s0 (-1) h
def f_cHall_fits (v0 : Nat) (v1 : Int) (v2 : Int) (v4 : Int) (h : Hp) : Option (Int × Hp) :=
  if hR h v0 2 = 0 then none else
  if ix v1 (ln h (hR h v0 2)) then
    lt1 (hR h (hR h v0 2) v1.toNat) fun y3 =>
    if y3 ≠ 0 then (
      if y3 = 0 then none else
      f_cHall_fits_b22 v0 v1 v2 v4 y3 (hI h y3 4) h
    ) else
    f_cHall_fits_b22 v0 v1 v2 v4 y3 0 h
  else none
def f_cHall_come_b7 (k7 : Nat → Int → Nat → Hp → Option (Hp)) (v0 : Nat) (v1 : Int) (v2 : Nat) (h : Hp) : Option (Hp) :=
  if v2 = 0 then none else
  if (iDiv v1 4) < (hI h v2 1) then (
    some h
  ) else
  b1 (f_cHall_begin v0 (w32 ((w32 (4 * (hI h v2 1))) + (iRem v1 4))) h) fun h5 =>
  lt1 (sI h5 v2 1 (w32 ((hI h5 v2 1) + 1))) fun h7 =>
  k7 v0 v1 v2 h7
def f_cHall_come_b7_lp : Nat → Nat → Int → Nat → Hp → Option (Hp)
  | 0, _, _, _, _ => none
  | n + 1, v0, v1, v2, h => f_cHall_come_b7 (f_cHall_come_b7_lp n) v0 v1 v2 h
def f_cHall_come (v0 : Nat) (v1 : Int) (h : Hp) : Option (Hp) :=
  b2 (f_cHall_way v0 v1 h) fun r3 h1 =>
  f_cHall_come_b7_lp FU v0 v1 r3 h1
def f_cHall_reach (v0 : Nat) (v1 : Nat) (v2 : Int) (h : Hp) : Option (Hp) :=
  if v1 = 0 then none else
  lt1 (sI h v0 12 (w32 ((hI h v0 12) + (max (w32 (v2 - (hI h v1 4))) 0)))) fun h2 =>
  lt1 (sI h2 v1 4 (max (hI h2 v1 4) v2)) fun h3 =>
  some h3
def f_jArrays_copyOf_ABI (v0 : Nat) (v1 : Int) (h : Hp) : Option (Nat × Hp) :=
  if v0 = 0 then none else
  if v1 ≠ (ln h v0 : Int) then (
    if (0 : Int) ≤ v1 ∧ hN h + 1 ≤ CN ∧ hZ h + v1.toNat ≤ CZ then
      lt1 (nwC h 102 v1.toNat v1.toNat) fun h3 =>
      lt1 (hN h) fun y5 =>
      if cpk 0 0 (min (ln h3 v0 : Int) v1) (ln h3 v0) (ln h3 y5) then
        lt1 (cpI h3 v0 (Int.toNat 0) y5 (Int.toNat 0) ((min (ln h3 v0 : Int) v1).toNat)) fun h8 =>
        some (y5, h8)
      else none
    else none
  ) else
  none
def f_jArrays_copyOf_AJI (v0 : Nat) (v1 : Int) (h : Hp) : Option (Nat × Hp) :=
  if v0 = 0 then none else
  if v1 ≠ (ln h v0 : Int) then (
    if (0 : Int) ≤ v1 ∧ hN h + 1 ≤ CN ∧ hZ h + v1.toNat ≤ CZ then
      lt1 (nwC h 105 v1.toNat v1.toNat) fun h3 =>
      lt1 (hN h) fun y5 =>
      if cpk 0 0 (min (ln h3 v0 : Int) v1) (ln h3 v0) (ln h3 y5) then
        lt1 (cpJ h3 v0 (Int.toNat 0) y5 (Int.toNat 0) ((min (ln h3 v0 : Int) v1).toNat)) fun h8 =>
        some (y5, h8)
      else none
    else none
  ) else
  none
def f_cBlocks_make_b118 (v0 : Nat) (v1 : Int) (v2 : Int) (v3 : Int) (h : Hp) : Option (Int × Hp) :=
  if hR h v0 1 = 0 then none else
  if ix v3 (ln h (hR h v0 1)) then
    lt1 (sJ h (hR h v0 1) v3.toNat 0) fun h26 =>
    if hR h26 v0 2 = 0 then none else
    if ix v3 (ln h26 (hR h26 v0 2)) then
      lt1 (sI h26 (hR h26 v0 2) v3.toNat v1) fun h29 =>
      if hR h29 v0 3 = 0 then none else
      if ix v3 (ln h29 (hR h29 v0 3)) then
        lt1 (sI h29 (hR h29 v0 3) v3.toNat v2) fun h32 =>
        some (v3, h32)
      else none
    else none
  else none
def f_cBlocks_make_b106 (v0 : Nat) (v1 : Int) (v2 : Int) (h : Hp) : Option (Int × Hp) :=
  lt1 (sI h v0 4 (w32 ((hI h v0 4) + 1))) fun h22 =>
  lt1 (hI h v0 4) fun y23 =>
  f_cBlocks_make_b118 v0 v1 v2 y23 h22
def f_cBlocks_make (v0 : Nat) (v1 : Int) (v2 : Int) (h : Hp) : Option (Int × Hp) :=
  lt1 (hI h v0 5) fun y1 =>
  if y1 = (-1) then (
    if hR h v0 1 = 0 then none else
    if (hI h v0 4) ≠ (ln h (hR h v0 1) : Int) then (
      f_cBlocks_make_b106 v0 v1 v2 h
    ) else
    b2 (f_jArrays_copyOf_ABI (hR h v0 0) (w32 ((w32 (2 * (hI h v0 4))) * 64)) h) fun r5 h3 =>
    lt1 (sR h3 v0 0 r5) fun h6 =>
    b2 (f_jArrays_copyOf_AJI (hR h6 v0 1) (w32 (2 * (hI h6 v0 4))) h6) fun r9 h7 =>
    lt1 (sR h7 v0 1 r9) fun h10 =>
    b2 (f_jArrays_copyOf_AII (hR h10 v0 2) (w32 (2 * (hI h10 v0 4))) h10) fun r13 h11 =>
    lt1 (sR h11 v0 2 r13) fun h14 =>
    b2 (f_jArrays_copyOf_AII (hR h14 v0 3) (w32 (2 * (hI h14 v0 4))) h14) fun r17 h15 =>
    lt1 (sR h15 v0 3 r17) fun h18 =>
    f_cBlocks_make_b106 v0 v1 v2 h18
  ) else
  if hR h v0 3 = 0 then none else
  if ix y1 (ln h (hR h v0 3)) then
    lt1 (sI h v0 5 (hI h (hR h v0 3) y1.toNat)) fun h21 =>
    f_cBlocks_make_b118 v0 v1 v2 y1 h21
  else none
def f_cBlocks_block_b60 (v0 : Nat) (v1 : Nat) (v2 : Int) (v3 : Int) (v4 : Int) (h : Hp) : Option (Int × Hp) :=
  b2 (f_cBlocks_make v0 v2 v4 h) fun r12 h10 =>
  if v3 ≠ (-1) then (
    if hR h10 v0 3 = 0 then none else
    if ix v3 (ln h10 (hR h10 v0 3)) then
      lt1 (sI h10 (hR h10 v0 3) v3.toNat r12) fun h15 =>
      some (r12, h15)
    else none
  ) else
  if v1 = 0 then none else
  lt1 (sI h10 v1 7 r12) fun h17 =>
  some (r12, h17)
def f_cBlocks_block_b40 (v0 : Nat) (v1 : Nat) (v2 : Int) (v3 : Int) (v4 : Int) (h : Hp) : Option (Int × Hp) :=
  if v4 = (-1) then (
    f_cBlocks_block_b60 v0 v1 v2 v3 v4 h
  ) else
  if hR h v0 2 = 0 then none else
  if ix v4 (ln h (hR h v0 2)) then
    if (hI h (hR h v0 2) v4.toNat) ≠ v2 then (
      f_cBlocks_block_b60 v0 v1 v2 v3 v4 h
    ) else
    some (v4, h)
  else none
def f_cBlocks_block_b8 (k8 : Nat → Nat → Int → Int → Int → Hp → Option (Int × Hp)) (v0 : Nat) (v1 : Nat) (v2 : Int) (v3 : Int) (v4 : Int) (h : Hp) : Option (Int × Hp) :=
  if v4 = (-1) then (
    f_cBlocks_block_b40 v0 v1 v2 v3 v4 h
  ) else
  if hR h v0 2 = 0 then none else
  if ix v4 (ln h (hR h v0 2)) then
    if v2 ≤ (hI h (hR h v0 2) v4.toNat) then (
      f_cBlocks_block_b40 v0 v1 v2 v3 v4 h
    ) else
    if hR h v0 3 = 0 then none else
    if ix v4 (ln h (hR h v0 3)) then
      lt1 (hI h (hR h v0 3) v4.toNat) fun y7 =>
      k8 v0 v1 v2 v4 y7 h
    else none
  else none
def f_cBlocks_block_b8_lp : Nat → Nat → Nat → Int → Int → Int → Hp → Option (Int × Hp)
  | 0, _, _, _, _, _, _ => none
  | n + 1, v0, v1, v2, v3, v4, h => f_cBlocks_block_b8 (f_cBlocks_block_b8_lp n) v0 v1 v2 v3 v4 h
def f_cBlocks_block (v0 : Nat) (v1 : Nat) (v2 : Int) (h : Hp) : Option (Int × Hp) :=
  if v1 = 0 then none else
  lt1 (hI h v1 7) fun y2 =>
  f_cBlocks_block_b8_lp FU v0 v1 v2 (-1) y2 h
def f_cBlocks_put_b222 (k136 : Nat → Nat → Int → Hp → Option (Hp)) (v0 : Nat) (v1 : Nat) (s0 : Int) (h : Hp) : Option (Hp) :=
  k136 v0 v1 s0 h
def f_cBlocks_put_b194 (k136 : Nat → Nat → Int → Hp → Option (Hp)) (v0 : Nat) (v1 : Nat) (v6 : Int) (h : Hp) : Option (Hp) :=
  if hR h v0 2 = 0 then none else
  if ix v6 (ln h (hR h v0 2)) then
    if v1 = 0 then none else
    if (iDiv (hI h v1 3) 64) ≤ (hI h (hR h v0 2) v6.toNat) then (
      f_cBlocks_put_b222 k136 v0 v1 (-1) h
    ) else
    if hR h v0 3 = 0 then none else
    if ix v6 (ln h (hR h v0 3)) then
      f_cBlocks_put_b222 k136 v0 v1 (hI h (hR h v0 3) v6.toNat) h
    else none
  else none
def f_cBlocks_put_b142 (k136 : Nat → Nat → Int → Hp → Option (Hp)) (k142 : Nat → Nat → Int → Hp → Option (Hp)) (v0 : Nat) (v1 : Nat) (v6 : Int) (h : Hp) : Option (Hp) :=
  if hR h v0 2 = 0 then none else
  if ix v6 (ln h (hR h v0 2)) then
    if v1 = 0 then none else
    if (hI h (hR h v0 2) v6.toNat) ≠ (iDiv (hI h v1 3) 64) then (
      f_cBlocks_put_b194 k136 v0 v1 v6 h
    ) else
    if hR h v0 1 = 0 then none else
    if ix v6 (ln h (hR h v0 1)) then
      if (lAnd (lShr (hJ h (hR h v0 1) v6.toNat) (iRem (hI h v1 3) 64)) 1) ≠ 1 then (
        f_cBlocks_put_b194 k136 v0 v1 v6 h
      ) else
      lt1 (sI h v1 3 (w32 ((hI h v1 3) + 1))) fun h27 =>
      k142 v0 v1 v6 h27
    else none
  else none
def f_cBlocks_put_b142_lp (k136 : Nat → Nat → Int → Hp → Option (Hp)) : Nat → Nat → Nat → Int → Hp → Option (Hp)
  | 0, _, _, _, _ => none
  | n + 1, v0, v1, v6, h => f_cBlocks_put_b142 k136 (f_cBlocks_put_b142_lp k136 n) v0 v1 v6 h
def f_cBlocks_put_b136 (k136 : Nat → Nat → Int → Hp → Option (Hp)) (v0 : Nat) (v1 : Nat) (v6 : Int) (h : Hp) : Option (Hp) :=
  if v6 = (-1) then (
    some h
  ) else
  f_cBlocks_put_b142_lp k136 FU v0 v1 v6 h
def f_cBlocks_put_b136_lp : Nat → Nat → Nat → Int → Hp → Option (Hp)
  | 0, _, _, _, _ => none
  | n + 1, v0, v1, v6, h => f_cBlocks_put_b136 (f_cBlocks_put_b136_lp n) v0 v1 v6 h
def f_cBlocks_put_b124 (k15 : Nat → Nat → Int → Nat → Int → Int → Int → Int → Hp → Option (Hp)) (v0 : Nat) (v1 : Nat) (v2 : Int) (v3 : Nat) (v4 : Int) (v5 : Int) (v6 : Int) (v7 : Int) (h : Hp) : Option (Hp) :=
  k15 v0 v1 v2 v3 v4 v5 v6 (w32 (v7 + 1)) h
def f_cBlocks_put_b61 (k15 : Nat → Nat → Int → Nat → Int → Int → Int → Int → Hp → Option (Hp)) (v0 : Nat) (v1 : Nat) (v2 : Int) (v3 : Nat) (v4 : Int) (v5 : Int) (v6 : Int) (v7 : Int) (v8 : Int) (h : Hp) : Option (Hp) :=
  if hR h v0 1 = 0 then none else
  if ix v6 (ln h (hR h v0 1)) then
    if (lAnd (lShr (hJ h (hR h v0 1) v6.toNat) (iRem v8 64)) 1) ≠ 1 then (
      if v3 = 0 then none else
      if ix (w32 (v4 + v7)) (ln h v3) then
        if hR h v0 0 = 0 then none else
        if ix (w32 ((w32 (v6 * 64)) + (iRem v8 64))) (ln h (hR h v0 0)) then
          lt1 (sI h (hR h v0 0) ((w32 ((w32 (v6 * 64)) + (iRem v8 64))).toNat) (i8 (hI h v3 ((w32 (v4 + v7)).toNat)))) fun h17 =>
          if hR h17 v0 1 = 0 then none else
          if ix v6 (ln h17 (hR h17 v0 1)) then
            if ix v6 (ln h17 (hR h17 v0 1)) then
              lt1 (sJ h17 (hR h17 v0 1) v6.toNat (lOr (hJ h17 (hR h17 v0 1) v6.toNat) (lShl 1 (iRem v8 64)))) fun h21 =>
              f_cBlocks_put_b124 k15 v0 v1 v2 v3 v4 v5 v6 v7 h21
            else none
          else none
        else none
      else none
    ) else
    f_cBlocks_put_b124 k15 v0 v1 v2 v3 v4 v5 v6 v7 h
  else none
def f_cBlocks_put_b49 (k15 : Nat → Nat → Int → Nat → Int → Int → Int → Int → Hp → Option (Hp)) (v0 : Nat) (v1 : Nat) (v2 : Int) (v3 : Nat) (v4 : Int) (v5 : Int) (v7 : Int) (v8 : Int) (h : Hp) : Option (Hp) :=
  b2 (f_cBlocks_block v0 v1 (iDiv v8 64) h) fun r10 h8 =>
  f_cBlocks_put_b61 k15 v0 v1 v2 v3 v4 v5 r10 v7 v8 h8
def f_cBlocks_put_b15 (k15 : Nat → Nat → Int → Nat → Int → Int → Int → Int → Hp → Option (Hp)) (v0 : Nat) (v1 : Nat) (v2 : Int) (v3 : Nat) (v4 : Int) (v5 : Int) (v6 : Int) (v7 : Int) (h : Hp) : Option (Hp) :=
  if v5 ≤ v7 then (
    if v1 = 0 then none else
    lt1 (hI h v1 7) fun y4 =>
    f_cBlocks_put_b136_lp FU v0 v1 y4 h
  ) else
  lt1 (w32 (v2 + v7)) fun y5 =>
  if v6 = (-1) then (
    f_cBlocks_put_b49 k15 v0 v1 v2 v3 v4 v5 v7 y5 h
  ) else
  if hR h v0 2 = 0 then none else
  if ix v6 (ln h (hR h v0 2)) then
    if (hI h (hR h v0 2) v6.toNat) = (iDiv y5 64) then (
      f_cBlocks_put_b61 k15 v0 v1 v2 v3 v4 v5 v6 v7 y5 h
    ) else
    f_cBlocks_put_b49 k15 v0 v1 v2 v3 v4 v5 v7 y5 h
  else none
def f_cBlocks_put_b15_lp : Nat → Nat → Nat → Int → Nat → Int → Int → Int → Int → Hp → Option (Hp)
  | 0, _, _, _, _, _, _, _, _, _ => none
  | n + 1, v0, v1, v2, v3, v4, v5, v6, v7, h => f_cBlocks_put_b15 (f_cBlocks_put_b15_lp n) v0 v1 v2 v3 v4 v5 v6 v7 h
def f_cBlocks_put (v0 : Nat) (v1 : Nat) (v2 : Int) (v3 : Nat) (v4 : Int) (v5 : Int) (h : Hp) : Option (Hp) :=
  if v1 = 0 then none else
  lt1 (max (w32 ((hI h v1 3) - v2)) 0) fun y2 =>
  f_cBlocks_put_b15_lp FU v0 v1 v2 v3 v4 v5 (-1) y2 h
def f_cHall_comes_b21 (v0 : Nat) (v1 : Nat) (v2 : Int) (v4 : Nat) (v5 : Int) (v6 : Int) (h : Hp) : Option (Hp) :=
  if v1 = 0 then none else
  b2 (f_cReceiving_isLive v1 h) fun r8 h6 =>
  if r8 ≠ 0 then (
    if hR h6 v0 8 = 0 then none else
    b1 (f_cBlocks_put (hR h6 v0 8) v1 v2 v4 v5 v6 h6) fun h10 =>
    b1 (f_cReceiving_settle v1 h10) fun h12 =>
    some h12
  ) else
  some h6
def f_cHall_comes (v0 : Nat) (v1 : Nat) (v2 : Int) (v3 : Int) (v4 : Nat) (v5 : Int) (v6 : Int) (h : Hp) : Option (Hp) :=
  b1 (f_cHall_reach v0 v1 (w32 (v2 + v6)) h) fun h1 =>
  if v3 = 0 then (
    f_cHall_comes_b21 v0 v1 v2 v4 v5 v6 h1
  ) else
  if v1 = 0 then none else
  lt1 (sI h1 v1 5 (w32 (v2 + v6))) fun h4 =>
  f_cHall_comes_b21 v0 v1 v2 v4 v5 v6 h4
def f_cBlocks_clear_b0 (k0 : Nat → Nat → Hp → Option (Hp)) (v0 : Nat) (v1 : Nat) (h : Hp) : Option (Hp) :=
  if v1 = 0 then none else
  if (hI h v1 7) = (-1) then (
    some h
  ) else
  b1 (f_cBlocks_drop v0 v1 h) fun h2 =>
  k0 v0 v1 h2
def f_cBlocks_clear_b0_lp : Nat → Nat → Nat → Hp → Option (Hp)
  | 0, _, _, _ => none
  | n + 1, v0, v1, h => f_cBlocks_clear_b0 (f_cBlocks_clear_b0_lp n) v0 v1 h
def f_cBlocks_clear (v0 : Nat) (v1 : Nat) (h : Hp) : Option (Hp) :=
  f_cBlocks_clear_b0_lp FU v0 v1 h
def f_cHall_isReset (v0 : Nat) (v1 : Nat) (v2 : Int) (v4 : Int) (h : Hp) : Option (Hp) :=
  b1 (f_cHall_reach v0 v1 v4 h) fun h1 =>
  if v1 = 0 then none else
  b2 (f_cReceiving_isLive v1 h1) fun r6 h4 =>
  if r6 ≠ 0 then (
    lt1 (sI h4 v1 1 4) fun h7 =>
    lt1 (sJ h7 v1 8 v2) fun h8 =>
    lt1 (sI h8 v1 5 v4) fun h9 =>
    lt1 (sI h9 v0 13 (w32 ((hI h9 v0 13) + (w32 (v4 - (hI h9 v1 2)))))) fun h10 =>
    if hR h10 v0 8 = 0 then none else
    b1 (f_cBlocks_clear (hR h10 v0 8) v1 h10) fun h12 =>
    b1 (f_cHall_grow_ v0 h12) fun h14 =>
    some h14
  ) else
  some h4
def f_cHall_take_b329 (v0 : Nat) (v12 : Int) (v13 : Int) (h : Hp) : Option (Int × Hp) :=
  b1 (f_cHall_mayBeOver v0 v12 v13 h) fun h49 =>
  some (0, h49)
def f_cHall_take_b308 (v0 : Nat) (v1 : Int) (v4 : Int) (v6 : Int) (v12 : Int) (v13 : Int) (h : Hp) : Option (Int × Hp) :=
  if v1 ≠ 4 then (
    f_cHall_take_b329 v0 v12 v13 h
  ) else
  if hR h v0 2 = 0 then none else
  if ix v12 (ln h (hR h v0 2)) then
    b1 (f_cHall_isReset v0 (hR h (hR h v0 2) v12.toNat) v4 (w32 v6) h) fun h47 =>
    f_cHall_take_b329 v0 v12 v13 h47
  else none
def f_cHall_take_b299 (v0 : Nat) (v1 : Int) (v4 : Int) (v6 : Int) (v8 : Nat) (v9 : Int) (v10 : Int) (v12 : Int) (v13 : Int) (s0 : Nat) (s1 : Nat) (s2 : Int) (s3 : Int) (h : Hp) : Option (Int × Hp) :=
  if s0 = 0 then none else
  b1 (f_cHall_comes s0 s1 s2 s3 v8 v9 v10 h) fun h52 =>
  f_cHall_take_b308 v0 v1 v4 v6 v12 v13 h52
def f_cHall_take_b270 (v0 : Nat) (v1 : Int) (v4 : Int) (v6 : Int) (v8 : Nat) (v9 : Int) (v10 : Int) (v12 : Int) (v13 : Int) (h : Hp) : Option (Int × Hp) :=
  if v1 ≠ 8 then (
    f_cHall_take_b308 v0 v1 v4 v6 v12 v13 h
  ) else
  if hR h v0 2 = 0 then none else
  if ix v12 (ln h (hR h v0 2)) then
    if v6 ≠ 1 then (
      f_cHall_take_b299 v0 v1 v4 v6 v8 v9 v10 v12 v13 v0 (hR h (hR h v0 2) v12.toNat) (w32 v4) 0 h
    ) else
    f_cHall_take_b299 v0 v1 v4 v6 v8 v9 v10 v12 v13 v0 (hR h (hR h v0 2) v12.toNat) (w32 v4) 1 h
  else none
def f_cHall_take_b240 (v0 : Nat) (v1 : Int) (v4 : Int) (v6 : Int) (v8 : Nat) (v9 : Int) (v10 : Int) (v12 : Int) (v13 : Int) (h : Hp) : Option (Int × Hp) :=
  if v1 ≠ 5 then (
    f_cHall_take_b270 v0 v1 v4 v6 v8 v9 v10 v12 v13 h
  ) else
  if hR h v0 1 = 0 then none else
  if ix v12 (ln h (hR h v0 1)) then
    if hR h (hR h v0 1) v12.toNat = 0 then none else
    b2 (f_cSending_isLive (hR h (hR h v0 1) v12.toNat) h) fun r37 h35 =>
    if r37 = 0 then (
      f_cHall_take_b270 v0 v1 v4 v6 v8 v9 v10 v12 v13 h35
    ) else
    if hR h35 v0 1 = 0 then none else
    if ix v12 (ln h35 (hR h35 v0 1)) then
      if hR h35 (hR h35 v0 1) v12.toNat = 0 then none else
      b1 (f_cSending_reset (hR h35 (hR h35 v0 1) v12.toNat) v4 h35) fun h41 =>
      f_cHall_take_b270 v0 v1 v4 v6 v8 v9 v10 v12 v13 h41
    else none
  else none
def f_cHall_take_b201 (v0 : Nat) (v1 : Int) (v4 : Int) (v6 : Int) (v8 : Nat) (v9 : Int) (v10 : Int) (v12 : Int) (h : Hp) : Option (Int × Hp) :=
  b2 (f_cHall_isOver v0 v12 h) fun r26 h24 =>
  if v1 ≠ 17 then (
    f_cHall_take_b240 v0 v1 v4 v6 v8 v9 v10 v12 r26 h24
  ) else
  if hR h24 v0 1 = 0 then none else
  if ix v12 (ln h24 (hR h24 v0 1)) then
    if ix v12 (ln h24 (hR h24 v0 1)) then
      if hR h24 (hR h24 v0 1) v12.toNat = 0 then none else
      lt1 (sJ h24 (hR h24 (hR h24 v0 1) v12.toNat) 8 (max (hJ h24 (hR h24 (hR h24 v0 1) v12.toNat) 8) v4)) fun h31 =>
      f_cHall_take_b240 v0 v1 v4 v6 v8 v9 v10 v12 r26 h31
    else none
  else none
def f_cHall_take_b177 (v0 : Nat) (v1 : Int) (v4 : Int) (v6 : Int) (v8 : Nat) (v9 : Int) (v10 : Int) (v11 : Int) (v12 : Int) (h : Hp) : Option (Int × Hp) :=
  if v11 ≤ 0 then (
    b2 (f_cHall_isOwn v0 v12 h) fun r21 h19 =>
    if r21 ≠ 0 then (
      f_cHall_take_b201 v0 v1 v4 v6 v8 v9 v10 v12 h19
    ) else
    b1 (f_cHall_come v0 v12 h19) fun h22 =>
    f_cHall_take_b201 v0 v1 v4 v6 v8 v9 v10 v12 h22
  ) else
  some (v11, h)
def f_cHall_take_b161 (v0 : Nat) (v1 : Int) (v4 : Int) (v6 : Int) (v8 : Nat) (v9 : Int) (v10 : Int) (v11 : Int) (v12 : Int) (h : Hp) : Option (Int × Hp) :=
  if v1 ≠ 4 then (
    f_cHall_take_b177 v0 v1 v4 v6 v8 v9 v10 v11 v12 h
  ) else
  b2 (f_cHall_fits v0 v12 v6 1 h) fun r18 h16 =>
  f_cHall_take_b177 v0 v1 v4 v6 v8 v9 v10 r18 v12 h16
def f_cHall_take_b156 (v0 : Nat) (v1 : Int) (v4 : Int) (v6 : Int) (v8 : Nat) (v9 : Int) (v10 : Int) (v12 : Int) (s0 : Nat) (s1 : Int) (s2 : Int) (s3 : Int) (h : Hp) : Option (Int × Hp) :=
  if s0 = 0 then none else
  b2 (f_cHall_fits s0 s1 s2 s3 h) fun r15 h13 =>
  f_cHall_take_b161 v0 v1 v4 v6 v8 v9 v10 r15 v12 h13
def f_cHall_take_b112 (v0 : Nat) (v1 : Int) (v2 : Int) (v4 : Int) (v6 : Int) (v8 : Nat) (v9 : Int) (v10 : Int) (s0 : Nat) (s1 : Int) (s2 : Int) (h : Hp) : Option (Int × Hp) :=
  if s0 = 0 then none else
  b2 (f_cHall_allowed s0 s1 s2 h) fun r10 h8 =>
  if r10 ≤ 0 then (
    lt1 (w32 v2) fun y11 =>
    if v1 ≠ 8 then (
      f_cHall_take_b161 v0 v1 v4 v6 v8 v9 v10 r10 y11 h8
    ) else
    if v6 ≠ 1 then (
      f_cHall_take_b156 v0 v1 v4 v6 v8 v9 v10 y11 v0 y11 (w64 (v4 + v10)) 0 h8
    ) else
    f_cHall_take_b156 v0 v1 v4 v6 v8 v9 v10 y11 v0 y11 (w64 (v4 + v10)) 1 h8
  ) else
  some (r10, h8)
def f_cHall_take_b107 (v0 : Nat) (v1 : Int) (v2 : Int) (v4 : Int) (v6 : Int) (v8 : Nat) (v9 : Int) (v10 : Int) (s0 : Nat) (s1 : Int) (h : Hp) : Option (Int × Hp) :=
  f_cHall_take_b112 v0 v1 v2 v4 v6 v8 v9 v10 s0 s1 1 h
def f_cHall_take_b94 (v0 : Nat) (v1 : Int) (v2 : Int) (v4 : Int) (v6 : Int) (v8 : Nat) (v9 : Int) (v10 : Int) (h : Hp) : Option (Int × Hp) :=
  if v1 = 5 then (
    f_cHall_take_b107 v0 v1 v2 v4 v6 v8 v9 v10 v0 v2 h
  ) else
  if v1 ≠ 17 then (
    f_cHall_take_b112 v0 v1 v2 v4 v6 v8 v9 v10 v0 v2 0 h
  ) else
  f_cHall_take_b107 v0 v1 v2 v4 v6 v8 v9 v10 v0 v2 h
def f_cHall_take_b64 (v0 : Nat) (v1 : Int) (v2 : Int) (v4 : Int) (v6 : Int) (v8 : Nat) (v9 : Int) (v10 : Int) (h : Hp) : Option (Int × Hp) :=
  if v1 = 4 then (
    f_cHall_take_b94 v0 v1 v2 v4 v6 v8 v9 v10 h
  ) else
  if v1 = 5 then (
    f_cHall_take_b94 v0 v1 v2 v4 v6 v8 v9 v10 h
  ) else
  if v1 = 8 then (
    f_cHall_take_b94 v0 v1 v2 v4 v6 v8 v9 v10 h
  ) else
  if v1 = 17 then (
    f_cHall_take_b94 v0 v1 v2 v4 v6 v8 v9 v10 h
  ) else
  if v1 = 21 then (
    f_cHall_take_b94 v0 v1 v2 v4 v6 v8 v9 v10 h
  ) else
  some (0, h)
def f_cHall_take_b30 (v0 : Nat) (v1 : Int) (v2 : Int) (v4 : Int) (v6 : Int) (v8 : Nat) (v9 : Int) (v10 : Int) (h : Hp) : Option (Int × Hp) :=
  if hR h v0 3 = 0 then none else
  if ix (w32 (v1 - 18)) (ln h (hR h v0 3)) then
    if ix (w32 (v1 - 18)) (ln h (hR h v0 3)) then
      if hR h (hR h v0 3) ((w32 (v1 - 18)).toNat) = 0 then none else
      lt1 (sJ h (hR h (hR h v0 3) ((w32 (v1 - 18)).toNat)) 3 (max (hJ h (hR h (hR h v0 3) ((w32 (v1 - 18)).toNat)) 3) (min v2 64))) fun h6 =>
      f_cHall_take_b64 v0 v1 v2 v4 v6 v8 v9 v10 h6
    else none
  else none
def f_cHall_take_b18 (v0 : Nat) (v1 : Int) (v2 : Int) (v4 : Int) (v6 : Int) (v8 : Nat) (v9 : Int) (v10 : Int) (h : Hp) : Option (Int × Hp) :=
  if v1 = 18 then (
    f_cHall_take_b30 v0 v1 v2 v4 v6 v8 v9 v10 h
  ) else
  if v1 ≠ 19 then (
    f_cHall_take_b64 v0 v1 v2 v4 v6 v8 v9 v10 h
  ) else
  f_cHall_take_b30 v0 v1 v2 v4 v6 v8 v9 v10 h
def f_cHall_take (v0 : Nat) (v1 : Int) (v2 : Int) (v4 : Int) (v6 : Int) (v8 : Nat) (v9 : Int) (v10 : Int) (h : Hp) : Option (Int × Hp) :=
  if v1 ≠ 16 then (
    f_cHall_take_b18 v0 v1 v2 v4 v6 v8 v9 v10 h
  ) else
  lt1 (sJ h v0 9 (max (hJ h v0 9) v2)) fun h1 =>
  f_cHall_take_b18 v0 v1 v2 v4 v6 v8 v9 v10 h1
def f_cSide_frame_b228 (v0 : Nat) (h : Hp) : Option (Int × Hp) :=
  if hR h v0 38 = 0 then none else
  if hR h v0 11 = 0 then none else
  b2 (f_cHall_take (hR h v0 11) (hI h (hR h v0 38) 0) (hJ h (hR h v0 38) 2) (hJ h (hR h v0 38) 3) (hJ h (hR h v0 38) 4) (hR h (hR h v0 38) 7) (hI h (hR h v0 38) 8) (hI h (hR h v0 38) 9) h) fun r83 h81 =>
  some (r83, h81)
def f_cSide_frame_b218 (v0 : Nat) (h : Hp) : Option (Int × Hp) :=
  b1 (f_cSide_drains v0 (hR h v0 38) h) fun h77 =>
  some (0, h77)
def f_cSide_frame_b146 (v0 : Nat) (v1 : Int) (h : Hp) : Option (Int × Hp) :=
  b2 (f_cSide_acknowledged v0 v1 h) fun r76 h74 =>
  some (r76, h74)
def f_cSide_frame_b158 (v0 : Nat) (h : Hp) : Option (Int × Hp) :=
  if (hI h v0 0) ≠ 1 then (
    if hR h v0 38 = 0 then none else
    if (hI h (hR h v0 38) 0) ≠ 30 then (
      some (0, h)
    ) else
    if hR h v0 9 = 0 then none else
    if (hI h (hR h v0 9) 6) ≠ 0 then (
      some (0, h)
    ) else
    b1 (f_cSide_confirm v0 h) fun h72 =>
    some (0, h72)
  ) else
  some (10, h)
def f_cSide_frame (v0 : Nat) (v1 : Int) (h : Hp) : Option (Int × Hp) :=
  if hR h v0 38 = 0 then none else
  if hI h (hR h v0 38) 0 = 0 then (
    some (0, h)
  ) else
  if hI h (hR h v0 38) 0 = 1 then (
    some (0, h)
  ) else
  if hI h (hR h v0 38) 0 = 2 then (
    f_cSide_frame_b146 v0 v1 h
  ) else
  if hI h (hR h v0 38) 0 = 3 then (
    f_cSide_frame_b146 v0 v1 h
  ) else
  if hI h (hR h v0 38) 0 = 4 then (
    f_cSide_frame_b228 v0 h
  ) else
  if hI h (hR h v0 38) 0 = 5 then (
    f_cSide_frame_b228 v0 h
  ) else
  if hI h (hR h v0 38) 0 = 6 then (
    b2 (f_cSide_greets v0 v1 h) fun r18 h16 =>
    some (r18, h16)
  ) else
  if hI h (hR h v0 38) 0 = 7 then (
    f_cSide_frame_b158 v0 h
  ) else
  if hI h (hR h v0 38) 0 = 8 then (
    f_cSide_frame_b228 v0 h
  ) else
  if hI h (hR h v0 38) 0 = 9 then (
    f_cSide_frame_b228 v0 h
  ) else
  if hI h (hR h v0 38) 0 = 10 then (
    f_cSide_frame_b228 v0 h
  ) else
  if hI h (hR h v0 38) 0 = 11 then (
    f_cSide_frame_b228 v0 h
  ) else
  if hI h (hR h v0 38) 0 = 12 then (
    f_cSide_frame_b228 v0 h
  ) else
  if hI h (hR h v0 38) 0 = 13 then (
    f_cSide_frame_b228 v0 h
  ) else
  if hI h (hR h v0 38) 0 = 14 then (
    f_cSide_frame_b228 v0 h
  ) else
  if hI h (hR h v0 38) 0 = 15 then (
    f_cSide_frame_b228 v0 h
  ) else
  if hI h (hR h v0 38) 0 = 16 then (
    f_cSide_frame_b228 v0 h
  ) else
  if hI h (hR h v0 38) 0 = 17 then (
    f_cSide_frame_b228 v0 h
  ) else
  if hI h (hR h v0 38) 0 = 18 then (
    f_cSide_frame_b228 v0 h
  ) else
  if hI h (hR h v0 38) 0 = 19 then (
    f_cSide_frame_b228 v0 h
  ) else
  if hI h (hR h v0 38) 0 = 20 then (
    f_cSide_frame_b228 v0 h
  ) else
  if hI h (hR h v0 38) 0 = 21 then (
    f_cSide_frame_b228 v0 h
  ) else
  if hI h (hR h v0 38) 0 = 22 then (
    f_cSide_frame_b228 v0 h
  ) else
  if hI h (hR h v0 38) 0 = 23 then (
    f_cSide_frame_b228 v0 h
  ) else
  if hI h (hR h v0 38) 0 = 24 then (
    some (0, h)
  ) else
  if hI h (hR h v0 38) 0 = 25 then (
    some (10, h)
  ) else
  if hI h (hR h v0 38) 0 = 26 then (
    lt1 (sI h v0 17 1) fun h59 =>
    if hR h59 v0 38 = 0 then none else
    lt1 (sJ h59 v0 19 (hJ h59 (hR h59 v0 38) 2)) fun h61 =>
    some (0, h61)
  ) else
  if hI h (hR h v0 38) 0 = 27 then (
    some (0, h)
  ) else
  if hI h (hR h v0 38) 0 = 28 then (
    f_cSide_frame_b218 v0 h
  ) else
  if hI h (hR h v0 38) 0 = 29 then (
    f_cSide_frame_b218 v0 h
  ) else
  if hI h (hR h v0 38) 0 = 30 then (
    f_cSide_frame_b158 v0 h
  ) else
  f_cSide_frame_b228 v0 h
def f_cRanges_remove_b12 (k12 : Nat → Int → Hp → Option (Hp)) (v0 : Nat) (v2 : Int) (h : Hp) : Option (Hp) :=
  if (hI h v0 2) ≤ v2 then (
    some h
  ) else
  if hR h v0 0 = 0 then none else
  if ix (w32 (v2 + 1)) (ln h (hR h v0 0)) then
    if ix v2 (ln h (hR h v0 0)) then
      lt1 (sJ h (hR h v0 0) v2.toNat (hJ h (hR h v0 0) ((w32 (v2 + 1)).toNat))) fun h5 =>
      if hR h5 v0 1 = 0 then none else
      if ix (w32 (v2 + 1)) (ln h5 (hR h5 v0 1)) then
        if ix v2 (ln h5 (hR h5 v0 1)) then
          lt1 (sJ h5 (hR h5 v0 1) v2.toNat (hJ h5 (hR h5 v0 1) ((w32 (v2 + 1)).toNat))) fun h9 =>
          k12 v0 (w32 (v2 + 1)) h9
        else none
      else none
    else none
  else none
def f_cRanges_remove_b12_lp : Nat → Nat → Int → Hp → Option (Hp)
  | 0, _, _, _ => none
  | n + 1, v0, v2, h => f_cRanges_remove_b12 (f_cRanges_remove_b12_lp n) v0 v2 h
def f_cRanges_remove (v0 : Nat) (v1 : Int) (h : Hp) : Option (Hp) :=
  lt1 (sI h v0 2 (w32 ((hI h v0 2) - 1))) fun h1 =>
  f_cRanges_remove_b12_lp FU v0 v1 h1
def f_cRanges_insert_b6 (k6 : Nat → Int → Int → Int → Hp → Option (Hp)) (v0 : Nat) (v1 : Int) (v2 : Int) (v4 : Int) (h : Hp) : Option (Hp) :=
  if v4 ≤ v1 then (
    if hR h v0 0 = 0 then none else
    if ix v1 (ln h (hR h v0 0)) then
      lt1 (sJ h (hR h v0 0) v1.toNat v2) fun h4 =>
      if hR h4 v0 1 = 0 then none else
      if ix v1 (ln h4 (hR h4 v0 1)) then
        lt1 (sJ h4 (hR h4 v0 1) v1.toNat v2) fun h7 =>
        lt1 (sI h7 v0 2 (w32 ((hI h7 v0 2) + 1))) fun h8 =>
        some h8
      else none
    else none
  ) else
  if hR h v0 0 = 0 then none else
  if ix (w32 (v4 - 1)) (ln h (hR h v0 0)) then
    if ix v4 (ln h (hR h v0 0)) then
      lt1 (sJ h (hR h v0 0) v4.toNat (hJ h (hR h v0 0) ((w32 (v4 - 1)).toNat))) fun h12 =>
      if hR h12 v0 1 = 0 then none else
      if ix (w32 (v4 - 1)) (ln h12 (hR h12 v0 1)) then
        if ix v4 (ln h12 (hR h12 v0 1)) then
          lt1 (sJ h12 (hR h12 v0 1) v4.toNat (hJ h12 (hR h12 v0 1) ((w32 (v4 - 1)).toNat))) fun h16 =>
          k6 v0 v1 v2 (w32 (v4 + (-1))) h16
        else none
      else none
    else none
  else none
def f_cRanges_insert_b6_lp : Nat → Nat → Int → Int → Int → Hp → Option (Hp)
  | 0, _, _, _, _, _ => none
  | n + 1, v0, v1, v2, v4, h => f_cRanges_insert_b6 (f_cRanges_insert_b6_lp n) v0 v1 v2 v4 h
def f_cRanges_insert (v0 : Nat) (v1 : Int) (v2 : Int) (h : Hp) : Option (Hp) :=
  lt1 (hI h v0 2) fun y1 =>
  f_cRanges_insert_b6_lp FU v0 v1 v2 y1 h
def f_cRanges_add_b92 (v0 : Nat) (v1 : Int) (v3 : Int) (v4 : Int) (v5 : Int) (h : Hp) : Option (Hp) :=
  if v4 = 0 then (
    if v5 = 0 then (
      b1 (f_cRanges_insert v0 v3 v1 h) fun h14 =>
      if (hI h14 v0 2) ≤ 64 then (
        some h14
      ) else
      lt1 (sI h14 v0 2 (w32 ((hI h14 v0 2) - 1))) fun h16 =>
      if hR h16 v0 1 = 0 then none else
      if ix (hI h16 v0 2) (ln h16 (hR h16 v0 1)) then
        lt1 (sJ h16 v0 3 (w64 ((hJ h16 (hR h16 v0 1) ((hI h16 v0 2).toNat)) + 1))) fun h19 =>
        some h19
      else none
    ) else
    if hR h v0 1 = 0 then none else
    if ix v3 (ln h (hR h v0 1)) then
      lt1 (sJ h (hR h v0 1) v3.toNat v1) fun h22 =>
      some h22
    else none
  ) else
  if hR h v0 0 = 0 then none else
  if ix (w32 (v3 - 1)) (ln h (hR h v0 0)) then
    lt1 (sJ h (hR h v0 0) ((w32 (v3 - 1)).toNat) v1) fun h25 =>
    some h25
  else none
def f_cRanges_add_b58 (v0 : Nat) (v1 : Int) (v3 : Int) (v4 : Int) (s0 : Int) (h : Hp) : Option (Hp) :=
  if v4 = 0 then (
    f_cRanges_add_b92 v0 v1 v3 v4 s0 h
  ) else
  if s0 = 0 then (
    f_cRanges_add_b92 v0 v1 v3 v4 s0 h
  ) else
  if hR h v0 0 = 0 then none else
  if ix v3 (ln h (hR h v0 0)) then
    if ix (w32 (v3 - 1)) (ln h (hR h v0 0)) then
      lt1 (sJ h (hR h v0 0) ((w32 (v3 - 1)).toNat) (hJ h (hR h v0 0) v3.toNat)) fun h11 =>
      b1 (f_cRanges_remove v0 v3 h11) fun h12 =>
      some h12
    else none
  else none
def f_cRanges_add_b57 (v0 : Nat) (v1 : Int) (v3 : Int) (v4 : Int) (h : Hp) : Option (Hp) :=
  f_cRanges_add_b58 v0 v1 v3 v4 0 h
def f_cRanges_add_b30 (v0 : Nat) (v1 : Int) (v3 : Int) (s0 : Int) (h : Hp) : Option (Hp) :=
  if (hI h v0 2) ≤ v3 then (
    f_cRanges_add_b57 v0 v1 v3 s0 h
  ) else
  if hR h v0 1 = 0 then none else
  if ix v3 (ln h (hR h v0 1)) then
    if (hJ h (hR h v0 1) v3.toNat) ≠ (w64 (v1 - 1)) then (
      f_cRanges_add_b57 v0 v1 v3 s0 h
    ) else
    f_cRanges_add_b58 v0 v1 v3 s0 1 h
  else none
def f_cRanges_add_b29 (v0 : Nat) (v1 : Int) (v3 : Int) (h : Hp) : Option (Hp) :=
  f_cRanges_add_b30 v0 v1 v3 0 h
def f_cRanges_add (v0 : Nat) (v1 : Int) (h : Hp) : Option (Hp) :=
  b2 (f_cRanges_place v0 v1 h) fun r3 h1 =>
  if r3 ≤ 0 then (
    f_cRanges_add_b29 v0 v1 r3 h1
  ) else
  if hR h1 v0 0 = 0 then none else
  if ix (w32 (r3 - 1)) (ln h1 (hR h1 v0 0)) then
    if (hJ h1 (hR h1 v0 0) ((w32 (r3 - 1)).toNat)) ≠ (w64 (v1 + 1)) then (
      f_cRanges_add_b29 v0 v1 r3 h1
    ) else
    f_cRanges_add_b30 v0 v1 r3 1 h1
  else none
def f_cSpace_takes_b102 (v0 : Nat) (v2 : Int) (h : Hp) : Option (Int × Hp) :=
  if hR h v0 13 = 0 then none else
  b1 (f_cRanges_add (hR h v0 13) v2 h) fun h10 =>
  some (1, h10)
def f_cSpace_takes_b92 (v0 : Nat) (v2 : Int) (h : Hp) : Option (Int × Hp) :=
  lt1 (sI h v0 14 (w32 ((hI h v0 14) + 1))) fun h16 =>
  f_cSpace_takes_b102 v0 v2 h16
def f_cSpace_takes_b77 (v0 : Nat) (v1 : Int) (v2 : Int) (s0 : Nat) (s1 : Int) (h : Hp) : Option (Int × Hp) :=
  if s0 = 0 then none else
  if ¬ (s1 = 0 ∨ s1 = 1) then none else
  lt1 (sI h s0 17 s1) fun h13 =>
  if (hI h13 v0 14) ≠ 0 then (
    f_cSpace_takes_b92 v0 v2 h13
  ) else
  lt1 (sI h13 v0 15 v1) fun h15 =>
  f_cSpace_takes_b92 v0 v2 h15
def f_cSpace_takes_b72 (v0 : Nat) (v1 : Int) (v2 : Int) (s0 : Nat) (h : Hp) : Option (Int × Hp) :=
  f_cSpace_takes_b77 v0 v1 v2 s0 1 h
def f_cSpace_takes_b52 (v0 : Nat) (v1 : Int) (v2 : Int) (v4 : Int) (v5 : Int) (h : Hp) : Option (Int × Hp) :=
  if v4 = 0 then (
    f_cSpace_takes_b102 v0 v2 h
  ) else
  if (hI h v0 17) ≠ 0 then (
    f_cSpace_takes_b72 v0 v1 v2 v0 h
  ) else
  if v2 = v5 then (
    f_cSpace_takes_b77 v0 v1 v2 v0 0 h
  ) else
  f_cSpace_takes_b72 v0 v1 v2 v0 h
def f_cSpace_takes_b38 (v0 : Nat) (v1 : Int) (v2 : Int) (v4 : Int) (s0 : Int) (h : Hp) : Option (Int × Hp) :=
  if v2 < s0 then (
    f_cSpace_takes_b52 v0 v1 v2 v4 s0 h
  ) else
  lt1 (sI h v0 16 v1) fun h8 =>
  f_cSpace_takes_b52 v0 v1 v2 v4 s0 h8
def f_cSpace_takes (v0 : Nat) (v1 : Int) (v2 : Int) (v4 : Int) (h : Hp) : Option (Int × Hp) :=
  if hR h v0 13 = 0 then none else
  b2 (f_cRanges_has (hR h v0 13) v2 h) fun r4 h2 =>
  if r4 = 0 then (
    if hR h2 v0 13 = 0 then none else
    if (hI h2 (hR h2 v0 13) 2) ≠ 0 then (
      if hR h2 (hR h2 v0 13) 1 = 0 then none else
      if ix 0 (ln h2 (hR h2 (hR h2 v0 13) 1)) then
        f_cSpace_takes_b38 v0 v1 v2 v4 (w64 ((hJ h2 (hR h2 (hR h2 v0 13) 1) (Int.toNat 0)) + 1)) h2
      else none
    ) else
    f_cSpace_takes_b38 v0 v1 v2 v4 0 h2
  ) else
  some (0, h2)
def f_cSide_frames_b195 (k63 : Nat → Nat → Int → Int → Int → Int → Hp → Option (Hp)) (v0 : Nat) (v1 : Nat) (v2 : Int) (v3 : Int) (v5 : Int) (s0 : Int) (h : Hp) : Option (Hp) :=
  k63 v0 v1 v2 v3 v5 s0 h
def f_cSide_frames_b190 (k63 : Nat → Nat → Int → Int → Int → Int → Hp → Option (Hp)) (v0 : Nat) (v1 : Nat) (v2 : Int) (v3 : Int) (v5 : Int) (h : Hp) : Option (Hp) :=
  f_cSide_frames_b195 k63 v0 v1 v2 v3 v5 1 h
def f_cSide_frames_b154 (k63 : Nat → Nat → Int → Int → Int → Int → Hp → Option (Hp)) (v0 : Nat) (v1 : Nat) (v2 : Int) (v3 : Int) (v5 : Int) (v6 : Int) (h : Hp) : Option (Hp) :=
  if (hI h v0 1) ≤ 2 then (
    if v6 ≠ 0 then (
      f_cSide_frames_b190 k63 v0 v1 v2 v3 v5 h
    ) else
    if hR h v0 38 = 0 then none else
    if 3 < (hI h (hR h v0 38) 0) then (
      f_cSide_frames_b190 k63 v0 v1 v2 v3 v5 h
    ) else
    if (hI h (hR h v0 38) 0) ≠ 1 then (
      f_cSide_frames_b195 k63 v0 v1 v2 v3 v5 0 h
    ) else
    f_cSide_frames_b190 k63 v0 v1 v2 v3 v5 h
  ) else
  some h
def f_cSide_frames_b139 (k63 : Nat → Nat → Int → Int → Int → Int → Hp → Option (Hp)) (v0 : Nat) (v1 : Nat) (v2 : Int) (v3 : Int) (v5 : Int) (v6 : Int) (v8 : Int) (h : Hp) : Option (Hp) :=
  if v8 ≤ 0 then (
    f_cSide_frames_b154 k63 v0 v1 v2 v3 v5 v6 h
  ) else
  b1 (f_cSide_close v0 28 v8 v8 h) fun h28 =>
  f_cSide_frames_b154 k63 v0 v1 v2 v3 v5 v6 h28
def f_cSide_frames_b116 (k63 : Nat → Nat → Int → Int → Int → Int → Hp → Option (Hp)) (v0 : Nat) (v1 : Nat) (v2 : Int) (v3 : Int) (v6 : Int) (s0 : Int) (h : Hp) : Option (Hp) :=
  if hR h v0 35 = 0 then none else
  lt1 (hI h (hR h v0 35) 1) fun y24 =>
  if s0 ≠ 0 then (
    f_cSide_frames_b139 k63 v0 v1 v2 v3 y24 v6 s0 h
  ) else
  b2 (f_cSide_frame v0 v2 h) fun r27 h25 =>
  f_cSide_frames_b139 k63 v0 v1 v2 v3 y24 v6 r27 h25
def f_cSide_frames_b63 (k63 : Nat → Nat → Int → Int → Int → Int → Hp → Option (Hp)) (v0 : Nat) (v1 : Nat) (v2 : Int) (v3 : Int) (v5 : Int) (v6 : Int) (h : Hp) : Option (Hp) :=
  if v3 ≤ v5 then (
    if hR h v0 9 = 0 then none else
    if hR h (hR h v0 9) 0 = 0 then none else
    if ix v2 (ln h (hR h (hR h v0 9) 0)) then
      if hR h (hR h (hR h v0 9) 0) v2.toNat = 0 then none else
      if (hI h (hR h (hR h (hR h v0 9) 0) v2.toNat) 10) ≠ 0 then (
        some h
      ) else
      if ix v2 (ln h (hR h (hR h v0 9) 0)) then
        b2 (f_cSpace_takes (hR h (hR h (hR h v0 9) 0) v2.toNat) (hI h (hR h v0 9) 3) (hJ h v0 30) v6 h) fun r15 h13 =>
        some h13
      else none
    else none
  ) else
  if hR h v0 35 = 0 then none else
  b1 (f_cBytes_over (hR h v0 35) v1 v5 v3 h) fun h17 =>
  if hR h17 v0 38 = 0 then none else
  b2 (f_cFrame_read (hR h17 v0 38) (hR h17 v0 35) v2 h17) fun r22 h20 =>
  if r22 ≠ 4 then (
    if r22 ≤ 0 then (
      f_cSide_frames_b116 k63 v0 v1 v2 v3 v6 0 h20
    ) else
    f_cSide_frames_b116 k63 v0 v1 v2 v3 v6 7 h20
  ) else
  f_cSide_frames_b116 k63 v0 v1 v2 v3 v6 10 h20
def f_cSide_frames_b63_lp : Nat → Nat → Nat → Int → Int → Int → Int → Hp → Option (Hp)
  | 0, _, _, _, _, _, _, _ => none
  | n + 1, v0, v1, v2, v3, v5, v6, h => f_cSide_frames_b63 (f_cSide_frames_b63_lp n) v0 v1 v2 v3 v5 v6 h
def f_cSide_frames_b43 (v0 : Nat) (h : Hp) : Option (Hp) :=
  b1 (f_cSide_close v0 28 10 10 h) fun h6 =>
  some h6
def f_cSide_frames_b31 (v0 : Nat) (v1 : Nat) (v2 : Int) (v3 : Int) (s0 : Int) (s1 : Int) (h : Hp) : Option (Hp) :=
  if (iAnd s0 s1) ≠ 0 then (
    f_cSide_frames_b43 v0 h
  ) else
  if (hI h v0 29) ≠ v3 then (
    lt1 (hI h v0 29) fun y5 =>
    f_cSide_frames_b63_lp FU v0 v1 v2 v3 y5 0 h
  ) else
  f_cSide_frames_b43 v0 h
def f_cSide_frames (v0 : Nat) (v1 : Nat) (v2 : Int) (v3 : Int) (h : Hp) : Option (Hp) :=
  if hR h v0 37 = 0 then none else
  if v1 = 0 then none else
  if ix (hI h (hR h v0 37) 3) (ln h v1) then
    lt1 (hI h v1 ((hI h (hR h v0 37) 3).toNat)) fun y4 =>
    if (hI h (hR h v0 37) 0) ≠ 4 then (
      f_cSide_frames_b31 v0 v1 v2 v3 y4 12 h
    ) else
    f_cSide_frames_b31 v0 v1 v2 v3 y4 24 h
  else none
def f_cSide_packet_b129 (v0 : Nat) (v1 : Nat) (v3 : Int) (h : Hp) : Option (Hp) :=
  if hR h v0 6 = 0 then none else
  if ix v3 (ln h (hR h v0 6)) then
    if (hI h (hR h v0 6) v3.toNat) = 0 then (
      some h
    ) else
    if hR h v0 9 = 0 then none else
    if hR h (hR h v0 9) 0 = 0 then none else
    if ix v3 (ln h (hR h (hR h v0 9) 0)) then
      if hR h (hR h (hR h v0 9) 0) v3.toNat = 0 then none else
      if (hI h (hR h (hR h (hR h v0 9) 0) v3.toNat) 10) = 0 then (
        b2 (f_cSide_open v0 v1 v3 h) fun r20 h18 =>
        if 0 ≤ r20 then (
          b1 (f_cSide_opened v0 v1 v3 h18) fun h21 =>
          b1 (f_cSide_frames v0 v1 v3 r20 h21) fun h23 =>
          some h23
        ) else
        if (hI h18 v0 1) ≠ 0 then (
          some h18
        ) else
        b1 (f_cSide_forget v0 h18) fun h25 =>
        some h25
      ) else
      some h
    else none
  else none
def f_cSide_packet_b98 (v0 : Nat) (v1 : Nat) (v3 : Int) (h : Hp) : Option (Hp) :=
  b2 (f_cSide_isTo v0 v1 1 h) fun r8 h6 =>
  if r8 ≠ 0 then (
    f_cSide_packet_b129 v0 v1 v3 h6
  ) else
  if (hI h6 v0 0) ≠ 1 then (
    some h6
  ) else
  if v3 ≠ 0 then (
    some h6
  ) else
  b2 (f_cSide_isTo v0 v1 2 h6) fun r11 h9 =>
  if r11 ≠ 0 then (
    f_cSide_packet_b129 v0 v1 v3 h9
  ) else
  some h9
def f_cSide_packet_b62 (v0 : Nat) (v1 : Nat) (v3 : Int) (h : Hp) : Option (Hp) :=
  if (hI h v0 1) ≠ 0 then (
    f_cSide_packet_b98 v0 v1 v3 h
  ) else
  if 0 < v3 then (
    some h
  ) else
  if hR h v0 37 = 0 then none else
  if (hI h (hR h v0 37) 8) = 8 then (
    b1 (f_cSide_name v0 v1 (hI h (hR h v0 37) 7) h) fun h4 =>
    f_cSide_packet_b98 v0 v1 v3 h4
  ) else
  some h
def f_cSide_packet_b44 (v0 : Nat) (v1 : Nat) (v3 : Int) (h : Hp) : Option (Hp) :=
  if 2 ≤ v3 then (
    f_cSide_packet_b62 v0 v1 v3 h
  ) else
  if hR h v0 37 = 0 then none else
  if (hI h (hR h v0 37) 10) = 8 then (
    f_cSide_packet_b62 v0 v1 v3 h
  ) else
  some h
def f_cSide_packet_b24 (v0 : Nat) (v1 : Nat) (v2 : Int) (s0 : Int) (h : Hp) : Option (Hp) :=
  if s0 ≠ 0 then (
    f_cSide_packet_b44 v0 v1 s0 h
  ) else
  if (hI h v0 0) ≠ 1 then (
    f_cSide_packet_b44 v0 v1 s0 h
  ) else
  if v2 < 1200 then (
    some h
  ) else
  f_cSide_packet_b44 v0 v1 s0 h
def f_cSide_packet (v0 : Nat) (v1 : Nat) (v2 : Int) (h : Hp) : Option (Hp) :=
  if hR h v0 37 = 0 then none else
  if (hI h (hR h v0 37) 0) ≠ 4 then (
    f_cSide_packet_b24 v0 v1 v2 (iDiv (hI h (hR h v0 37) 0) 2) h
  ) else
  f_cSide_packet_b24 v0 v1 v2 2 h
def f_cSide_comes_b86 (v0 : Nat) (s0 : Nat) (s1 : Int) (h : Hp) : Option (Hp) :=
  if s0 = 0 then none else
  if ¬ (s1 = 0 ∨ s1 = 1) then none else
  lt1 (sI h s0 18 s1) fun h4 =>
  some h4
def f_cSide_comes_b81 (v0 : Nat) (s0 : Nat) (h : Hp) : Option (Hp) :=
  f_cSide_comes_b86 v0 s0 1 h
def f_cSide_comes_b191 (k95 : Nat → Nat → Int → Int → Int → Hp → Option (Hp)) (v0 : Nat) (v1 : Nat) (v2 : Int) (s0 : Nat) (s1 : Int) (h : Hp) : Option (Hp) :=
  if s0 = 0 then none else
  lt1 (sI h s0 28 s1) fun h23 =>
  if hR h23 v0 37 = 0 then none else
  lt1 (hI h23 (hR h23 v0 37) 5) fun y25 =>
  b1 (f_cSide_packet v0 v1 v2 h23) fun h26 =>
  if (hI h26 v0 1) ≤ 2 then (
    k95 v0 v1 v2 y25 0 h26
  ) else
  some h26
def f_cSide_comes_b171 (k95 : Nat → Nat → Int → Int → Int → Hp → Option (Hp)) (v0 : Nat) (v1 : Nat) (v2 : Int) (v4 : Int) (h : Hp) : Option (Hp) :=
  if v4 = 0 then (
    f_cSide_comes_b191 k95 v0 v1 v2 v0 (hI h v0 28) h
  ) else
  if hR h v0 37 = 0 then none else
  f_cSide_comes_b191 k95 v0 v1 v2 v0 (hI h (hR h v0 37) 8) h
def f_cSide_comes_b141 (k95 : Nat → Nat → Int → Int → Int → Hp → Option (Hp)) (v0 : Nat) (v1 : Nat) (v2 : Int) (v4 : Int) (h : Hp) : Option (Hp) :=
  if v4 = 0 then (
    f_cSide_comes_b171 k95 v0 v1 v2 v4 h
  ) else
  if hR h v0 37 = 0 then none else
  if v1 = 0 then none else
  if hR h v0 39 = 0 then none else
  if cpk (hI h (hR h v0 37) 7) 1200 (hI h (hR h v0 37) 8) (ln h v1) (ln h (hR h v0 39)) then
    lt1 (cpI h v1 ((hI h (hR h v0 37) 7).toNat) (hR h v0 39) (Int.toNat 1200) ((hI h (hR h v0 37) 8).toNat)) fun h20 =>
    f_cSide_comes_b171 k95 v0 v1 v2 v4 h20
  else none
def f_cSide_comes_b95 (k95 : Nat → Nat → Int → Int → Int → Hp → Option (Hp)) (v0 : Nat) (v1 : Nat) (v2 : Int) (v3 : Int) (v4 : Int) (h : Hp) : Option (Hp) :=
  if v2 ≤ v3 then (
    some h
  ) else
  if hR h v0 35 = 0 then none else
  b1 (f_cBytes_over (hR h v0 35) v1 v3 v2 h) fun h7 =>
  if hR h7 v0 37 = 0 then none else
  b2 (f_cHeader_read (hR h7 v0 37) (hR h7 v0 35) 8 h7) fun r12 h10 =>
  if r12 ≤ 0 then (
    if v4 ≠ 0 then (
      f_cSide_comes_b141 k95 v0 v1 v2 v4 h10
    ) else
    b2 (f_cSide_sameTo v0 v1 h10) fun r15 h13 =>
    if r15 ≠ 0 then (
      f_cSide_comes_b141 k95 v0 v1 v2 v4 h13
    ) else
    some h13
  ) else
  some h10
def f_cSide_comes_b95_lp : Nat → Nat → Nat → Int → Int → Int → Hp → Option (Hp)
  | 0, _, _, _, _, _, _ => none
  | n + 1, v0, v1, v2, v3, v4, h => f_cSide_comes_b95 (f_cSide_comes_b95_lp n) v0 v1 v2 v3 v4 h
def f_cSide_comes_b31 (v0 : Nat) (v1 : Nat) (v2 : Int) (h : Hp) : Option (Hp) :=
  lt1 (sI h v0 20 (w32 ((hI h v0 20) + v2))) fun h1 =>
  if (hI h1 v0 1) ≠ 3 then (
    f_cSide_comes_b95_lp FU v0 v1 v2 0 1 h1
  ) else
  lt1 (sI h1 v0 25 (w32 ((hI h1 v0 25) + 1))) fun h2 =>
  if (hI h2 v0 18) ≠ 0 then (
    f_cSide_comes_b81 v0 v0 h2
  ) else
  if (iAnd (hI h2 v0 25) (w32 ((hI h2 v0 25) - 1))) ≠ 0 then (
    f_cSide_comes_b86 v0 v0 0 h2
  ) else
  f_cSide_comes_b81 v0 v0 h2
def f_cSide_comes (v0 : Nat) (v1 : Nat) (v2 : Int) (h : Hp) : Option (Hp) :=
  if (hI h v0 1) = 4 then (
    some h
  ) else
  if (hI h v0 1) = 5 then (
    some h
  ) else
  if (hI h v0 1) ≠ 0 then (
    f_cSide_comes_b31 v0 v1 v2 h
  ) else
  if (hI h v0 0) ≠ 0 then (
    f_cSide_comes_b31 v0 v1 v2 h
  ) else
  some h
def f_cP_comes (v0 : Nat) (v1 : Int) (v2 : Int) (h : Hp) : Option (Int × Hp) :=
  if hR h v0 8 = 0 then none else
  if ix v1 (ln h (hR h v0 8)) then
    lt1 (hR h (hR h v0 8) v1.toNat) fun y3 =>
    if y3 = 0 then none else
    if hR h y3 1 = 0 then none else
    if ix v2 (ln h (hR h y3 1)) then
      lt1 (hI h (hR h y3 1) v2.toNat) fun y7 =>
      if hR h y3 0 = 0 then none else
      if ix v2 (ln h (hR h y3 0)) then
        if hR h (hR h y3 0) v2.toNat = 0 then none else
        if hR h v0 1 = 0 then none else
        if cpk 0 0 y7 (ln h (hR h (hR h y3 0) v2.toNat)) (ln h (hR h v0 1)) then
          lt1 (cpI h (hR h (hR h y3 0) v2.toNat) (Int.toNat 0) (hR h v0 1) (Int.toNat 0) y7.toNat) fun h13 =>
          b1 (f_cLine_remove y3 v2 h13) fun h14 =>
          if hR h14 v0 7 = 0 then none else
          if ix (w32 (1 - v1)) (ln h14 (hR h14 v0 7)) then
            if hR h14 (hR h14 v0 7) ((w32 (1 - v1)).toNat) = 0 then none else
            b1 (f_cSide_comes (hR h14 (hR h14 v0 7) ((w32 (1 - v1)).toNat)) (hR h14 v0 1) y7 h14) fun h19 =>
            some (y7, h19)
          else none
        else none
      else none
    else none
  else none
def f_cP_deliver (v0 : Nat) (v1 : Int) (v2 : Int) (h : Hp) : Option ((Int × Hp) ⊕ (Nat × Hp)) :=
  bt2 (f_cP_on v0 v1 v2 h) (fun a3 h4 =>
    some (.inr (a3, h4))) fun r6 h1 =>
  b2 (f_cP_comes v0 v1 v2 h1) fun r9 h7 =>
  some (.inl (r9, h7))
def f_cP_drop (v0 : Nat) (v1 : Int) (v2 : Int) (h : Hp) : Option ((Int × Hp) ⊕ (Nat × Hp)) :=
  bt2 (f_cP_on v0 v1 v2 h) (fun a3 h4 =>
    some (.inr (a3, h4))) fun r6 h1 =>
  if r6 = 0 then none else
  if hR h1 r6 1 = 0 then none else
  if ix v2 (ln h1 (hR h1 r6 1)) then
    lt1 (hI h1 (hR h1 r6 1) v2.toNat) fun y10 =>
    b1 (f_cLine_remove r6 v2 h1) fun h11 =>
    some (.inl (y10, h11))
  else none
def f_cLine_add (v0 : Nat) (v1 : Nat) (v2 : Int) (v3 : Int) (h : Hp) : Option (Hp) :=
  lt1 (sI h v0 4 (w32 ((hI h v0 4) + 1))) fun h1 =>
  if (hI h1 v0 3) ≠ 96 then (
    if hR h1 v0 0 = 0 then none else
    if ix (hI h1 v0 3) (ln h1 (hR h1 v0 0)) then
      if v1 = 0 then none else
      if hR h1 (hR h1 v0 0) ((hI h1 v0 3).toNat) = 0 then none else
      if cpk 0 0 v2 (ln h1 v1) (ln h1 (hR h1 (hR h1 v0 0) ((hI h1 v0 3).toNat))) then
        lt1 (cpI h1 v1 (Int.toNat 0) (hR h1 (hR h1 v0 0) ((hI h1 v0 3).toNat)) (Int.toNat 0) v2.toNat) fun h7 =>
        if hR h7 v0 1 = 0 then none else
        if ix (hI h7 v0 3) (ln h7 (hR h7 v0 1)) then
          lt1 (sI h7 (hR h7 v0 1) ((hI h7 v0 3).toNat) v2) fun h10 =>
          if hR h10 v0 2 = 0 then none else
          if ix (hI h10 v0 3) (ln h10 (hR h10 v0 2)) then
            lt1 (sI h10 (hR h10 v0 2) ((hI h10 v0 3).toNat) v3) fun h13 =>
            lt1 (sI h13 v0 3 (w32 ((hI h13 v0 3) + 1))) fun h14 =>
            some h14
          else none
        else none
      else none
    else none
  ) else
  lt1 (sI h1 v0 5 (w32 ((hI h1 v0 5) + 1))) fun h15 =>
  some h15
def f_cP_twice (v0 : Nat) (v1 : Int) (v2 : Int) (h : Hp) : Option ((Int × Hp) ⊕ (Nat × Hp)) :=
  bt2 (f_cP_on v0 v1 v2 h) (fun a3 h4 =>
    some (.inr (a3, h4))) fun r6 h1 =>
  if r6 = 0 then none else
  if hR h1 r6 0 = 0 then none else
  if ix v2 (ln h1 (hR h1 r6 0)) then
    if hR h1 r6 1 = 0 then none else
    if ix v2 (ln h1 (hR h1 r6 1)) then
      if hR h1 r6 2 = 0 then none else
      if ix v2 (ln h1 (hR h1 r6 2)) then
        b1 (f_cLine_add r6 (hR h1 (hR h1 r6 0) v2.toNat) (hI h1 (hR h1 r6 1) v2.toNat) (hI h1 (hR h1 r6 2) v2.toNat) h1) fun h14 =>
        some (.inl (hI h14 r6 3, h14))
      else none
    else none
  else none
def f_cP_alter (v0 : Nat) (v1 : Int) (v2 : Int) (v3 : Int) (v4 : Int) (h : Hp) : Option ((Int × Hp) ⊕ (Nat × Hp)) :=
  bt2 (f_cP_on v0 v1 v2 h) (fun a3 h4 =>
    some (.inr (a3, h4))) fun r6 h1 =>
  if r6 = 0 then none else
  if hR h1 r6 1 = 0 then none else
  if ix v2 (ln h1 (hR h1 r6 1)) then
    b2 (f_cP_in v3 0 (w32 ((hI h1 (hR h1 r6 1) v2.toNat) - 1)) h1) fun r12 h10 =>
    bt (f_cP_there r12 h10) (fun a15 h16 =>
      some (.inr (a15, h16))) fun h13 =>
    if hR h13 r6 0 = 0 then none else
    if ix v2 (ln h13 (hR h13 r6 0)) then
      if hR h13 (hR h13 r6 0) v2.toNat = 0 then none else
      if ix v3 (ln h13 (hR h13 (hR h13 r6 0) v2.toNat)) then
        if ix v3 (ln h13 (hR h13 (hR h13 r6 0) v2.toNat)) then
          lt1 (sI h13 (hR h13 (hR h13 r6 0) v2.toNat) v3.toNat (i8 (i8 (iXor (hI h13 (hR h13 (hR h13 r6 0) v2.toNat) v3.toNat) (i8 v4))))) fun h23 =>
          if hR h23 r6 0 = 0 then none else
          if ix v2 (ln h23 (hR h23 r6 0)) then
            if hR h23 (hR h23 r6 0) v2.toNat = 0 then none else
            if ix v3 (ln h23 (hR h23 (hR h23 r6 0) v2.toNat)) then
              some (.inl (iAnd (hI h23 (hR h23 (hR h23 r6 0) v2.toNat) v3.toNat) 255, h23))
            else none
          else none
        else none
      else none
    else none
  else none
def f_cP_flow (v0 : Nat) (v1 : Int) (h : Hp) : Option ((Hp) ⊕ (Nat × Hp)) :=
  b2 (f_cP_in v1 0 1000 h) fun r3 h1 =>
  bt (f_cP_need r3 h1) (fun a6 h7 =>
    some (.inr (a6, h7))) fun h4 =>
  lt1 (sI h4 v0 4 v1) fun h9 =>
  some (.inl h9)
def f_cBook_patience_b21 (v0 : Nat) (s0 : Nat) (s1 : Int) (h : Hp) : Option (Int × Hp) :=
  if s0 = 0 then none else
  b2 (f_cTrip_patience s0 s1 h) fun r4 h2 =>
  some (r4, h2)
def f_cBook_patience_b20 (v0 : Nat) (s0 : Nat) (h : Hp) : Option (Int × Hp) :=
  f_cBook_patience_b21 v0 s0 0 h
def f_cBook_patience (v0 : Nat) (v1 : Int) (h : Hp) : Option (Int × Hp) :=
  if v1 ≠ 2 then (
    f_cBook_patience_b20 v0 (hR h v0 1) h
  ) else
  if (hI h v0 6) = 0 then (
    f_cBook_patience_b20 v0 (hR h v0 1) h
  ) else
  f_cBook_patience_b21 v0 (hR h v0 1) 1 h
def f_cBook_firstSpace_b2 (k2 : Nat → Int → Hp → Option (Int × Hp)) (v0 : Nat) (v1 : Int) (h : Hp) : Option (Int × Hp) :=
  if 3 ≤ v1 then (
    some (v1, h)
  ) else
  if hR h v0 0 = 0 then none else
  if ix v1 (ln h (hR h v0 0)) then
    if hR h (hR h v0 0) v1.toNat = 0 then none else
    if (hI h (hR h (hR h v0 0) v1.toNat) 10) = 0 then (
      some (v1, h)
    ) else
    k2 v0 (w32 (v1 + 1)) h
  else none
def f_cBook_firstSpace_b2_lp : Nat → Nat → Int → Hp → Option (Int × Hp)
  | 0, _, _, _ => none
  | n + 1, v0, v1, h => f_cBook_firstSpace_b2 (f_cBook_firstSpace_b2_lp n) v0 v1 h
def f_cBook_firstSpace (v0 : Nat) (h : Hp) : Option (Int × Hp) :=
  f_cBook_firstSpace_b2_lp FU v0 0 h
def f_cBook_isQuiet_b42 (k13 : Nat → Int → Nat → Int → Int → Hp → Option (Int × Hp)) (v0 : Nat) (v2 : Nat) (v3 : Int) (v4 : Int) (s0 : Int) (h : Hp) : Option (Int × Hp) :=
  k13 v0 s0 v2 v3 (w32 (v4 + 1)) h
def f_cBook_isQuiet_b41 (k13 : Nat → Int → Nat → Int → Int → Hp → Option (Int × Hp)) (v0 : Nat) (v2 : Nat) (v3 : Int) (v4 : Int) (h : Hp) : Option (Int × Hp) :=
  f_cBook_isQuiet_b42 k13 v0 v2 v3 v4 0 h
def f_cBook_isQuiet_b13 (k13 : Nat → Int → Nat → Int → Int → Hp → Option (Int × Hp)) (v0 : Nat) (v1 : Int) (v2 : Nat) (v3 : Int) (v4 : Int) (h : Hp) : Option (Int × Hp) :=
  if v3 ≤ v4 then (
    if v1 = 0 ∨ v1 = 1 then some (v1, h) else none
  ) else
  if v2 = 0 then none else
  if ix v4 (ln h v2) then
    lt1 (hR h v2 v4.toNat) fun y7 =>
    if v1 = 0 then (
      f_cBook_isQuiet_b41 k13 v0 v2 v3 v4 h
    ) else
    if y7 = 0 then none else
    if (hI h y7 5) ≠ 0 then (
      f_cBook_isQuiet_b41 k13 v0 v2 v3 v4 h
    ) else
    f_cBook_isQuiet_b42 k13 v0 v2 v3 v4 1 h
  else none
def f_cBook_isQuiet_b13_lp : Nat → Nat → Int → Nat → Int → Int → Hp → Option (Int × Hp)
  | 0, _, _, _, _, _, _ => none
  | n + 1, v0, v1, v2, v3, v4, h => f_cBook_isQuiet_b13 (f_cBook_isQuiet_b13_lp n) v0 v1 v2 v3 v4 h
def f_cBook_isQuiet (v0 : Nat) (h : Hp) : Option (Int × Hp) :=
  lt1 (hR h v0 0) fun y1 =>
  if y1 = 0 then none else
  lt1 (ln h y1 : Int) fun y3 =>
  f_cBook_isQuiet_b13_lp FU v0 1 y1 y3 0 h
def f_cBook_probeTime_b28 (v0 : Nat) (v1 : Int) (v2 : Nat) (h : Hp) : Option (Int × Hp) :=
  b2 (f_cBook_patience v0 v1 h) fun r7 h5 =>
  lt1 (iShl r7 (hI h5 v0 4)) fun y8 =>
  if v2 = 0 then none else
  if (hI h5 v2 5) ≤ 0 then (
    if (hI h5 v0 7) = 0 then (
      some ((-1), h5)
    ) else
    b2 (f_cBook_firstSpace v0 h5) fun r12 h10 =>
    if r12 ≠ v1 then (
      some ((-1), h10)
    ) else
    b2 (f_cBook_isQuiet v0 h10) fun r15 h13 =>
    if r15 = 0 then (
      some ((-1), h13)
    ) else
    some (w32 ((hI h13 v0 5) + y8), h13)
  ) else
  some (w32 ((hI h5 v2 7) + y8), h5)
def f_cBook_probeTime (v0 : Nat) (v1 : Int) (h : Hp) : Option (Int × Hp) :=
  if hR h v0 0 = 0 then none else
  if ix v1 (ln h (hR h v0 0)) then
    lt1 (hR h (hR h v0 0) v1.toNat) fun y3 =>
    if y3 = 0 then none else
    if (hI h y3 10) ≠ 0 then (
      some ((-1), h)
    ) else
    if v1 ≠ 2 then (
      f_cBook_probeTime_b28 v0 v1 y3 h
    ) else
    if (hI h v0 6) ≠ 0 then (
      f_cBook_probeTime_b28 v0 v1 y3 h
    ) else
    some ((-1), h)
  else none
def f_cBook_earliest_b71 (k7 : Nat → Int → Int → Int → Int → Hp → Option (Int × Hp)) (v0 : Nat) (v1 : Int) (v2 : Int) (v3 : Int) (v4 : Int) (h : Hp) : Option (Int × Hp) :=
  k7 v0 v1 v2 v3 (w32 (v4 + 1)) h
def f_cBook_earliest_b65 (k7 : Nat → Int → Int → Int → Int → Hp → Option (Int × Hp)) (v0 : Nat) (v1 : Int) (v4 : Int) (v5 : Int) (h : Hp) : Option (Int × Hp) :=
  f_cBook_earliest_b71 k7 v0 v1 v4 v5 v4 h
def f_cBook_earliest_b36 (k7 : Nat → Int → Int → Int → Int → Hp → Option (Int × Hp)) (v0 : Nat) (v1 : Int) (v2 : Int) (v3 : Int) (v4 : Int) (s0 : Int) (h : Hp) : Option (Int × Hp) :=
  if s0 < 0 then (
    f_cBook_earliest_b71 k7 v0 v1 v2 v3 v4 h
  ) else
  if (hI h v0 3) < s0 then (
    f_cBook_earliest_b71 k7 v0 v1 v2 v3 v4 h
  ) else
  if v2 < 0 then (
    f_cBook_earliest_b65 k7 v0 v1 v4 s0 h
  ) else
  if s0 < v3 then (
    f_cBook_earliest_b65 k7 v0 v1 v4 s0 h
  ) else
  f_cBook_earliest_b71 k7 v0 v1 v2 v3 v4 h
def f_cBook_earliest_b7 (k7 : Nat → Int → Int → Int → Int → Hp → Option (Int × Hp)) (v0 : Nat) (v1 : Int) (v2 : Int) (v3 : Int) (v4 : Int) (h : Hp) : Option (Int × Hp) :=
  if 3 ≤ v4 then (
    some (v2, h)
  ) else
  if v1 = 0 then (
    b2 (f_cBook_probeTime v0 v4 h) fun r3 h1 =>
    f_cBook_earliest_b36 k7 v0 v1 v2 v3 v4 r3 h1
  ) else
  if hR h v0 0 = 0 then none else
  if ix v4 (ln h (hR h v0 0)) then
    if hR h (hR h v0 0) v4.toNat = 0 then none else
    f_cBook_earliest_b36 k7 v0 v1 v2 v3 v4 (hI h (hR h (hR h v0 0) v4.toNat) 8) h
  else none
def f_cBook_earliest_b7_lp : Nat → Nat → Int → Int → Int → Int → Hp → Option (Int × Hp)
  | 0, _, _, _, _, _, _ => none
  | n + 1, v0, v1, v2, v3, v4, h => f_cBook_earliest_b7 (f_cBook_earliest_b7_lp n) v0 v1 v2 v3 v4 h
def f_cBook_earliest (v0 : Nat) (v1 : Int) (h : Hp) : Option (Int × Hp) :=
  f_cBook_earliest_b7_lp FU v0 v1 (-1) 0 0 h
def f_cBook_tick (v0 : Nat) (h : Hp) : Option (Int × Hp) :=
  lt1 (sI h v0 3 (w32 ((hI h v0 3) + 1))) fun h1 =>
  b2 (f_cBook_earliest v0 1 h1) fun r4 h2 =>
  if r4 < 0 then (
    b2 (f_cBook_earliest v0 0 h2) fun r7 h5 =>
    if 0 ≤ r7 then (
      lt1 (sI h5 v0 4 (min (w32 ((hI h5 v0 4) + 1)) 10)) fun h8 =>
      some (w32 (2 + r7), h8)
    ) else
    some (0, h5)
  ) else
  b2 (f_cBook_losses v0 r4 h2) fun r11 h9 =>
  some (1, h9)
def f_cSide_end_b21 (v0 : Nat) (s0 : Nat) (s1 : Int) (h : Hp) : Option (Hp) :=
  if s0 = 0 then none else
  lt1 (sI h s0 2 s1) fun h3 =>
  some h3
def f_cSide_end (v0 : Nat) (v1 : Int) (h : Hp) : Option (Hp) :=
  lt1 (sI h v0 1 5) fun h1 =>
  if (hI h1 v0 2) ≠ 0 then (
    f_cSide_end_b21 v0 v0 (hI h1 v0 2) h1
  ) else
  f_cSide_end_b21 v0 v0 v1 h1
def f_cSide_probe_b47 (k22 : Nat → Int → Nat → Int → Hp → Option (Hp)) (v0 : Nat) (v1 : Int) (v2 : Nat) (v3 : Int) (h : Hp) : Option (Hp) :=
  k22 v0 v1 v2 (w32 (v3 + 1)) h
def f_cSide_probe_b53 (v0 : Nat) (v1 : Int) (v2 : Nat) (v3 : Int) (h : Hp) : Option (Hp) :=
  if v2 = 0 then none else
  if (hI h v2 3) ≤ v3 then (
    some h
  ) else
  b1 (f_cSide_gone v0 v1 v3 0 h) fun h18 =>
  some h18
def f_cSide_probe_b22 (k22 : Nat → Int → Nat → Int → Hp → Option (Hp)) (v0 : Nat) (v1 : Int) (v2 : Nat) (v3 : Int) (h : Hp) : Option (Hp) :=
  if v2 = 0 then none else
  if (hI h v2 3) ≤ v3 then (
    f_cSide_probe_b53 v0 v1 v2 v3 h
  ) else
  b2 (f_cSpace_state v2 v3 h) fun r13 h11 =>
  if r13 ≠ 0 then (
    f_cSide_probe_b47 k22 v0 v1 v2 v3 h11
  ) else
  b2 (f_cSpace_is v2 v3 4 h11) fun r16 h14 =>
  if r16 ≠ 0 then (
    f_cSide_probe_b53 v0 v1 v2 v3 h14
  ) else
  f_cSide_probe_b47 k22 v0 v1 v2 v3 h14
def f_cSide_probe_b22_lp : Nat → Nat → Int → Nat → Int → Hp → Option (Hp)
  | 0, _, _, _, _, _ => none
  | n + 1, v0, v1, v2, v3, h => f_cSide_probe_b22 (f_cSide_probe_b22_lp n) v0 v1 v2 v3 h
def f_cSide_probe (v0 : Nat) (v1 : Int) (h : Hp) : Option (Hp) :=
  if hR h v0 32 = 0 then none else
  if ix v1 (ln h (hR h v0 32)) then
    lt1 (sI h (hR h v0 32) v1.toNat 2) fun h3 =>
    if hR h3 v0 9 = 0 then none else
    if hR h3 (hR h3 v0 9) 0 = 0 then none else
    if ix v1 (ln h3 (hR h3 (hR h3 v0 9) 0)) then
      lt1 (hR h3 (hR h3 (hR h3 v0 9) 0) v1.toNat) fun y7 =>
      if y7 = 0 then none else
      lt1 (hI h3 y7 9) fun y9 =>
      f_cSide_probe_b22_lp FU v0 v1 y7 y9 h3
    else none
  else none
def f_cSide_quietLimit_b54 (v0 : Nat) (s0 : Int) (h : Hp) : Option (Int × Hp) :=
  if s0 ≠ 0 then (
    b2 (f_cSide_patience v0 h) fun r9 h7 =>
    some (w32 (max (min s0 1000000) (w32 (3 * r9))), h7)
  ) else
  some ((-1), h)
def f_cSide_quietLimit_b28 (v0 : Nat) (v1 : Int) (s0 : Int) (h : Hp) : Option (Int × Hp) :=
  if v1 ≠ 0 then (
    if s0 ≠ 0 then (
      f_cSide_quietLimit_b54 v0 (min v1 s0) h
    ) else
    f_cSide_quietLimit_b54 v0 v1 h
  ) else
  f_cSide_quietLimit_b54 v0 s0 h
def f_cSide_quietLimit (v0 : Nat) (h : Hp) : Option (Int × Hp) :=
  if hR h v0 33 = 0 then none else
  if ix 1 (ln h (hR h v0 33)) then
    lt1 (hI h (hR h v0 33) (Int.toNat 1)) fun y3 =>
    if (hI h v0 27) ≤ 0 then (
      f_cSide_quietLimit_b28 v0 y3 0 h
    ) else
    if hR h v0 34 = 0 then none else
    if hR h (hR h v0 34) 0 = 0 then none else
    if ix 1 (ln h (hR h (hR h v0 34) 0)) then
      f_cSide_quietLimit_b28 v0 y3 (hJ h (hR h (hR h v0 34) 0) (Int.toNat 1)) h
    else none
  else none
def f_cSide_isWorn_b60 (k4 : Nat → Int → Int → Hp → Option (Int × Hp)) (v0 : Nat) (v2 : Int) (s0 : Int) (h : Hp) : Option (Int × Hp) :=
  k4 v0 s0 (w32 (v2 + 1)) h
def f_cSide_isWorn_b55 (k4 : Nat → Int → Int → Hp → Option (Int × Hp)) (v0 : Nat) (v2 : Int) (h : Hp) : Option (Int × Hp) :=
  f_cSide_isWorn_b60 k4 v0 v2 1 h
def f_cSide_isWorn_b59 (k4 : Nat → Int → Int → Hp → Option (Int × Hp)) (v0 : Nat) (v2 : Int) (h : Hp) : Option (Int × Hp) :=
  f_cSide_isWorn_b60 k4 v0 v2 0 h
def f_cSide_isWorn_b4 (k4 : Nat → Int → Int → Hp → Option (Int × Hp)) (v0 : Nat) (v1 : Int) (v2 : Int) (h : Hp) : Option (Int × Hp) :=
  if 3 ≤ v2 then (
    if v1 = 0 ∨ v1 = 1 then some (v1, h) else none
  ) else
  if v1 ≠ 0 then (
    f_cSide_isWorn_b55 k4 v0 v2 h
  ) else
  if hR h v0 6 = 0 then none else
  if ix v2 (ln h (hR h v0 6)) then
    if (hI h (hR h v0 6) v2.toNat) = 0 then (
      f_cSide_isWorn_b59 k4 v0 v2 h
    ) else
    if hR h v0 9 = 0 then none else
    if hR h (hR h v0 9) 0 = 0 then none else
    if ix v2 (ln h (hR h (hR h v0 9) 0)) then
      if hR h (hR h (hR h v0 9) 0) v2.toNat = 0 then none else
      if (hI h (hR h (hR h (hR h v0 9) 0) v2.toNat) 3) = 4096 then (
        f_cSide_isWorn_b55 k4 v0 v2 h
      ) else
      if hR h v0 10 = 0 then none else
      if ix v2 (ln h (hR h v0 10)) then
        if hR h (hR h v0 10) v2.toNat = 0 then none else
        if (hI h (hR h (hR h v0 10) v2.toNat) 7) < 15000 then (
          f_cSide_isWorn_b59 k4 v0 v2 h
        ) else
        f_cSide_isWorn_b55 k4 v0 v2 h
      else none
    else none
  else none
def f_cSide_isWorn_b4_lp : Nat → Nat → Int → Int → Hp → Option (Int × Hp)
  | 0, _, _, _, _ => none
  | n + 1, v0, v1, v2, h => f_cSide_isWorn_b4 (f_cSide_isWorn_b4_lp n) v0 v1 v2 h
def f_cSide_isWorn (v0 : Nat) (h : Hp) : Option (Int × Hp) :=
  f_cSide_isWorn_b4_lp FU v0 0 0 h
def f_cSide_headSize (v0 : Int) (h : Hp) : Option (Int × Hp) :=
  if v0 ≠ 0 then (
    if v0 ≠ 1 then (
      some (9, h)
    ) else
    some (25, h)
  ) else
  some (26, h)
def f_cBytes_put (v0 : Nat) (v1 : Int) (h : Hp) : Option (Hp) :=
  b2 (f_cBytes_step v0 1 h) fun r3 h1 =>
  if r3 = 0 then (
    some h1
  ) else
  lt1 (sI h1 v0 1 (w32 ((hI h1 v0 1) + 1))) fun h4 =>
  if hR h1 v0 0 = 0 then none else
  if ix (hI h1 v0 1) (ln h4 (hR h1 v0 0)) then
    lt1 (sI h4 (hR h1 v0 0) ((hI h1 v0 1).toNat) (i8 (i8 v1))) fun h7 =>
    some h7
  else none
def f_cFrame_writeRanges_b104 (k104 : Nat → Nat → Int → Hp → Option (Hp)) (v0 : Nat) (v1 : Nat) (v2 : Int) (h : Hp) : Option (Hp) :=
  if 3 ≤ v2 then (
    some h
  ) else
  if (hI h v0 0) ≠ 3 then (
    some h
  ) else
  if hR h v0 6 = 0 then none else
  if ix v2 (ln h (hR h v0 6)) then
    if v1 = 0 then none else
    b1 (f_cBytes_putNumber v1 (hJ h (hR h v0 6) v2.toNat) h) fun h32 =>
    k104 v0 v1 (w32 (v2 + 1)) h32
  else none
def f_cFrame_writeRanges_b104_lp : Nat → Nat → Nat → Int → Hp → Option (Hp)
  | 0, _, _, _, _ => none
  | n + 1, v0, v1, v2, h => f_cFrame_writeRanges_b104 (f_cFrame_writeRanges_b104_lp n) v0 v1 v2 h
def f_cFrame_writeRanges_b48 (k48 : Nat → Nat → Int → Hp → Option (Hp)) (v0 : Nat) (v1 : Nat) (v2 : Int) (h : Hp) : Option (Hp) :=
  if (hI h v0 11) ≤ v2 then (
    f_cFrame_writeRanges_b104_lp FU v0 v1 0 h
  ) else
  if hR h v0 12 = 0 then none else
  if ix (w32 (v2 - 1)) (ln h (hR h v0 12)) then
    if hR h v0 13 = 0 then none else
    if ix v2 (ln h (hR h v0 13)) then
      if v1 = 0 then none else
      b1 (f_cBytes_putNumber v1 (w64 ((w64 ((hJ h (hR h v0 12) ((w32 (v2 - 1)).toNat)) - (hJ h (hR h v0 13) v2.toNat))) - 2)) h) fun h21 =>
      if hR h21 v0 13 = 0 then none else
      if ix v2 (ln h21 (hR h21 v0 13)) then
        if hR h21 v0 12 = 0 then none else
        if ix v2 (ln h21 (hR h21 v0 12)) then
          b1 (f_cBytes_putNumber v1 (w64 ((hJ h21 (hR h21 v0 13) v2.toNat) - (hJ h21 (hR h21 v0 12) v2.toNat))) h21) fun h27 =>
          k48 v0 v1 (w32 (v2 + 1)) h27
        else none
      else none
    else none
  else none
def f_cFrame_writeRanges_b48_lp : Nat → Nat → Nat → Int → Hp → Option (Hp)
  | 0, _, _, _, _ => none
  | n + 1, v0, v1, v2, h => f_cFrame_writeRanges_b48 (f_cFrame_writeRanges_b48_lp n) v0 v1 v2 h
def f_cFrame_writeRanges (v0 : Nat) (v1 : Nat) (h : Hp) : Option (Hp) :=
  if hR h v0 13 = 0 then none else
  if ix 0 (ln h (hR h v0 13)) then
    if v1 = 0 then none else
    b1 (f_cBytes_putNumber v1 (hJ h (hR h v0 13) (Int.toNat 0)) h) fun h4 =>
    b1 (f_cBytes_putNumber v1 (hJ h4 v0 3) h4) fun h6 =>
    b1 (f_cBytes_putNumber v1 (w32 ((hI h6 v0 11) - 1)) h6) fun h8 =>
    if hR h8 v0 13 = 0 then none else
    if ix 0 (ln h8 (hR h8 v0 13)) then
      if hR h8 v0 12 = 0 then none else
      if ix 0 (ln h8 (hR h8 v0 12)) then
        b1 (f_cBytes_putNumber v1 (w64 ((hJ h8 (hR h8 v0 13) (Int.toNat 0)) - (hJ h8 (hR h8 v0 12) (Int.toNat 0)))) h8) fun h14 =>
        f_cFrame_writeRanges_b48_lp FU v0 v1 1 h14
      else none
    else none
  else none
def f_cFrame_write_b312 (v0 : Nat) (v1 : Nat) (h : Hp) : Option (Hp) :=
  if v1 = 0 then none else
  b1 (f_cBytes_putRow v1 (hR h v0 7) (hI h v0 8) (hI h v0 9) h) fun h28 =>
  if (hI h28 v0 0) ≠ 24 then (
    some h28
  ) else
  b1 (f_cBytes_putRow v1 (hR h28 v0 7) (hI h28 v0 10) 16 h28) fun h30 =>
  some h30
def f_cFrame_write_b303 (v0 : Nat) (v1 : Nat) (h : Hp) : Option (Hp) :=
  if v1 = 0 then none else
  b1 (f_cBytes_putNumber v1 (hI h v0 9) h) fun h25 =>
  f_cFrame_write_b312 v0 v1 h25
def f_cFrame_write_b257 (v0 : Nat) (v1 : Nat) (h : Hp) : Option (Hp) :=
  b2 (f_cFrame_carries v0 h) fun r20 h18 =>
  if r20 ≠ 0 then (
    if (hI h18 v0 0) ≠ 24 then (
      if (hI h18 v0 0) ≠ 8 then (
        f_cFrame_write_b303 v0 v1 h18
      ) else
      if (hJ h18 v0 5) ≠ 1 then (
        f_cFrame_write_b312 v0 v1 h18
      ) else
      f_cFrame_write_b303 v0 v1 h18
    ) else
    if v1 = 0 then none else
    b1 (f_cBytes_put v1 (hI h18 v0 9) h18) fun h22 =>
    f_cFrame_write_b312 v0 v1 h22
  ) else
  some h18
def f_cFrame_write_b241 (v0 : Nat) (v1 : Nat) (h : Hp) : Option (Hp) :=
  if (hI h v0 0) ≠ 4 then (
    f_cFrame_write_b257 v0 v1 h
  ) else
  if v1 = 0 then none else
  b1 (f_cBytes_putNumber v1 (hJ h v0 4) h) fun h16 =>
  f_cFrame_write_b257 v0 v1 h16
def f_cFrame_write_b233 (v0 : Nat) (v1 : Nat) (h : Hp) : Option (Hp) :=
  if v1 = 0 then none else
  b1 (f_cBytes_putNumber v1 (hJ h v0 3) h) fun h13 =>
  f_cFrame_write_b241 v0 v1 h13
def f_cFrame_write_b197 (v0 : Nat) (v1 : Nat) (h : Hp) : Option (Hp) :=
  if (hI h v0 0) = 17 then (
    f_cFrame_write_b233 v0 v1 h
  ) else
  if (hI h v0 0) = 21 then (
    f_cFrame_write_b233 v0 v1 h
  ) else
  if (hI h v0 0) = 24 then (
    f_cFrame_write_b233 v0 v1 h
  ) else
  if (hI h v0 0) ≠ 28 then (
    f_cFrame_write_b241 v0 v1 h
  ) else
  f_cFrame_write_b233 v0 v1 h
def f_cFrame_write_b170 (v0 : Nat) (v1 : Nat) (h : Hp) : Option (Hp) :=
  if (hI h v0 0) < 7 then (
    f_cFrame_write_b233 v0 v1 h
  ) else
  if (hI h v0 0) ≠ 8 then (
    f_cFrame_write_b197 v0 v1 h
  ) else
  if 0 < (hJ h v0 3) then (
    f_cFrame_write_b233 v0 v1 h
  ) else
  f_cFrame_write_b197 v0 v1 h
def f_cFrame_write_b133 (v0 : Nat) (v1 : Nat) (h : Hp) : Option (Hp) :=
  if v1 = 0 then none else
  b1 (f_cBytes_putMany v1 (hJ h v0 2) 8 h) fun h10 =>
  some h10
def f_cFrame_write_b80 (v0 : Nat) (v1 : Nat) (s0 : Nat) (s1 : Int) (h : Hp) : Option (Hp) :=
  if s0 = 0 then none else
  b1 (f_cBytes_put s0 s1 h) fun h2 =>
  if (hI h2 v0 0) = 1 then (
    some h2
  ) else
  if (hI h2 v0 0) ≠ 30 then (
    if 4 ≤ (hI h2 v0 0) then (
      if (hI h2 v0 0) = 26 then (
        f_cFrame_write_b133 v0 v1 h2
      ) else
      if (hI h2 v0 0) ≠ 27 then (
        if (hI h2 v0 0) = 6 then (
          f_cFrame_write_b170 v0 v1 h2
        ) else
        if (hI h2 v0 0) = 7 then (
          f_cFrame_write_b170 v0 v1 h2
        ) else
        if v1 = 0 then none else
        b1 (f_cBytes_putNumber v1 (hJ h2 v0 2) h2) fun h5 =>
        f_cFrame_write_b170 v0 v1 h5
      ) else
      f_cFrame_write_b133 v0 v1 h2
    ) else
    b1 (f_cFrame_writeRanges v0 v1 h2) fun h7 =>
    some h7
  ) else
  some h2
def f_cFrame_write_b9 (k9 : Nat → Nat → Int → Hp → Option (Hp)) (v0 : Nat) (v1 : Nat) (v2 : Int) (h : Hp) : Option (Hp) :=
  if (hJ h v0 2) ≤ v2 then (
    some h
  ) else
  if v1 = 0 then none else
  b1 (f_cBytes_put v1 0 h) fun h33 =>
  k9 v0 v1 (w32 (v2 + 1)) h33
def f_cFrame_write_b9_lp : Nat → Nat → Nat → Int → Hp → Option (Hp)
  | 0, _, _, _, _ => none
  | n + 1, v0, v1, v2, h => f_cFrame_write_b9 (f_cFrame_write_b9_lp n) v0 v1 v2 h
def f_cFrame_write_b57 (v0 : Nat) (v1 : Nat) (s0 : Nat) (s1 : Int) (s2 : Int) (h : Hp) : Option (Hp) :=
  f_cFrame_write_b80 v0 v1 s0 (iOr (iOr s1 s2) (w32 (w64 ((w64 (2 * (hJ h v0 5))) + (hJ h v0 4))))) h
def f_cFrame_write (v0 : Nat) (v1 : Nat) (h : Hp) : Option (Hp) :=
  if (hI h v0 0) ≠ 0 then (
    if (hI h v0 0) ≠ 8 then (
      f_cFrame_write_b80 v0 v1 v1 (hI h v0 0) h
    ) else
    if (hJ h v0 3) ≤ 0 then (
      f_cFrame_write_b57 v0 v1 v1 8 0 h
    ) else
    f_cFrame_write_b57 v0 v1 v1 8 4 h
  ) else
  f_cFrame_write_b9_lp FU v0 v1 0 h
def f_cSide_closes_b66 (v0 : Nat) (v1 : Int) (s0 : Nat) (s1 : Int) (h : Hp) : Option (Hp) :=
  if s0 = 0 then none else
  lt1 (sJ h s0 2 s1) fun h7 =>
  if hR h7 v0 38 = 0 then none else
  lt1 (sR h7 (hR h7 v0 38) 7 (hR h7 v0 40)) fun h9 =>
  if hR h9 v0 38 = 0 then none else
  b1 (f_cFrame_write (hR h9 v0 38) (hR h9 v0 36) h9) fun h11 =>
  if hR h11 v0 36 = 0 then none else
  if (hI h11 (hR h11 v0 36) 3) = 0 then (
    some h11
  ) else
  if hR h11 v0 42 = 0 then none else
  if ix v1 (ln h11 (hR h11 v0 42)) then
    b1 (f_cBytes_over (hR h11 v0 36) (hR h11 (hR h11 v0 42) v1.toNat) 0 (hI h11 (hR h11 v0 36) 2) h11) fun h16 =>
    some h16
  else none
def f_cSide_closes_b44 (v0 : Nat) (v1 : Int) (v2 : Int) (s0 : Nat) (s1 : Int) (h : Hp) : Option (Hp) :=
  if s0 = 0 then none else
  lt1 (sI h s0 0 s1) fun h5 =>
  if v2 = 0 then (
    f_cSide_closes_b66 v0 v1 (hR h5 v0 38) 12 h5
  ) else
  f_cSide_closes_b66 v0 v1 (hR h5 v0 38) (hI h5 v0 23) h5
def f_cSide_closes_b26 (v0 : Nat) (v1 : Int) (s0 : Int) (h : Hp) : Option (Hp) :=
  if s0 = 0 then (
    f_cSide_closes_b44 v0 v1 s0 (hR h v0 38) 28 h
  ) else
  f_cSide_closes_b44 v0 v1 s0 (hR h v0 38) (hI h v0 24) h
def f_cSide_closes_b21 (v0 : Nat) (v1 : Int) (h : Hp) : Option (Hp) :=
  f_cSide_closes_b26 v0 v1 1 h
def f_cSide_closes (v0 : Nat) (v1 : Int) (h : Hp) : Option (Hp) :=
  if hR h v0 38 = 0 then none else
  b1 (f_cFrame_clear (hR h v0 38) h) fun h2 =>
  if (hI h2 v0 24) = 28 then (
    f_cSide_closes_b21 v0 v1 h2
  ) else
  if v1 ≠ 2 then (
    f_cSide_closes_b26 v0 v1 0 h2
  ) else
  f_cSide_closes_b21 v0 v1 h2
def f_cBook_due_b50 (v0 : Nat) (h : Hp) : Option (Int × Hp) :=
  some (1, h)
def f_cBook_due (v0 : Nat) (v1 : Int) (h : Hp) : Option (Int × Hp) :=
  if hR h v0 0 = 0 then none else
  if ix v1 (ln h (hR h v0 0)) then
    lt1 (hR h (hR h v0 0) v1.toNat) fun y3 =>
    if y3 = 0 then none else
    if (hI h y3 14) ≠ 0 then (
      if v1 < 2 then (
        f_cBook_due_b50 v0 h
      ) else
      if (hI h y3 17) ≠ 0 then (
        f_cBook_due_b50 v0 h
      ) else
      if 1 < (hI h y3 14) then (
        f_cBook_due_b50 v0 h
      ) else
      if (hI h v0 3) < (w32 ((hI h y3 15) + 25)) then (
        some (0, h)
      ) else
      f_cBook_due_b50 v0 h
    ) else
    some (0, h)
  else none
def f_cBook_delay (v0 : Nat) (v1 : Int) (h : Hp) : Option (Int × Hp) :=
  if hR h v0 0 = 0 then none else
  if ix v1 (ln h (hR h v0 0)) then
    if hR h (hR h v0 0) v1.toNat = 0 then none else
    if hR h (hR h (hR h v0 0) v1.toNat) 13 = 0 then none else
    if (hI h (hR h (hR h (hR h v0 0) v1.toNat) 13) 2) ≠ 0 then (
      if ix v1 (ln h (hR h v0 0)) then
        some (w32 ((hI h v0 3) - (hI h (hR h (hR h v0 0) v1.toNat) 16)), h)
      else none
    ) else
    some (0, h)
  else none
def f_cSide_acknowledges_b151 (k21 : Nat → Int → Nat → Int → Int → Hp → Option (Hp)) (v0 : Nat) (v1 : Int) (v2 : Nat) (v3 : Int) (v4 : Int) (h : Hp) : Option (Hp) :=
  k21 v0 v1 v2 (w32 (v3 + (-1))) v4 h
def f_cSide_acknowledges_b123 (k21 : Nat → Int → Nat → Int → Int → Hp → Option (Hp)) (v0 : Nat) (v1 : Int) (v2 : Nat) (v3 : Int) (s0 : Int) (h : Hp) : Option (Hp) :=
  if s0 ≠ 0 then (
    f_cSide_acknowledges_b151 k21 v0 v1 v2 v3 s0 h
  ) else
  if hR h v0 42 = 0 then none else
  if ix v1 (ln h (hR h v0 42)) then
    if hR h v0 36 = 0 then none else
    b1 (f_cBytes_over (hR h v0 36) (hR h (hR h v0 42) v1.toNat) 0 (hI h (hR h v0 36) 2) h) fun h34 =>
    f_cSide_acknowledges_b151 k21 v0 v1 v2 v3 s0 h34
  else none
def f_cSide_acknowledges_b64 (k21 : Nat → Int → Nat → Int → Int → Hp → Option (Hp)) (k64 : Nat → Int → Nat → Int → Int → Hp → Option (Hp)) (v0 : Nat) (v1 : Int) (v2 : Nat) (v3 : Int) (v5 : Int) (h : Hp) : Option (Hp) :=
  if v3 ≤ v5 then (
    if hR h v0 38 = 0 then none else
    b1 (f_cFrame_write (hR h v0 38) (hR h v0 36) h) fun h20 =>
    if hR h20 v0 36 = 0 then none else
    if (hI h20 (hR h20 v0 36) 3) ≠ 0 then (
      f_cSide_acknowledges_b123 k21 v0 v1 v2 v3 0 h20
    ) else
    f_cSide_acknowledges_b123 k21 v0 v1 v2 v3 1 h20
  ) else
  if v2 = 0 then none else
  if hR h v2 0 = 0 then none else
  if ix v5 (ln h (hR h v2 0)) then
    if hR h v2 1 = 0 then none else
    if ix v5 (ln h (hR h v2 1)) then
      if hR h v0 38 = 0 then none else
      b1 (f_cFrame_span (hR h v0 38) (hJ h (hR h v2 0) v5.toNat) (hJ h (hR h v2 1) v5.toNat) h) fun h29 =>
      k64 v0 v1 v2 v3 (w32 (v5 + 1)) h29
    else none
  else none
def f_cSide_acknowledges_b64_lp (k21 : Nat → Int → Nat → Int → Int → Hp → Option (Hp)) : Nat → Nat → Int → Nat → Int → Int → Hp → Option (Hp)
  | 0, _, _, _, _, _, _ => none
  | n + 1, v0, v1, v2, v3, v5, h => f_cSide_acknowledges_b64 k21 (f_cSide_acknowledges_b64_lp k21 n) v0 v1 v2 v3 v5 h
def f_cSide_acknowledges_b21 (k21 : Nat → Int → Nat → Int → Int → Hp → Option (Hp)) (v0 : Nat) (v1 : Int) (v2 : Nat) (v3 : Int) (v4 : Int) (h : Hp) : Option (Hp) :=
  if v3 ≤ 0 then (
    some h
  ) else
  if v4 ≠ 0 then (
    some h
  ) else
  if hR h v0 38 = 0 then none else
  b1 (f_cFrame_clear (hR h v0 38) h) fun h9 =>
  if hR h9 v0 38 = 0 then none else
  lt1 (sI h9 (hR h9 v0 38) 0 2) fun h12 =>
  if hR h12 v0 9 = 0 then none else
  b2 (f_cBook_delay (hR h12 v0 9) v1 h12) fun r16 h14 =>
  if hR h12 v0 38 = 0 then none else
  lt1 (sJ h14 (hR h12 v0 38) 3 r16) fun h18 =>
  f_cSide_acknowledges_b64_lp k21 FU v0 v1 v2 v3 0 h18
def f_cSide_acknowledges_b21_lp : Nat → Nat → Int → Nat → Int → Int → Hp → Option (Hp)
  | 0, _, _, _, _, _, _ => none
  | n + 1, v0, v1, v2, v3, v4, h => f_cSide_acknowledges_b21 (f_cSide_acknowledges_b21_lp n) v0 v1 v2 v3 v4 h
def f_cSide_acknowledges (v0 : Nat) (v1 : Int) (h : Hp) : Option (Hp) :=
  if hR h v0 9 = 0 then none else
  if hR h (hR h v0 9) 0 = 0 then none else
  if ix v1 (ln h (hR h (hR h v0 9) 0)) then
    if hR h (hR h (hR h v0 9) 0) v1.toNat = 0 then none else
    lt1 (hR h (hR h (hR h (hR h v0 9) 0) v1.toNat) 13) fun y5 =>
    if y5 = 0 then none else
    lt1 (hI h y5 2) fun y7 =>
    f_cSide_acknowledges_b21_lp FU v0 v1 y5 y7 0 h
  else none
def f_cCrypto_next_b2 (k2 : Nat → Int → Int → Hp → Option (Int × Hp)) (v0 : Nat) (v1 : Int) (v2 : Int) (h : Hp) : Option (Int × Hp) :=
  if (hI h v0 1) ≤ v2 then (
    if v1 ≤ (hI h v0 1) then (
      some ((-1), h)
    ) else
    some (hI h v0 1, h)
  ) else
  if hR h v0 0 = 0 then none else
  if ix v2 (ln h (hR h v0 0)) then
    if (hI h (hR h v0 0) v2.toNat) ≠ 2 then (
      k2 v0 v1 (w32 (v2 + 1)) h
    ) else
    some (v2, h)
  else none
def f_cCrypto_next_b2_lp : Nat → Nat → Int → Int → Hp → Option (Int × Hp)
  | 0, _, _, _, _ => none
  | n + 1, v0, v1, v2, h => f_cCrypto_next_b2 (f_cCrypto_next_b2_lp n) v0 v1 v2 h
def f_cCrypto_next (v0 : Nat) (v1 : Int) (h : Hp) : Option (Int × Hp) :=
  f_cCrypto_next_b2_lp FU v0 v1 0 h
def f_cCrypto_fill_b138 (k138 : Nat → Int → Int → Int → Hp → Option (Int × Hp)) (v0 : Nat) (v4 : Int) (v6 : Int) (v8 : Int) (h : Hp) : Option (Int × Hp) :=
  if (w32 (v4 + v6)) ≤ v8 then (
    lt1 (sI h v0 1 (max (hI h v0 1) (w32 (v4 + v6)))) fun h21 =>
    some (1, h21)
  ) else
  if hR h v0 0 = 0 then none else
  if ix v8 (ln h (hR h v0 0)) then
    lt1 (sI h (hR h v0 0) v8.toNat (i8 1)) fun h24 =>
    k138 v0 v4 v6 (w32 (v8 + 1)) h24
  else none
def f_cCrypto_fill_b138_lp : Nat → Nat → Int → Int → Int → Hp → Option (Int × Hp)
  | 0, _, _, _, _, _ => none
  | n + 1, v0, v4, v6, v8, h => f_cCrypto_fill_b138 (f_cCrypto_fill_b138_lp n) v0 v4 v6 v8 h
def f_cCrypto_fill_b90 (v0 : Nat) (v1 : Nat) (v2 : Nat) (v4 : Int) (v6 : Int) (h : Hp) : Option (Int × Hp) :=
  if 0 < v6 then (
    if v1 = 0 then none else
    b1 (f_cFrame_clear v1 h) fun h13 =>
    lt1 (sI h13 v1 0 6) fun h15 =>
    lt1 (sJ h15 v1 3 v4) fun h16 =>
    if v2 = 0 then none else
    lt1 (sR h16 v1 7 (hR h16 v2 0)) fun h18 =>
    lt1 (sI h18 v1 8 v4) fun h19 =>
    lt1 (sI h19 v1 9 v6) fun h20 =>
    f_cCrypto_fill_b138_lp FU v0 v4 v6 v4 h20
  ) else
  some (0, h)
def f_cCrypto_fill_b50 (k50 : Nat → Nat → Nat → Int → Int → Int → Int → Hp → Option (Int × Hp)) (v0 : Nat) (v1 : Nat) (v2 : Nat) (v4 : Int) (v5 : Int) (v6 : Int) (v7 : Int) (h : Hp) : Option (Int × Hp) :=
  if v5 ≤ v6 then (
    f_cCrypto_fill_b90 v0 v1 v2 v4 v6 h
  ) else
  if v2 = 0 then none else
  if (hI h v2 1) ≤ (w32 (v4 + v6)) then (
    f_cCrypto_fill_b90 v0 v1 v2 v4 v6 h
  ) else
  if hR h v0 0 = 0 then none else
  if ix (w32 (v4 + v6)) (ln h (hR h v0 0)) then
    if (hI h (hR h v0 0) ((w32 (v4 + v6)).toNat)) ≠ v7 then (
      f_cCrypto_fill_b90 v0 v1 v2 v4 v6 h
    ) else
    k50 v0 v1 v2 v4 v5 (w32 (v6 + 1)) v7 h
  else none
def f_cCrypto_fill_b50_lp : Nat → Nat → Nat → Nat → Int → Int → Int → Int → Hp → Option (Int × Hp)
  | 0, _, _, _, _, _, _, _, _ => none
  | n + 1, v0, v1, v2, v4, v5, v6, v7, h => f_cCrypto_fill_b50 (f_cCrypto_fill_b50_lp n) v0 v1 v2 v4 v5 v6 v7 h
def f_cCrypto_fill_b48 (v0 : Nat) (v1 : Nat) (v2 : Nat) (v4 : Int) (v5 : Int) (v6 : Int) (s0 : Int) (h : Hp) : Option (Int × Hp) :=
  f_cCrypto_fill_b50_lp FU v0 v1 v2 v4 v5 v6 s0 h
def f_cCrypto_fill (v0 : Nat) (v1 : Nat) (v2 : Nat) (v3 : Int) (h : Hp) : Option (Int × Hp) :=
  if v2 = 0 then none else
  b2 (f_cCrypto_next v0 (hI h v2 1) h) fun r4 h2 =>
  if 0 ≤ r4 then (
    b2 (f_cBytes_sizeOf r4 h2) fun r7 h5 =>
    lt1 (w32 ((w32 ((w32 (v3 - 1)) - r7)) - 2)) fun y8 =>
    if (hI h5 v0 1) ≤ r4 then (
      f_cCrypto_fill_b48 v0 v1 v2 r4 y8 0 0 h5
    ) else
    f_cCrypto_fill_b48 v0 v1 v2 r4 y8 0 2 h5
  ) else
  some (0, h2)
def f_cCargo_twice_AI (v0 : Nat) (h : Hp) : Option (Nat × Hp) :=
  if v0 = 0 then none else
  if (0 : Int) ≤ (w32 (2 * (ln h v0 : Int))) ∧ hN h + 1 ≤ CN ∧ hZ h + (w32 (2 * (ln h v0 : Int))).toNat ≤ CZ then
    lt1 (nwC h 101 ((w32 (2 * (ln h v0 : Int))).toNat) ((w32 (2 * (ln h v0 : Int))).toNat)) fun h3 =>
    lt1 (hN h) fun y5 =>
    if cpk 0 0 (ln h3 v0 : Int) (ln h3 v0) (ln h3 y5) then
      lt1 (cpI h3 v0 (Int.toNat 0) y5 (Int.toNat 0) ((ln h3 v0 : Int).toNat)) fun h8 =>
      some (y5, h8)
    else none
  else none
def f_cCargo_twice_AB (v0 : Nat) (h : Hp) : Option (Nat × Hp) :=
  if v0 = 0 then none else
  if (0 : Int) ≤ (w32 (2 * (ln h v0 : Int))) ∧ hN h + 1 ≤ CN ∧ hZ h + (w32 (2 * (ln h v0 : Int))).toNat ≤ CZ then
    lt1 (nwC h 102 ((w32 (2 * (ln h v0 : Int))).toNat) ((w32 (2 * (ln h v0 : Int))).toNat)) fun h3 =>
    lt1 (hN h) fun y5 =>
    if cpk 0 0 (ln h3 v0 : Int) (ln h3 v0) (ln h3 y5) then
      lt1 (cpI h3 v0 (Int.toNat 0) y5 (Int.toNat 0) ((ln h3 v0 : Int).toNat)) fun h8 =>
      some (y5, h8)
    else none
  else none
def f_cCargo_add_b67 (v0 : Nat) (v1 : Nat) (h : Hp) : Option (Hp) :=
  if v1 = 0 then none else
  if hR h v0 2 = 0 then none else
  if ix (hI h v0 7) (ln h (hR h v0 2)) then
    lt1 (sI h (hR h v0 2) ((hI h v0 7).toNat) (i8 (i8 (hI h v1 0)))) fun h25 =>
    if hR h25 v0 3 = 0 then none else
    if ix (hI h25 v0 7) (ln h25 (hR h25 v0 3)) then
      lt1 (sJ h25 (hR h25 v0 3) ((hI h25 v0 7).toNat) (hJ h25 v1 2)) fun h28 =>
      if hR h28 v0 4 = 0 then none else
      if ix (hI h28 v0 7) (ln h28 (hR h28 v0 4)) then
        lt1 (sJ h28 (hR h28 v0 4) ((hI h28 v0 7).toNat) (hJ h28 v1 3)) fun h31 =>
        if hR h31 v0 1 = 0 then none else
        if ix (hI h31 v0 7) (ln h31 (hR h31 v0 1)) then
          lt1 (sI h31 (hR h31 v0 1) ((hI h31 v0 7).toNat) (hI h31 v1 9)) fun h34 =>
          if hR h34 v0 5 = 0 then none else
          if ix (hI h34 v0 7) (ln h34 (hR h34 v0 5)) then
            lt1 (sJ h34 (hR h34 v0 5) ((hI h34 v0 7).toNat) (hJ h34 v1 4)) fun h37 =>
            lt1 (sI h37 v0 7 (w32 ((hI h37 v0 7) + 1))) fun h38 =>
            some h38
          else none
        else none
      else none
    else none
  else none
def f_cCargo_add (v0 : Nat) (v1 : Nat) (h : Hp) : Option (Hp) :=
  if hR h v0 2 = 0 then none else
  if (hI h v0 7) ≠ (ln h (hR h v0 2) : Int) then (
    f_cCargo_add_b67 v0 v1 h
  ) else
  b2 (f_cCargo_twice_AI (hR h v0 1) h) fun r4 h2 =>
  lt1 (sR h2 v0 1 r4) fun h5 =>
  b2 (f_cCargo_twice_AB (hR h5 v0 2) h5) fun r8 h6 =>
  lt1 (sR h6 v0 2 r8) fun h9 =>
  b2 (f_cFrame_twice (hR h9 v0 3) h9) fun r12 h10 =>
  lt1 (sR h10 v0 3 r12) fun h13 =>
  b2 (f_cFrame_twice (hR h13 v0 4) h13) fun r16 h14 =>
  lt1 (sR h14 v0 4 r16) fun h17 =>
  b2 (f_cFrame_twice (hR h17 v0 5) h17) fun r20 h18 =>
  lt1 (sR h18 v0 5 r20) fun h21 =>
  f_cCargo_add_b67 v0 v1 h21
def f_cSide_put_I (v0 : Nat) (v1 : Int) (h : Hp) : Option (Hp) :=
  if hR h v0 38 = 0 then none else
  b1 (f_cFrame_write (hR h v0 38) (hR h v0 36) h) fun h2 =>
  if hR h2 v0 10 = 0 then none else
  if ix v1 (ln h2 (hR h2 v0 10)) then
    if hR h2 (hR h2 v0 10) v1.toNat = 0 then none else
    b1 (f_cCargo_add (hR h2 (hR h2 v0 10) v1.toNat) (hR h2 v0 38) h2) fun h7 =>
    if hR h7 v0 44 = 0 then none else
    if ix v1 (ln h7 (hR h7 v0 44)) then
      lt1 (sI h7 (hR h7 v0 44) v1.toNat 1) fun h11 =>
      some h11
    else none
  else none
def f_cHall_frame_b70 (v0 : Nat) (v1 : Int) (v2 : Int) (v4 : Int) (v6 : Int) (v8 : Int) (s0 : Int) (s1 : Int) (h : Hp) : Option (Int × Hp) :=
  lt1 (w32 (s0 + s1)) fun y10 =>
  if y10 ≤ v8 then (
    lt1 (sI h v0 17 v1) fun h11 =>
    lt1 (sJ h11 v0 19 v2) fun h12 =>
    lt1 (sJ h12 v0 20 v4) fun h13 =>
    lt1 (sJ h13 v0 21 v6) fun h14 =>
    lt1 (sI h14 v0 18 0) fun h15 =>
    some (1, h15)
  ) else
  some (0, h)
def f_cHall_frame_b54 (v0 : Nat) (v1 : Int) (v2 : Int) (v4 : Int) (v6 : Int) (v8 : Int) (v9 : Int) (s0 : Int) (s1 : Int) (h : Hp) : Option (Int × Hp) :=
  if v9 ≤ 2 then (
    f_cHall_frame_b70 v0 v1 v2 v4 v6 v8 (w32 (s0 + s1)) 0 h
  ) else
  b2 (f_cP_sizeOf v6 h) fun r9 h7 =>
  f_cHall_frame_b70 v0 v1 v2 v4 v6 v8 (w32 (s0 + s1)) r9 h7
def f_cHall_frame_b31 (v0 : Nat) (v1 : Int) (v2 : Int) (v4 : Int) (v6 : Int) (v8 : Int) (s0 : Int) (h : Hp) : Option (Int × Hp) :=
  b2 (f_cP_sizeOf v2 h) fun r3 h1 =>
  if s0 ≤ 1 then (
    f_cHall_frame_b54 v0 v1 v2 v4 v6 v8 s0 (w32 (1 + r3)) 0 h1
  ) else
  b2 (f_cP_sizeOf v4 h1) fun r6 h4 =>
  f_cHall_frame_b54 v0 v1 v2 v4 v6 v8 s0 (w32 (1 + r3)) r6 h4
def f_cHall_frame_b26 (v0 : Nat) (v1 : Int) (v2 : Int) (v4 : Int) (v6 : Int) (v8 : Int) (h : Hp) : Option (Int × Hp) :=
  f_cHall_frame_b31 v0 v1 v2 v4 v6 v8 2 h
def f_cHall_frame (v0 : Nat) (v1 : Int) (v2 : Int) (v4 : Int) (v6 : Int) (v8 : Int) (h : Hp) : Option (Int × Hp) :=
  if v1 ≠ 4 then (
    if v1 = 5 then (
      f_cHall_frame_b26 v0 v1 v2 v4 v6 v8 h
    ) else
    if v1 = 17 then (
      f_cHall_frame_b26 v0 v1 v2 v4 v6 v8 h
    ) else
    if v1 ≠ 21 then (
      f_cHall_frame_b31 v0 v1 v2 v4 v6 v8 1 h
    ) else
    f_cHall_frame_b26 v0 v1 v2 v4 v6 v8 h
  ) else
  f_cHall_frame_b31 v0 v1 v2 v4 v6 v8 3 h
def f_cHall_fillsEnds_b131 (k73 : Nat → Int → Int → Hp → Option (Int × Hp)) (v0 : Nat) (v1 : Int) (v2 : Int) (h : Hp) : Option (Int × Hp) :=
  k73 v0 v1 (w32 (v2 + 1)) h
def f_cHall_fillsEnds_b73 (k73 : Nat → Int → Int → Hp → Option (Int × Hp)) (v0 : Nat) (v1 : Int) (v2 : Int) (h : Hp) : Option (Int × Hp) :=
  if 256 ≤ v2 then (
    some (0, h)
  ) else
  if hR h v0 2 = 0 then none else
  if ix v2 (ln h (hR h v0 2)) then
    lt1 (hR h (hR h v0 2) v2.toNat) fun y11 =>
    if y11 = 0 then (
      f_cHall_fillsEnds_b131 k73 v0 v1 v2 h
    ) else
    if y11 = 0 then none else
    b2 (f_cReceiving_isLive y11 h) fun r15 h13 =>
    if r15 = 0 then (
      f_cHall_fillsEnds_b131 k73 v0 v1 v2 h13
    ) else
    if (hI h13 y11 11) = 0 then (
      f_cHall_fillsEnds_b131 k73 v0 v1 v2 h13
    ) else
    b2 (f_cHall_frame v0 5 v2 (hJ h13 y11 9) 0 v1 h13) fun r18 h16 =>
    if r18 ≠ 0 then (
      lt1 (sI h16 y11 11 0) fun h19 =>
      some (1, h19)
    ) else
    f_cHall_fillsEnds_b131 k73 v0 v1 v2 h16
  else none
def f_cHall_fillsEnds_b73_lp : Nat → Nat → Int → Int → Hp → Option (Int × Hp)
  | 0, _, _, _, _ => none
  | n + 1, v0, v1, v2, h => f_cHall_fillsEnds_b73 (f_cHall_fillsEnds_b73_lp n) v0 v1 v2 h
def f_cHall_fillsEnds_b65 (k2 : Nat → Int → Int → Hp → Option (Int × Hp)) (v0 : Nat) (v1 : Int) (v2 : Int) (h : Hp) : Option (Int × Hp) :=
  k2 v0 v1 (w32 (v2 + 1)) h
def f_cHall_fillsEnds_b2 (k2 : Nat → Int → Int → Hp → Option (Int × Hp)) (v0 : Nat) (v1 : Int) (v2 : Int) (h : Hp) : Option (Int × Hp) :=
  if 256 ≤ v2 then (
    f_cHall_fillsEnds_b73_lp FU v0 v1 0 h
  ) else
  if hR h v0 1 = 0 then none else
  if ix v2 (ln h (hR h v0 1)) then
    lt1 (hR h (hR h v0 1) v2.toNat) fun y3 =>
    if y3 = 0 then (
      f_cHall_fillsEnds_b65 k2 v0 v1 v2 h
    ) else
    if y3 = 0 then none else
    if (hI h y3 0) ≠ 3 then (
      f_cHall_fillsEnds_b65 k2 v0 v1 v2 h
    ) else
    if (hI h y3 11) = 0 then (
      f_cHall_fillsEnds_b65 k2 v0 v1 v2 h
    ) else
    b2 (f_cHall_frame v0 4 v2 (hJ h y3 9) (hI h y3 2) v1 h) fun r7 h5 =>
    if r7 ≠ 0 then (
      lt1 (sI h5 y3 11 0) fun h8 =>
      some (1, h8)
    ) else
    f_cHall_fillsEnds_b65 k2 v0 v1 v2 h5
  else none
def f_cHall_fillsEnds_b2_lp : Nat → Nat → Int → Int → Hp → Option (Int × Hp)
  | 0, _, _, _, _ => none
  | n + 1, v0, v1, v2, h => f_cHall_fillsEnds_b2 (f_cHall_fillsEnds_b2_lp n) v0 v1 v2 h
def f_cHall_fillsEnds (v0 : Nat) (v1 : Int) (h : Hp) : Option (Int × Hp) :=
  f_cHall_fillsEnds_b2_lp FU v0 v1 0 h
def f_cHall_fillsGrants_b157 (k101 : Nat → Int → Int → Hp → Option (Int × Hp)) (v0 : Nat) (v1 : Int) (v2 : Int) (h : Hp) : Option (Int × Hp) :=
  k101 v0 v1 (w32 (v2 + 1)) h
def f_cHall_fillsGrants_b101 (k101 : Nat → Int → Int → Hp → Option (Int × Hp)) (v0 : Nat) (v1 : Int) (v2 : Int) (h : Hp) : Option (Int × Hp) :=
  if 2 ≤ v2 then (
    some (0, h)
  ) else
  if hR h v0 3 = 0 then none else
  if ix v2 (ln h (hR h v0 3)) then
    if hR h (hR h v0 3) v2.toNat = 0 then none else
    if (hI h (hR h (hR h v0 3) v2.toNat) 6) = 0 then (
      f_cHall_fillsGrants_b157 k101 v0 v1 v2 h
    ) else
    if ix v2 (ln h (hR h v0 3)) then
      b2 (f_cHall_frame v0 (w32 (18 + v2)) (hI h (hR h (hR h v0 3) v2.toNat) 2) 0 0 v1 h) fun r19 h17 =>
      if r19 ≠ 0 then (
        if hR h17 v0 3 = 0 then none else
        if ix v2 (ln h17 (hR h17 v0 3)) then
          if hR h17 (hR h17 v0 3) v2.toNat = 0 then none else
          lt1 (sI h17 (hR h17 (hR h17 v0 3) v2.toNat) 6 0) fun h23 =>
          some (1, h23)
        else none
      ) else
      f_cHall_fillsGrants_b157 k101 v0 v1 v2 h17
    else none
  else none
def f_cHall_fillsGrants_b101_lp : Nat → Nat → Int → Int → Hp → Option (Int × Hp)
  | 0, _, _, _, _ => none
  | n + 1, v0, v1, v2, h => f_cHall_fillsGrants_b101 (f_cHall_fillsGrants_b101_lp n) v0 v1 v2 h
def f_cHall_fillsGrants_b93 (k33 : Nat → Int → Int → Hp → Option (Int × Hp)) (v0 : Nat) (v1 : Int) (v2 : Int) (h : Hp) : Option (Int × Hp) :=
  k33 v0 v1 (w32 (v2 + 1)) h
def f_cHall_fillsGrants_b33 (k33 : Nat → Int → Int → Hp → Option (Int × Hp)) (v0 : Nat) (v1 : Int) (v2 : Int) (h : Hp) : Option (Int × Hp) :=
  if 256 ≤ v2 then (
    f_cHall_fillsGrants_b101_lp FU v0 v1 0 h
  ) else
  if hR h v0 2 = 0 then none else
  if ix v2 (ln h (hR h v0 2)) then
    lt1 (hR h (hR h v0 2) v2.toNat) fun y7 =>
    if y7 = 0 then (
      f_cHall_fillsGrants_b93 k33 v0 v1 v2 h
    ) else
    if y7 = 0 then none else
    if (hI h y7 1) ≠ 0 then (
      f_cHall_fillsGrants_b93 k33 v0 v1 v2 h
    ) else
    if (hI h y7 10) = 0 then (
      f_cHall_fillsGrants_b93 k33 v0 v1 v2 h
    ) else
    b2 (f_cHall_frame v0 17 v2 (hI h y7 6) 0 v1 h) fun r11 h9 =>
    if r11 ≠ 0 then (
      lt1 (sI h9 y7 10 0) fun h12 =>
      some (1, h12)
    ) else
    f_cHall_fillsGrants_b93 k33 v0 v1 v2 h9
  else none
def f_cHall_fillsGrants_b33_lp : Nat → Nat → Int → Int → Hp → Option (Int × Hp)
  | 0, _, _, _, _ => none
  | n + 1, v0, v1, v2, h => f_cHall_fillsGrants_b33 (f_cHall_fillsGrants_b33_lp n) v0 v1 v2 h
def f_cHall_fillsGrants_b31 (v0 : Nat) (v1 : Int) (h : Hp) : Option (Int × Hp) :=
  f_cHall_fillsGrants_b33_lp FU v0 v1 0 h
def f_cHall_fillsGrants (v0 : Nat) (v1 : Int) (h : Hp) : Option (Int × Hp) :=
  if (hI h v0 16) = 0 then (
    f_cHall_fillsGrants_b31 v0 v1 h
  ) else
  b2 (f_cHall_frame v0 16 (hI h v0 14) 0 0 v1 h) fun r3 h1 =>
  if r3 = 0 then (
    f_cHall_fillsGrants_b31 v0 v1 h1
  ) else
  lt1 (sI h1 v0 16 0) fun h4 =>
  some (1, h4)
def f_cHall_waits (v0 : Nat) (h : Hp) : Option (Int × Hp) :=
  if v0 = 0 then (
    some (0, h)
  ) else
  if v0 = 0 then none else
  b2 (f_cSending_isLive v0 h) fun r4 h2 =>
  if r4 = 0 then (
    some (0, h2)
  ) else
  if (hI h2 v0 1) ≤ (hI h2 v0 2) then (
    some (0, h2)
  ) else
  some (1, h2)
def f_cHall_fillsBlocked_b45 (k4 : Nat → Int → Int → Int → Hp → Option (Int × Hp)) (v0 : Nat) (v1 : Int) (v3 : Int) (s0 : Int) (h : Hp) : Option (Int × Hp) :=
  k4 v0 v1 s0 (w32 (v3 + 1)) h
def f_cHall_fillsBlocked_b264 (k189 : Nat → Int → Int → Hp → Option (Int × Hp)) (v0 : Nat) (v1 : Int) (v3 : Int) (h : Hp) : Option (Int × Hp) :=
  k189 v0 v1 (w32 (v3 + 1)) h
def f_cHall_fillsBlocked_b189 (k189 : Nat → Int → Int → Hp → Option (Int × Hp)) (v0 : Nat) (v1 : Int) (v3 : Int) (h : Hp) : Option (Int × Hp) :=
  if 2 ≤ v3 then (
    some (0, h)
  ) else
  if hR h v0 3 = 0 then none else
  if ix v3 (ln h (hR h v0 3)) then
    lt1 (hR h (hR h v0 3) v3.toNat) fun y23 =>
    if y23 = 0 then none else
    if (hJ h y23 4) ≠ (hJ h y23 3) then (
      f_cHall_fillsBlocked_b264 k189 v0 v1 v3 h
    ) else
    if (hJ h y23 5) = (hJ h y23 3) then (
      f_cHall_fillsBlocked_b264 k189 v0 v1 v3 h
    ) else
    b2 (f_cHall_frame v0 (w32 (22 + v3)) (hJ h y23 3) 0 0 v1 h) fun r27 h25 =>
    if r27 ≠ 0 then (
      lt1 (sJ h25 y23 5 (hJ h25 y23 3)) fun h28 =>
      some (1, h28)
    ) else
    f_cHall_fillsBlocked_b264 k189 v0 v1 v3 h25
  else none
def f_cHall_fillsBlocked_b189_lp : Nat → Nat → Int → Int → Hp → Option (Int × Hp)
  | 0, _, _, _, _ => none
  | n + 1, v0, v1, v3, h => f_cHall_fillsBlocked_b189 (f_cHall_fillsBlocked_b189_lp n) v0 v1 v3 h
def f_cHall_fillsBlocked_b181 (k96 : Nat → Int → Int → Hp → Option (Int × Hp)) (v0 : Nat) (v1 : Int) (v3 : Int) (h : Hp) : Option (Int × Hp) :=
  k96 v0 v1 (w32 (v3 + 1)) h
def f_cHall_fillsBlocked_b96 (k96 : Nat → Int → Int → Hp → Option (Int × Hp)) (v0 : Nat) (v1 : Int) (v3 : Int) (h : Hp) : Option (Int × Hp) :=
  if 256 ≤ v3 then (
    f_cHall_fillsBlocked_b189_lp FU v0 v1 0 h
  ) else
  if hR h v0 1 = 0 then none else
  if ix v3 (ln h (hR h v0 1)) then
    lt1 (hR h (hR h v0 1) v3.toNat) fun y12 =>
    b2 (f_cHall_waits y12 h) fun r15 h13 =>
    if r15 = 0 then (
      f_cHall_fillsBlocked_b181 k96 v0 v1 v3 h13
    ) else
    if y12 = 0 then none else
    if (hI h13 y12 2) ≠ (hJ h13 y12 8) then (
      f_cHall_fillsBlocked_b181 k96 v0 v1 v3 h13
    ) else
    if (hJ h13 y12 10) = (hJ h13 y12 8) then (
      f_cHall_fillsBlocked_b181 k96 v0 v1 v3 h13
    ) else
    b2 (f_cHall_frame v0 21 v3 (hJ h13 y12 8) 0 v1 h13) fun r19 h17 =>
    if r19 ≠ 0 then (
      lt1 (sJ h17 y12 10 (hJ h17 y12 8)) fun h20 =>
      some (1, h20)
    ) else
    f_cHall_fillsBlocked_b181 k96 v0 v1 v3 h17
  else none
def f_cHall_fillsBlocked_b96_lp : Nat → Nat → Int → Int → Hp → Option (Int × Hp)
  | 0, _, _, _, _ => none
  | n + 1, v0, v1, v3, h => f_cHall_fillsBlocked_b96 (f_cHall_fillsBlocked_b96_lp n) v0 v1 v3 h
def f_cHall_fillsBlocked_b94 (v0 : Nat) (v1 : Int) (h : Hp) : Option (Int × Hp) :=
  f_cHall_fillsBlocked_b96_lp FU v0 v1 0 h
def f_cHall_fillsBlocked_b52 (v0 : Nat) (v1 : Int) (v2 : Int) (h : Hp) : Option (Int × Hp) :=
  if v2 = 0 then (
    f_cHall_fillsBlocked_b94 v0 v1 h
  ) else
  if (hJ h v0 10) = (hJ h v0 9) then (
    f_cHall_fillsBlocked_b94 v0 v1 h
  ) else
  b2 (f_cHall_frame v0 20 (hJ h v0 9) 0 0 v1 h) fun r8 h6 =>
  if r8 = 0 then (
    f_cHall_fillsBlocked_b94 v0 v1 h6
  ) else
  lt1 (sJ h6 v0 10 (hJ h6 v0 9)) fun h9 =>
  some (1, h9)
def f_cHall_fillsBlocked_b40 (k4 : Nat → Int → Int → Int → Hp → Option (Int × Hp)) (v0 : Nat) (v1 : Int) (v3 : Int) (h : Hp) : Option (Int × Hp) :=
  f_cHall_fillsBlocked_b45 k4 v0 v1 v3 1 h
def f_cHall_fillsBlocked_b4 (k4 : Nat → Int → Int → Int → Hp → Option (Int × Hp)) (v0 : Nat) (v1 : Int) (v2 : Int) (v3 : Int) (h : Hp) : Option (Int × Hp) :=
  if 256 ≤ v3 then (
    f_cHall_fillsBlocked_b52 v0 v1 v2 h
  ) else
  if (hI h v0 11) ≠ (hJ h v0 9) then (
    f_cHall_fillsBlocked_b52 v0 v1 v2 h
  ) else
  if v2 ≠ 0 then (
    f_cHall_fillsBlocked_b40 k4 v0 v1 v3 h
  ) else
  if hR h v0 1 = 0 then none else
  if ix v3 (ln h (hR h v0 1)) then
    b2 (f_cHall_waits (hR h (hR h v0 1) v3.toNat) h) fun r5 h3 =>
    if r5 = 0 then (
      f_cHall_fillsBlocked_b45 k4 v0 v1 v3 0 h3
    ) else
    f_cHall_fillsBlocked_b40 k4 v0 v1 v3 h3
  else none
def f_cHall_fillsBlocked_b4_lp : Nat → Nat → Int → Int → Int → Hp → Option (Int × Hp)
  | 0, _, _, _, _, _ => none
  | n + 1, v0, v1, v2, v3, h => f_cHall_fillsBlocked_b4 (f_cHall_fillsBlocked_b4_lp n) v0 v1 v2 v3 h
def f_cHall_fillsBlocked (v0 : Nat) (v1 : Int) (h : Hp) : Option (Int × Hp) :=
  f_cHall_fillsBlocked_b4_lp FU v0 v1 0 0 h
def f_cStore_copy_b92 (k12 : Nat → Int → Nat → Int → Int → Int → Int → Hp → Option (Hp)) (v0 : Nat) (v2 : Int) (v3 : Nat) (v4 : Int) (v5 : Int) (v6 : Int) (v7 : Int) (h : Hp) : Option (Hp) :=
  if hR h v0 3 = 0 then none else
  if ix v5 (ln h (hR h v0 3)) then
    lt1 (w32 (v6 + (hI h (hR h v0 3) v5.toNat))) fun y16 =>
    if hR h v0 4 = 0 then none else
    if ix v5 (ln h (hR h v0 4)) then
      lt1 (hI h (hR h v0 4) v5.toNat) fun y19 =>
      k12 v0 v2 v3 v4 y19 y16 v7 h
    else none
  else none
def f_cStore_copy_b12 (k12 : Nat → Int → Nat → Int → Int → Int → Int → Hp → Option (Hp)) (v0 : Nat) (v2 : Int) (v3 : Nat) (v4 : Int) (v5 : Int) (v6 : Int) (v7 : Int) (h : Hp) : Option (Hp) :=
  if v5 = (-1) then (
    some h
  ) else
  if v4 ≤ v7 then (
    some h
  ) else
  lt1 (max (w32 ((w32 (v2 + v7)) - v6)) 0) fun y3 =>
  if hR h v0 3 = 0 then none else
  if ix v5 (ln h (hR h v0 3)) then
    lt1 (min (w32 ((hI h (hR h v0 3) v5.toNat) - y3)) (w32 (v4 - v7))) fun y6 =>
    if y6 ≤ 0 then (
      f_cStore_copy_b92 k12 v0 v2 v3 v4 v5 v6 v7 h
    ) else
    if hR h v0 2 = 0 then none else
    if ix v5 (ln h (hR h v0 2)) then
      if hR h v0 0 = 0 then none else
      if v3 = 0 then none else
      if cpk (w32 ((hI h (hR h v0 2) v5.toNat) + y3)) v7 y6 (ln h (hR h v0 0)) (ln h v3) then
        lt1 (cpI h (hR h v0 0) ((w32 ((hI h (hR h v0 2) v5.toNat) + y3)).toNat) v3 v7.toNat y6.toNat) fun h12 =>
        lt1 (w32 (v7 + y6)) fun y13 =>
        f_cStore_copy_b92 k12 v0 v2 v3 v4 v5 v6 y13 h12
      else none
    else none
  else none
def f_cStore_copy_b12_lp : Nat → Nat → Int → Nat → Int → Int → Int → Int → Hp → Option (Hp)
  | 0, _, _, _, _, _, _, _, _ => none
  | n + 1, v0, v2, v3, v4, v5, v6, v7, h => f_cStore_copy_b12 (f_cStore_copy_b12_lp n) v0 v2 v3 v4 v5 v6 v7 h
def f_cStore_copy (v0 : Nat) (v1 : Nat) (v2 : Int) (v3 : Nat) (v4 : Int) (h : Hp) : Option (Hp) :=
  if v1 = 0 then none else
  lt1 (hI h v1 4) fun y2 =>
  f_cStore_copy_b12_lp FU v0 v2 v3 v4 y2 0 0 h
def f_cHall_fills_b337 (v0 : Nat) (v2 : Nat) (v12 : Int) (h : Hp) : Option (Int × Hp) :=
  if v2 = 0 then none else
  lt1 (sI h v0 11 (w32 ((hI h v0 11) + (max (w32 (v12 - (hI h v2 2))) 0)))) fun h38 =>
  lt1 (sI h38 v2 2 (max (hI h38 v2 2) v12)) fun h39 =>
  if (hJ h39 v0 21) ≠ 1 then (
    some (1, h39)
  ) else
  if (hI h39 v2 3) = 4 then (
    some (1, h39)
  ) else
  lt1 (sI h39 v2 3 2) fun h40 =>
  some (1, h40)
def f_cHall_fills_b310 (v0 : Nat) (v2 : Nat) (v4 : Int) (v5 : Int) (v12 : Int) (s0 : Nat) (s1 : Int) (h : Hp) : Option (Int × Hp) :=
  if s0 = 0 then none else
  lt1 (sJ h s0 21 s1) fun h30 =>
  if v4 = 0 then (
    f_cHall_fills_b337 v0 v2 v12 h30
  ) else
  if v2 = 0 then none else
  if hR h30 v0 6 = 0 then none else
  b2 (f_cSpans_cut (hR h30 v0 6) (hI h30 v2 6) v5 v12 h30) fun r35 h33 =>
  lt1 (sI h33 v2 6 r35) fun h36 =>
  f_cHall_fills_b337 v0 v2 v12 h36
def f_cHall_fills_b309 (v0 : Nat) (v2 : Nat) (v4 : Int) (v5 : Int) (v12 : Int) (s0 : Nat) (h : Hp) : Option (Int × Hp) :=
  f_cHall_fills_b310 v0 v2 v4 v5 v12 s0 0 h
def f_cHall_fills_b230 (v0 : Nat) (v1 : Int) (v2 : Nat) (v4 : Int) (v5 : Int) (v8 : Int) (v11 : Int) (h : Hp) : Option (Int × Hp) :=
  lt1 (sI h v0 17 8) fun h20 =>
  lt1 (sJ h20 v0 19 v1) fun h21 =>
  lt1 (sJ h21 v0 20 v5) fun h22 =>
  lt1 (sI h22 v0 18 (min v8 v11)) fun h23 =>
  if hR h23 v0 7 = 0 then none else
  b1 (f_cStore_copy (hR h23 v0 7) v2 v5 (hR h23 v0 22) (hI h23 v0 18) h23) fun h25 =>
  lt1 (w32 (v5 + (hI h25 v0 18))) fun y27 =>
  if v2 = 0 then none else
  if (hI h25 v2 0) ≠ 1 then (
    f_cHall_fills_b309 v0 v2 v4 v5 y27 v0 h25
  ) else
  if y27 ≠ (hI h25 v2 1) then (
    f_cHall_fills_b309 v0 v2 v4 v5 y27 v0 h25
  ) else
  f_cHall_fills_b310 v0 v2 v4 v5 y27 v0 1 h25
def f_cHall_fills_b215 (v0 : Nat) (v1 : Int) (v2 : Nat) (v4 : Int) (v5 : Int) (v8 : Int) (v9 : Int) (v11 : Int) (s0 : Int) (s1 : Int) (h : Hp) : Option (Int × Hp) :=
  if s0 < s1 then (
    some (0, h)
  ) else
  if v8 ≠ 0 then (
    f_cHall_fills_b230 v0 v1 v2 v4 v5 v8 v11 h
  ) else
  if v9 ≠ 0 then (
    f_cHall_fills_b230 v0 v1 v2 v4 v5 v8 v11 h
  ) else
  some (0, h)
def f_cHall_fills_b201 (v0 : Nat) (v1 : Int) (v2 : Nat) (v4 : Int) (v5 : Int) (v8 : Int) (v9 : Int) (s0 : Int) (h : Hp) : Option (Int × Hp) :=
  if v9 = 0 then (
    f_cHall_fills_b215 v0 v1 v2 v4 v5 v8 v9 s0 s0 1 h
  ) else
  f_cHall_fills_b215 v0 v1 v2 v4 v5 v8 v9 s0 s0 0 h
def f_cHall_fills_b175 (v0 : Nat) (v1 : Int) (v2 : Nat) (v4 : Int) (v5 : Int) (v8 : Int) (v9 : Int) (s0 : Int) (s1 : Int) (h : Hp) : Option (Int × Hp) :=
  lt1 (w32 (s0 - s1)) fun y19 =>
  if 66 ≤ y19 then (
    f_cHall_fills_b201 v0 v1 v2 v4 v5 v8 v9 (w32 (y19 - 2)) h
  ) else
  f_cHall_fills_b201 v0 v1 v2 v4 v5 v8 v9 (min (w32 (y19 - 1)) 63) h
def f_cHall_fills_b149 (v0 : Nat) (v1 : Int) (v2 : Nat) (v3 : Int) (v4 : Int) (v5 : Int) (v8 : Int) (s0 : Int) (h : Hp) : Option (Int × Hp) :=
  b2 (f_cP_sizeOf v1 h) fun r15 h13 =>
  if v5 ≠ 0 then (
    b2 (f_cP_sizeOf v5 h13) fun r18 h16 =>
    f_cHall_fills_b175 v0 v1 v2 v4 v5 v8 s0 (w32 ((w32 (v3 - 1)) - r15)) r18 h16
  ) else
  f_cHall_fills_b175 v0 v1 v2 v4 v5 v8 s0 (w32 ((w32 (v3 - 1)) - r15)) 0 h13
def f_cHall_fills_b144 (v0 : Nat) (v1 : Int) (v2 : Nat) (v3 : Int) (v4 : Int) (v5 : Int) (v8 : Int) (h : Hp) : Option (Int × Hp) :=
  f_cHall_fills_b149 v0 v1 v2 v3 v4 v5 v8 1 h
def f_cHall_fills_b148 (v0 : Nat) (v1 : Int) (v2 : Nat) (v3 : Int) (v4 : Int) (v5 : Int) (v8 : Int) (h : Hp) : Option (Int × Hp) :=
  f_cHall_fills_b149 v0 v1 v2 v3 v4 v5 v8 0 h
def f_cHall_fills_b110 (v0 : Nat) (v1 : Int) (v2 : Nat) (v3 : Int) (v4 : Int) (v5 : Int) (s0 : Int) (h : Hp) : Option (Int × Hp) :=
  if s0 ≠ 0 then (
    f_cHall_fills_b148 v0 v1 v2 v3 v4 v5 s0 h
  ) else
  if v2 = 0 then none else
  if (hI h v2 2) ≠ (hI h v2 1) then (
    f_cHall_fills_b148 v0 v1 v2 v3 v4 v5 s0 h
  ) else
  if (hI h v2 3) = 1 then (
    f_cHall_fills_b144 v0 v1 v2 v3 v4 v5 s0 h
  ) else
  if (hI h v2 3) ≠ 3 then (
    f_cHall_fills_b148 v0 v1 v2 v3 v4 v5 s0 h
  ) else
  f_cHall_fills_b144 v0 v1 v2 v3 v4 v5 s0 h
def f_cHall_fills_b39 (v0 : Nat) (v1 : Int) (v2 : Nat) (v3 : Int) (v4 : Int) (s0 : Int) (h : Hp) : Option (Int × Hp) :=
  if v2 = 0 then none else
  lt1 (min (hI h v2 1) (min (hJ h v2 8) (w64 ((w64 ((hI h v2 2) + (hJ h v0 9))) - (hI h v0 11))))) fun y8 =>
  if v4 = 0 then (
    f_cHall_fills_b110 v0 v1 v2 v3 v4 s0 (w32 (max (w64 (y8 - (hI h v2 2))) 0)) h
  ) else
  if hR h v0 6 = 0 then none else
  if hR h (hR h v0 6) 1 = 0 then none else
  if ix (hI h v2 6) (ln h (hR h (hR h v0 6) 1)) then
    f_cHall_fills_b110 v0 v1 v2 v3 v4 s0 (w32 ((hI h (hR h (hR h v0 6) 1) ((hI h v2 6).toNat)) - s0)) h
  else none
def f_cHall_fills_b13 (v0 : Nat) (v1 : Int) (v2 : Nat) (v3 : Int) (s0 : Int) (h : Hp) : Option (Int × Hp) :=
  if s0 = 0 then (
    if v2 = 0 then none else
    f_cHall_fills_b39 v0 v1 v2 v3 s0 (hI h v2 2) h
  ) else
  if hR h v0 6 = 0 then none else
  if v2 = 0 then none else
  if hR h (hR h v0 6) 0 = 0 then none else
  if ix (hI h v2 6) (ln h (hR h (hR h v0 6) 0)) then
    f_cHall_fills_b39 v0 v1 v2 v3 s0 (hI h (hR h (hR h v0 6) 0) ((hI h v2 6).toNat)) h
  else none
def f_cHall_fills (v0 : Nat) (v1 : Int) (v2 : Nat) (v3 : Int) (h : Hp) : Option (Int × Hp) :=
  if v2 = 0 then none else
  if (hI h v2 6) = (-1) then (
    f_cHall_fills_b13 v0 v1 v2 v3 0 h
  ) else
  f_cHall_fills_b13 v0 v1 v2 v3 1 h
def f_cHall_fillsStream_b62 (k2 : Nat → Int → Int → Hp → Option (Int × Hp)) (v0 : Nat) (v1 : Int) (v2 : Int) (h : Hp) : Option (Int × Hp) :=
  k2 v0 v1 (w32 (v2 + 1)) h
def f_cHall_fillsStream_b2 (k2 : Nat → Int → Int → Hp → Option (Int × Hp)) (v0 : Nat) (v1 : Int) (v2 : Int) (h : Hp) : Option (Int × Hp) :=
  if 256 < v2 then (
    some (0, h)
  ) else
  lt1 (iRem (w32 ((hI h v0 15) + v2)) 256) fun y1 =>
  if hR h v0 1 = 0 then none else
  if ix y1 (ln h (hR h v0 1)) then
    lt1 (hR h (hR h v0 1) y1.toNat) fun y4 =>
    if y4 = 0 then (
      f_cHall_fillsStream_b62 k2 v0 v1 v2 h
    ) else
    if y4 = 0 then none else
    b2 (f_cSending_isLive y4 h) fun r8 h6 =>
    if r8 = 0 then (
      f_cHall_fillsStream_b62 k2 v0 v1 v2 h6
    ) else
    b2 (f_cHall_fills v0 y1 y4 v1 h6) fun r11 h9 =>
    if r11 ≠ 0 then (
      lt1 (sI h9 v0 15 y1) fun h12 =>
      some (1, h12)
    ) else
    f_cHall_fillsStream_b62 k2 v0 v1 v2 h9
  else none
def f_cHall_fillsStream_b2_lp : Nat → Nat → Int → Int → Hp → Option (Int × Hp)
  | 0, _, _, _, _ => none
  | n + 1, v0, v1, v2, h => f_cHall_fillsStream_b2 (f_cHall_fillsStream_b2_lp n) v0 v1 v2 h
def f_cHall_fillsStream (v0 : Nat) (v1 : Int) (h : Hp) : Option (Int × Hp) :=
  f_cHall_fillsStream_b2_lp FU v0 v1 1 h
def f_cHall_fill_b32 (v0 : Nat) (h : Hp) : Option (Int × Hp) :=
  some (1, h)
def f_cHall_fill (v0 : Nat) (v1 : Int) (h : Hp) : Option (Int × Hp) :=
  b2 (f_cHall_fillsEnds v0 v1 h) fun r3 h1 =>
  if r3 ≠ 0 then (
    f_cHall_fill_b32 v0 h1
  ) else
  b2 (f_cHall_fillsGrants v0 v1 h1) fun r6 h4 =>
  if r6 ≠ 0 then (
    f_cHall_fill_b32 v0 h4
  ) else
  b2 (f_cHall_fillsBlocked v0 v1 h4) fun r9 h7 =>
  if r9 ≠ 0 then (
    f_cHall_fill_b32 v0 h7
  ) else
  b2 (f_cHall_fillsStream v0 v1 h7) fun r12 h10 =>
  if r12 = 0 then (
    some (0, h10)
  ) else
  f_cHall_fill_b32 v0 h10
def f_cSide_carries_b5 (k5 : Nat → Int → Hp → Option (Hp)) (v0 : Nat) (v1 : Int) (h : Hp) : Option (Hp) :=
  if hR h v0 8 = 0 then none else
  if ix v1 (ln h (hR h v0 8)) then
    if hR h v0 7 = 0 then none else
    if hR h (hR h v0 7) 8 = 0 then none else
    if ix v1 (ln h (hR h (hR h v0 7) 8)) then
      if hR h v0 36 = 0 then none else
      b2 (f_cBytes_left (hR h v0 36) h) fun r69 h67 =>
      if hR h (hR h v0 8) v1.toNat = 0 then none else
      b2 (f_cCrypto_fill (hR h (hR h v0 8) v1.toNat) (hR h v0 38) (hR h (hR h (hR h v0 7) 8) v1.toNat) r69 h67) fun r73 h71 =>
      if r73 = 0 then (
        some h71
      ) else
      b1 (f_cSide_put_I v0 v1 h71) fun h74 =>
      k5 v0 v1 h74
    else none
  else none
def f_cSide_carries_b5_lp : Nat → Nat → Int → Hp → Option (Hp)
  | 0, _, _, _ => none
  | n + 1, v0, v1, h => f_cSide_carries_b5 (f_cSide_carries_b5_lp n) v0 v1 h
def f_cSide_carries_b246 (k145 : Nat → Hp → Option (Hp)) (v0 : Nat) (s0 : Nat) (s1 : Int) (h : Hp) : Option (Hp) :=
  if s0 = 0 then none else
  lt1 (sJ h s0 5 s1) fun h52 =>
  if hR h52 v0 11 = 0 then none else
  if hR h52 v0 38 = 0 then none else
  lt1 (sR h52 (hR h52 v0 38) 7 (hR h52 (hR h52 v0 11) 22)) fun h55 =>
  if hR h55 v0 11 = 0 then none else
  if hR h55 v0 38 = 0 then none else
  lt1 (sI h55 (hR h55 v0 38) 9 (hI h55 (hR h55 v0 11) 18)) fun h58 =>
  b1 (f_cSide_put_I v0 2 h58) fun h59 =>
  k145 v0 h59
def f_cSide_carries_b145 (k145 : Nat → Hp → Option (Hp)) (v0 : Nat) (h : Hp) : Option (Hp) :=
  if hR h v0 36 = 0 then none else
  b2 (f_cBytes_left (hR h v0 36) h) fun r30 h28 =>
  if hR h v0 11 = 0 then none else
  b2 (f_cHall_fill (hR h v0 11) r30 h28) fun r34 h32 =>
  if r34 = 0 then (
    some h32
  ) else
  if hR h32 v0 38 = 0 then none else
  b1 (f_cFrame_clear (hR h32 v0 38) h32) fun h36 =>
  if hR h36 v0 11 = 0 then none else
  if hR h36 v0 38 = 0 then none else
  lt1 (sI h36 (hR h36 v0 38) 0 (hI h36 (hR h36 v0 11) 17)) fun h40 =>
  if hR h40 v0 11 = 0 then none else
  if hR h40 v0 38 = 0 then none else
  lt1 (sJ h40 (hR h40 v0 38) 2 (hJ h40 (hR h40 v0 11) 19)) fun h43 =>
  if hR h43 v0 11 = 0 then none else
  if hR h43 v0 38 = 0 then none else
  lt1 (sJ h43 (hR h43 v0 38) 3 (hJ h43 (hR h43 v0 11) 20)) fun h46 =>
  if hR h46 v0 11 = 0 then none else
  if hR h46 v0 38 = 0 then none else
  lt1 (sJ h46 (hR h46 v0 38) 4 (hJ h46 (hR h46 v0 11) 21)) fun h49 =>
  if hR h49 v0 11 = 0 then none else
  if (hI h49 (hR h49 v0 11) 17) ≠ 8 then (
    f_cSide_carries_b246 k145 v0 (hR h49 v0 38) 0 h49
  ) else
  f_cSide_carries_b246 k145 v0 (hR h49 v0 38) 1 h49
def f_cSide_carries_b145_lp : Nat → Nat → Hp → Option (Hp)
  | 0, _, _ => none
  | n + 1, v0, h => f_cSide_carries_b145 (f_cSide_carries_b145_lp n) v0 h
def f_cSide_carries_b89 (v0 : Nat) (h : Hp) : Option (Hp) :=
  if (hI h v0 17) = 0 then (
    f_cSide_carries_b145_lp FU v0 h
  ) else
  if hR h v0 36 = 0 then none else
  b2 (f_cBytes_left (hR h v0 36) h) fun r16 h14 =>
  if r16 ≤ 8 then (
    f_cSide_carries_b145_lp FU v0 h14
  ) else
  if hR h14 v0 38 = 0 then none else
  b1 (f_cFrame_clear (hR h14 v0 38) h14) fun h18 =>
  if hR h18 v0 38 = 0 then none else
  lt1 (sI h18 (hR h18 v0 38) 0 27) fun h21 =>
  if hR h21 v0 38 = 0 then none else
  lt1 (sJ h21 (hR h21 v0 38) 2 (hJ h21 v0 19)) fun h23 =>
  lt1 (sI h23 v0 17 0) fun h24 =>
  b1 (f_cSide_put_I v0 2 h24) fun h25 =>
  f_cSide_carries_b145_lp FU v0 h25
def f_cSide_carries (v0 : Nat) (v1 : Int) (h : Hp) : Option (Hp) :=
  if 2 ≤ v1 then (
    if (hI h v0 15) = 0 then (
      f_cSide_carries_b89 v0 h
    ) else
    if hR h v0 36 = 0 then none else
    b2 (f_cBytes_left (hR h v0 36) h) fun r4 h2 =>
    if r4 ≤ 0 then (
      f_cSide_carries_b89 v0 h2
    ) else
    if hR h2 v0 38 = 0 then none else
    b1 (f_cFrame_clear (hR h2 v0 38) h2) fun h6 =>
    if hR h6 v0 38 = 0 then none else
    lt1 (sI h6 (hR h6 v0 38) 0 30) fun h9 =>
    lt1 (sI h9 v0 15 0) fun h10 =>
    b1 (f_cSide_put_I v0 2 h10) fun h11 =>
    f_cSide_carries_b89 v0 h11
  ) else
  f_cSide_carries_b5_lp FU v0 v1 h
def f_cBook_written (v0 : Nat) (v1 : Int) (h : Hp) : Option (Int × Hp) :=
  if hR h v0 0 = 0 then none else
  if ix v1 (ln h (hR h v0 0)) then
    if hR h (hR h v0 0) v1.toNat = 0 then none else
    lt1 (sI h (hR h (hR h v0 0) v1.toNat) 14 0) fun h4 =>
    if hR h4 v0 0 = 0 then none else
    if ix v1 (ln h4 (hR h4 v0 0)) then
      if hR h4 (hR h4 v0 0) v1.toNat = 0 then none else
      lt1 (sI h4 (hR h4 (hR h4 v0 0) v1.toNat) 17 0) fun h8 =>
      b2 (f_cBook_delay v0 v1 h8) fun r11 h9 =>
      some (r11, h9)
    else none
  else none
def f_cCargo_begin_b23 (v0 : Nat) (h : Hp) : Option (Hp) :=
  if hR h v0 0 = 0 then none else
  if ix (hI h v0 6) (ln h (hR h v0 0)) then
    lt1 (sI h (hR h v0 0) ((hI h v0 6).toNat) (hI h v0 7)) fun h8 =>
    lt1 (sI h8 v0 6 (w32 ((hI h8 v0 6) + 1))) fun h9 =>
    some h9
  else none
def f_cCargo_begin (v0 : Nat) (h : Hp) : Option (Hp) :=
  if hR h v0 0 = 0 then none else
  if (hI h v0 6) ≠ (ln h (hR h v0 0) : Int) then (
    f_cCargo_begin_b23 v0 h
  ) else
  b2 (f_cCargo_twice_AI (hR h v0 0) h) fun r4 h2 =>
  lt1 (sR h2 v0 0 r4) fun h5 =>
  f_cCargo_begin_b23 v0 h5
def f_cCounting_bytesOf (v0 : Int) (v2 : Int) (h : Hp) : Option (Int × Hp) :=
  lt1 (w64 (v0 - v2)) fun y1 =>
  if 128 < y1 then (
    if 32768 < y1 then (
      if 8388608 < y1 then (
        if 2147483648 < y1 then (
          some (0, h)
        ) else
        some (4, h)
      ) else
      some (3, h)
    ) else
    some (2, h)
  ) else
  some (1, h)
def f_cSide_bytesOf (v0 : Nat) (v1 : Int) (h : Hp) : Option (Int × Hp) :=
  if hR h v0 9 = 0 then none else
  if hR h (hR h v0 9) 0 = 0 then none else
  if ix v1 (ln h (hR h (hR h v0 9) 0)) then
    lt1 (hR h (hR h (hR h v0 9) 0) v1.toNat) fun y4 =>
    if y4 = 0 then none else
    b2 (f_cCounting_bytesOf (hI h y4 3) (hI h y4 6) h) fun r8 h6 =>
    some (max r8 2, h6)
  else none
def f_cSide_pad_b2 (k2 : Nat → Int → Int → Int → Hp → Option (Hp)) (v0 : Nat) (v1 : Int) (v2 : Int) (v3 : Int) (h : Hp) : Option (Hp) :=
  if v2 ≤ v3 then (
    if hR h v0 45 = 0 then none else
    if ix v1 (ln h (hR h v0 45)) then
      lt1 (sI h (hR h v0 45) v1.toNat 1) fun h3 =>
      some h3
    else none
  ) else
  if hR h v0 42 = 0 then none else
  if ix v1 (ln h (hR h v0 42)) then
    if hR h v0 43 = 0 then none else
    if ix v1 (ln h (hR h v0 43)) then
      if ix v1 (ln h (hR h v0 43)) then
        lt1 (sI h (hR h v0 43) v1.toNat (w32 ((hI h (hR h v0 43) v1.toNat) + 1))) fun h9 =>
        if hR h (hR h v0 42) v1.toNat = 0 then none else
        if ix (hI h (hR h v0 43) v1.toNat) (ln h9 (hR h (hR h v0 42) v1.toNat)) then
          lt1 (sI h9 (hR h (hR h v0 42) v1.toNat) ((hI h (hR h v0 43) v1.toNat).toNat) (i8 0)) fun h12 =>
          k2 v0 v1 v2 (w32 (v3 + 1)) h12
        else none
      else none
    else none
  else none
def f_cSide_pad_b2_lp : Nat → Nat → Int → Int → Int → Hp → Option (Hp)
  | 0, _, _, _, _, _ => none
  | n + 1, v0, v1, v2, v3, h => f_cSide_pad_b2 (f_cSide_pad_b2_lp n) v0 v1 v2 v3 h
def f_cSide_pad (v0 : Nat) (v1 : Int) (v2 : Int) (h : Hp) : Option (Hp) :=
  f_cSide_pad_b2_lp FU v0 v1 v2 0 h
def f_cSide_draft_b321 (v0 : Nat) (v1 : Int) (v4 : Nat) (v5 : Int) (s0 : Nat) (s1 : Int) (s2 : Int) (h : Hp) : Option (Hp) :=
  if s0 = 0 then none else
  if ix s1 (ln h s0) then
    if ¬ (s2 = 0 ∨ s2 = 1) then none else
    lt1 (sI h s0 s1.toNat s2) fun h33 =>
    if hR h33 v0 46 = 0 then none else
    if ix v1 (ln h33 (hR h33 v0 46)) then
      if (hI h33 (hR h33 v0 46) v1.toNat) ≠ 0 then (
        if v4 = 0 then none else
        b1 (f_cCargo_begin v4 h33) fun h38 =>
        if hR h38 v4 0 = 0 then none else
        if ix (w32 ((hI h38 v4 6) - 1)) (ln h38 (hR h38 v4 0)) then
          lt1 (sI h38 (hR h38 v4 0) ((w32 ((hI h38 v4 6) - 1)).toNat) v5) fun h42 =>
          b2 (f_cSide_bytesOf v0 v1 h42) fun r45 h43 =>
          if hR h43 v0 43 = 0 then none else
          if ix v1 (ln h43 (hR h43 v0 43)) then
            if 4 ≤ (w32 (r45 + (hI h43 (hR h43 v0 43) v1.toNat))) then (
              some h43
            ) else
            b2 (f_cSide_bytesOf v0 v1 h43) fun r50 h48 =>
            if hR h48 v0 43 = 0 then none else
            if ix v1 (ln h48 (hR h48 v0 43)) then
              b1 (f_cSide_pad v0 v1 (w32 ((w32 (4 - r50)) - (hI h48 (hR h48 v0 43) v1.toNat))) h48) fun h53 =>
              some h53
            else none
          else none
        else none
      ) else
      some h33
    else none
  else none
def f_cSide_draft_b288 (v0 : Nat) (v1 : Int) (v4 : Nat) (v5 : Int) (h : Hp) : Option (Hp) :=
  if hR h v0 36 = 0 then none else
  if hR h v0 43 = 0 then none else
  if ix v1 (ln h (hR h v0 43)) then
    lt1 (sI h (hR h v0 43) v1.toNat (hI h (hR h v0 36) 1)) fun h29 =>
    if hR h29 v0 36 = 0 then none else
    if (hI h29 (hR h29 v0 36) 1) ≤ 0 then (
      f_cSide_draft_b321 v0 v1 v4 v5 (hR h29 v0 46) v1 0 h29
    ) else
    f_cSide_draft_b321 v0 v1 v4 v5 (hR h29 v0 46) v1 1 h29
  else none
def f_cSide_draft_b274 (v0 : Nat) (v1 : Int) (v4 : Nat) (v5 : Int) (v7 : Int) (h : Hp) : Option (Hp) :=
  if v7 ≤ 0 then (
    f_cSide_draft_b288 v0 v1 v4 v5 h
  ) else
  if hR h v0 9 = 0 then none else
  b2 (f_cBook_written (hR h v0 9) v1 h) fun r90 h88 =>
  f_cSide_draft_b288 v0 v1 v4 v5 h88
def f_cSide_draft_b246 (v0 : Nat) (v1 : Int) (v4 : Nat) (v5 : Int) (v6 : Int) (v7 : Int) (h : Hp) : Option (Hp) :=
  if v6 ≠ 0 then (
    f_cSide_draft_b274 v0 v1 v4 v5 v7 h
  ) else
  if hR h v0 36 = 0 then none else
  if (hI h (hR h v0 36) 1) ≠ v7 then (
    f_cSide_draft_b274 v0 v1 v4 v5 v7 h
  ) else
  lt1 (sI h (hR h v0 36) 1 0) fun h86 =>
  f_cSide_draft_b288 v0 v1 v4 v5 h86
def f_cSide_draft_b203 (v0 : Nat) (v1 : Int) (v4 : Nat) (v5 : Int) (v6 : Int) (v7 : Int) (h : Hp) : Option (Hp) :=
  if hR h v0 44 = 0 then none else
  if ix v1 (ln h (hR h v0 44)) then
    if (hI h (hR h v0 44) v1.toNat) ≠ 0 then (
      f_cSide_draft_b246 v0 v1 v4 v5 v6 v7 h
    ) else
    if hR h v0 32 = 0 then none else
    if ix v1 (ln h (hR h v0 32)) then
      if (hI h (hR h v0 32) v1.toNat) ≤ 0 then (
        f_cSide_draft_b246 v0 v1 v4 v5 v6 v7 h
      ) else
      if hR h v0 36 = 0 then none else
      b2 (f_cBytes_left (hR h v0 36) h) fun r78 h76 =>
      if r78 ≤ 0 then (
        f_cSide_draft_b246 v0 v1 v4 v5 v6 v7 h76
      ) else
      if hR h76 v0 36 = 0 then none else
      b1 (f_cBytes_put (hR h76 v0 36) 1 h76) fun h80 =>
      if hR h80 v0 44 = 0 then none else
      if ix v1 (ln h80 (hR h80 v0 44)) then
        lt1 (sI h80 (hR h80 v0 44) v1.toNat 1) fun h84 =>
        f_cSide_draft_b246 v0 v1 v4 v5 v6 v7 h84
      else none
    else none
  else none
def f_cSide_draft_b198 (v0 : Nat) (v1 : Int) (v4 : Nat) (v5 : Int) (v6 : Int) (v7 : Int) (h : Hp) : Option (Hp) :=
  b1 (f_cSide_carries v0 v1 h) fun h69 =>
  f_cSide_draft_b203 v0 v1 v4 v5 v6 v7 h69
def f_cSide_draft_b157 (v0 : Nat) (v1 : Int) (v4 : Nat) (v5 : Int) (v6 : Int) (h : Hp) : Option (Hp) :=
  if hR h v0 36 = 0 then none else
  lt1 (hI h (hR h v0 36) 1) fun y64 =>
  if hR h v0 32 = 0 then none else
  if ix v1 (ln h (hR h v0 32)) then
    if 0 < (hI h (hR h v0 32) v1.toNat) then (
      f_cSide_draft_b198 v0 v1 v4 v5 v6 y64 h
    ) else
    if hR h v0 9 = 0 then none else
    if hR h (hR h v0 9) 2 = 0 then none else
    if (hI h (hR h (hR h v0 9) 2) 0) ≤ (hI h (hR h (hR h v0 9) 2) 3) then (
      f_cSide_draft_b203 v0 v1 v4 v5 v6 y64 h
    ) else
    f_cSide_draft_b198 v0 v1 v4 v5 v6 y64 h
  else none
def f_cSide_draft_b152 (v0 : Nat) (v1 : Int) (v4 : Nat) (v5 : Int) (v6 : Int) (h : Hp) : Option (Hp) :=
  b1 (f_cSide_acknowledges v0 v1 h) fun h91 =>
  f_cSide_draft_b157 v0 v1 v4 v5 v6 h91
def f_cSide_draft_b122 (v0 : Nat) (v1 : Int) (v4 : Nat) (v5 : Int) (h : Hp) : Option (Hp) :=
  if hR h v0 9 = 0 then none else
  b2 (f_cBook_due (hR h v0 9) v1 h) fun r58 h56 =>
  if r58 ≠ 0 then (
    f_cSide_draft_b152 v0 v1 v4 v5 r58 h56
  ) else
  if hR h56 v0 9 = 0 then none else
  if hR h56 (hR h56 v0 9) 0 = 0 then none else
  if ix v1 (ln h56 (hR h56 (hR h56 v0 9) 0)) then
    if hR h56 (hR h56 (hR h56 v0 9) 0) v1.toNat = 0 then none else
    if (hI h56 (hR h56 (hR h56 (hR h56 v0 9) 0) v1.toNat) 14) ≤ 0 then (
      f_cSide_draft_b157 v0 v1 v4 v5 r58 h56
    ) else
    f_cSide_draft_b152 v0 v1 v4 v5 r58 h56
  else none
def f_cSide_draft (v0 : Nat) (v1 : Int) (v2 : Int) (v3 : Int) (h : Hp) : Option (Hp) :=
  if hR h v0 42 = 0 then none else
  if ix v1 (ln h (hR h v0 42)) then
    if hR h v0 36 = 0 then none else
    b1 (f_cBytes_over (hR h v0 36) (hR h (hR h v0 42) v1.toNat) 0 v2 h) fun h4 =>
    if hR h4 v0 10 = 0 then none else
    if ix v1 (ln h4 (hR h4 v0 10)) then
      lt1 (hR h4 (hR h4 v0 10) v1.toNat) fun y8 =>
      if y8 = 0 then none else
      lt1 (hI h4 y8 7) fun y10 =>
      if hR h4 v0 44 = 0 then none else
      if ix v1 (ln h4 (hR h4 v0 44)) then
        lt1 (sI h4 (hR h4 v0 44) v1.toNat 0) fun h13 =>
        if hR h13 v0 45 = 0 then none else
        if ix v1 (ln h13 (hR h13 v0 45)) then
          lt1 (sI h13 (hR h13 v0 45) v1.toNat 0) fun h16 =>
          if (hI h16 v0 1) ≠ 3 then (
            if v1 ≠ 2 then (
              f_cSide_draft_b122 v0 v1 y8 y10 h16
            ) else
            if (hI h16 v0 41) ≤ 0 then (
              f_cSide_draft_b122 v0 v1 y8 y10 h16
            ) else
            if v2 < (hI h16 v0 41) then (
              f_cSide_draft_b122 v0 v1 y8 y10 h16
            ) else
            if v3 = 0 then (
              f_cSide_draft_b122 v0 v1 y8 y10 h16
            ) else
            if hR h16 v0 36 = 0 then none else
            b1 (f_cBytes_putRow (hR h16 v0 36) (hR h16 v0 40) 0 (hI h16 v0 41) h16) fun h18 =>
            lt1 (sI h18 v0 41 0) fun h20 =>
            if hR h20 v0 44 = 0 then none else
            if ix 2 (ln h20 (hR h20 v0 44)) then
              lt1 (sI h20 (hR h20 v0 44) (Int.toNat 2) 1) fun h23 =>
              f_cSide_draft_b288 v0 v1 y8 y10 h23
            else none
          ) else
          if (hI h16 v0 18) = 0 then (
            f_cSide_draft_b288 v0 v1 y8 y10 h16
          ) else
          b1 (f_cSide_closes v0 v1 h16) fun h24 =>
          f_cSide_draft_b288 v0 v1 y8 y10 h24
        else none
      else none
    else none
  else none
def f_cHeader_write_b93 (v0 : Nat) (v7 : Int) (h : Hp) : Option (Hp) :=
  if v0 = 0 then none else
  b1 (f_cBytes_putSized v0 v7 2 h) fun h24 =>
  some h24
def f_cHeader_write (v0 : Nat) (v1 : Int) (v2 : Int) (v3 : Nat) (v4 : Int) (v5 : Int) (v6 : Int) (v7 : Int) (h : Hp) : Option (Hp) :=
  if v1 ≠ 4 then (
    if v0 = 0 then none else
    b1 (f_cBytes_put v0 (iOr (iOr 192 (iShl v1 4)) v2) h) fun h2 =>
    b1 (f_cBytes_putMany v0 1 4 h2) fun h4 =>
    b1 (f_cBytes_put v0 v4 h4) fun h6 =>
    b1 (f_cBytes_putRow v0 v3 0 v4 h6) fun h8 =>
    b1 (f_cBytes_put v0 v5 h8) fun h10 =>
    b1 (f_cBytes_putRow v0 v3 v4 v5 h10) fun h12 =>
    if v1 ≠ 0 then (
      f_cHeader_write_b93 v0 v7 h12
    ) else
    b1 (f_cBytes_putNumber v0 v6 h12) fun h14 =>
    b1 (f_cBytes_putRow v0 v3 (w32 (v4 + v5)) v6 h14) fun h16 =>
    f_cHeader_write_b93 v0 v7 h16
  ) else
  if v0 = 0 then none else
  b1 (f_cBytes_put v0 (iOr 64 v2) h) fun h19 =>
  b1 (f_cBytes_putRow v0 v3 0 v4 h19) fun h21 =>
  some h21
def f_cGuard_seal (v0 : Nat) (v1 : Nat) (v2 : Int) (v4 : Nat) (v5 : Int) (v6 : Int) (v7 : Int) (h : Hp) : Option (Int × Hp) :=
  b1 (f_cGuard_begin v0 v1 v2 1 h) fun h1 =>
  if v1 = 0 then none else
  if hR h1 v1 1 = 0 then none else
  b1 (f_cKeystream_cover (hR h1 v1 1) v4 (w32 (v5 + v6)) (w32 (v7 - v6)) h1) fun h5 =>
  b1 (f_cGuard_reckon v0 v1 v2 v4 v5 v6 v7 h5) fun h7 =>
  if hR h7 v1 6 = 0 then none else
  if v4 = 0 then none else
  if cpk 0 (w32 (v5 + v7)) 16 (ln h7 (hR h7 v1 6)) (ln h7 v4) then
    lt1 (cpI h7 (hR h7 v1 6) (Int.toNat 0) v4 ((w32 (v5 + v7)).toNat) (Int.toNat 16)) fun h12 =>
    some (w32 (v7 + 16), h12)
  else none
def f_cSpace_grow (v0 : Nat) (h : Hp) : Option (Hp) :=
  if (0 : Int) ≤ (w32 (2 * (hI h v0 3))) ∧ hN h + 1 ≤ CN ∧ hZ h + (w32 (2 * (hI h v0 3))).toNat ≤ CZ then
    lt1 (nwC h 101 ((w32 (2 * (hI h v0 3))).toNat) ((w32 (2 * (hI h v0 3))).toNat)) fun h2 =>
    lt1 (hN h) fun y4 =>
    if (0 : Int) ≤ (w32 (2 * (hI h2 v0 3))) ∧ hN h2 + 1 ≤ CN ∧ hZ h2 + (w32 (2 * (hI h2 v0 3))).toNat ≤ CZ then
      lt1 (nwC h2 104 ((w32 (2 * (hI h2 v0 3))).toNat) ((w32 (2 * (hI h2 v0 3))).toNat)) fun h7 =>
      lt1 (hN h2) fun y9 =>
      if (0 : Int) ≤ (w32 (2 * (hI h7 v0 3))) ∧ hN h7 + 1 ≤ CN ∧ hZ h7 + (w32 (2 * (hI h7 v0 3))).toNat ≤ CZ then
        lt1 (nwC h7 102 ((w32 (2 * (hI h7 v0 3))).toNat) ((w32 (2 * (hI h7 v0 3))).toNat)) fun h12 =>
        lt1 (hN h7) fun y14 =>
        if hR h12 v0 0 = 0 then none else
        if cpk 0 0 (hI h12 v0 3) (ln h12 (hR h12 v0 0)) (ln h12 y4) then
          lt1 (cpI h12 (hR h12 v0 0) (Int.toNat 0) y4 (Int.toNat 0) ((hI h12 v0 3).toNat)) fun h18 =>
          if hR h18 v0 1 = 0 then none else
          if cpk 0 0 (hI h18 v0 3) (ln h18 (hR h18 v0 1)) (ln h18 y9) then
            lt1 (cpI h18 (hR h18 v0 1) (Int.toNat 0) y9 (Int.toNat 0) ((hI h18 v0 3).toNat)) fun h21 =>
            if hR h21 v0 2 = 0 then none else
            if cpk 0 0 (hI h21 v0 3) (ln h21 (hR h21 v0 2)) (ln h21 y14) then
              lt1 (cpI h21 (hR h21 v0 2) (Int.toNat 0) y14 (Int.toNat 0) ((hI h21 v0 3).toNat)) fun h24 =>
              lt1 (sR h24 v0 0 y4) fun h25 =>
              lt1 (sR h25 v0 1 y9) fun h26 =>
              lt1 (sR h26 v0 2 y14) fun h27 =>
              some h27
            else none
          else none
        else none
      else none
    else none
  else none
def f_cSpace_add_b111 (v0 : Nat) (h : Hp) : Option (Int × Hp) :=
  lt1 (sI h v0 3 (w32 ((hI h v0 3) + 1))) fun h16 =>
  some (hI h v0 3, h16)
def f_cSpace_add_b79 (v0 : Nat) (v1 : Int) (v3 : Int) (s0 : Nat) (s1 : Int) (s2 : Int) (s3 : Int) (h : Hp) : Option (Int × Hp) :=
  if s0 = 0 then none else
  if ix s1 (ln h s0) then
    lt1 (sI h s0 s1.toNat (i8 (i8 (iOr s2 s3)))) fun h12 =>
    lt1 (sI h12 v0 4 (w32 ((hI h12 v0 4) + 1))) fun h13 =>
    if v3 = 0 then (
      f_cSpace_add_b111 v0 h13
    ) else
    lt1 (sI h13 v0 5 (w32 ((hI h13 v0 5) + 1))) fun h14 =>
    lt1 (sI h14 v0 7 v1) fun h15 =>
    f_cSpace_add_b111 v0 h15
  else none
def f_cSpace_add_b67 (v0 : Nat) (v1 : Int) (v3 : Int) (v5 : Int) (s0 : Nat) (s1 : Int) (s2 : Int) (s3 : Int) (h : Hp) : Option (Int × Hp) :=
  if v5 = 0 then (
    f_cSpace_add_b79 v0 v1 v3 s0 s1 (iOr s2 s3) 0 h
  ) else
  f_cSpace_add_b79 v0 v1 v3 s0 s1 (iOr s2 s3) 16 h
def f_cSpace_add_b55 (v0 : Nat) (v1 : Int) (v3 : Int) (v4 : Int) (v5 : Int) (s0 : Nat) (s1 : Int) (s2 : Int) (s3 : Int) (h : Hp) : Option (Int × Hp) :=
  if v4 = 0 then (
    f_cSpace_add_b67 v0 v1 v3 v5 s0 s1 (iOr s2 s3) 0 h
  ) else
  f_cSpace_add_b67 v0 v1 v3 v5 s0 s1 (iOr s2 s3) 8 h
def f_cSpace_add_b16 (v0 : Nat) (v1 : Int) (v2 : Int) (v3 : Int) (v4 : Int) (v5 : Int) (h : Hp) : Option (Int × Hp) :=
  if hR h v0 0 = 0 then none else
  if ix (hI h v0 3) (ln h (hR h v0 0)) then
    lt1 (sI h (hR h v0 0) ((hI h v0 3).toNat) v1) fun h6 =>
    if hR h6 v0 1 = 0 then none else
    if ix (hI h6 v0 3) (ln h6 (hR h6 v0 1)) then
      lt1 (sI h6 (hR h6 v0 1) ((hI h6 v0 3).toNat) (i16 (i16 v2))) fun h9 =>
      if v3 = 0 then (
        f_cSpace_add_b55 v0 v1 v3 v4 v5 (hR h9 v0 2) (hI h9 v0 3) 0 0 h9
      ) else
      f_cSpace_add_b55 v0 v1 v3 v4 v5 (hR h9 v0 2) (hI h9 v0 3) 0 4 h9
    else none
  else none
def f_cSpace_add (v0 : Nat) (v1 : Int) (v2 : Int) (v3 : Int) (v4 : Int) (v5 : Int) (h : Hp) : Option (Int × Hp) :=
  if hR h v0 0 = 0 then none else
  if (hI h v0 3) ≠ (ln h (hR h v0 0) : Int) then (
    f_cSpace_add_b16 v0 v1 v2 v3 v4 v5 h
  ) else
  b1 (f_cSpace_grow v0 h) fun h2 =>
  f_cSpace_add_b16 v0 v1 v2 v3 v4 v5 h2
def f_cBook_send_b49 (v0 : Nat) (v1 : Int) (v2 : Int) (v3 : Int) (v4 : Int) (s0 : Int) (h : Hp) : Option (Int × Hp) :=
  lt1 (sI h v0 5 (hI h v0 3)) fun h4 =>
  if hR h4 v0 0 = 0 then none else
  if ix v1 (ln h4 (hR h4 v0 0)) then
    if hR h4 (hR h4 v0 0) v1.toNat = 0 then none else
    b2 (f_cSpace_add (hR h4 (hR h4 v0 0) v1.toNat) (hI h4 v0 3) v2 v3 v4 s0 h4) fun r10 h8 =>
    some (r10, h8)
  else none
def f_cBook_send_b48 (v0 : Nat) (v1 : Int) (v2 : Int) (v3 : Int) (v4 : Int) (h : Hp) : Option (Int × Hp) :=
  f_cBook_send_b49 v0 v1 v2 v3 v4 0 h
def f_cBook_send_b18 (v0 : Nat) (v1 : Int) (v2 : Int) (v3 : Int) (v4 : Int) (h : Hp) : Option (Int × Hp) :=
  if v4 = 0 then (
    f_cBook_send_b48 v0 v1 v2 v3 v4 h
  ) else
  if hR h v0 2 = 0 then none else
  if (hI h (hR h v0 2) 3) ≤ (w32 ((hI h (hR h v0 2) 0) - 1200)) then (
    f_cBook_send_b48 v0 v1 v2 v3 v4 h
  ) else
  f_cBook_send_b49 v0 v1 v2 v3 v4 1 h
def f_cBook_send (v0 : Nat) (v1 : Int) (v2 : Int) (v3 : Int) (v4 : Int) (h : Hp) : Option (Int × Hp) :=
  if v4 = 0 then (
    f_cBook_send_b18 v0 v1 v2 v3 v4 h
  ) else
  if hR h v0 2 = 0 then none else
  lt1 (sI h (hR h v0 2) 3 (w32 ((hI h (hR h v0 2) 3) + v2))) fun h2 =>
  f_cBook_send_b18 v0 v1 v2 v3 v4 h2
def f_cSide_seal_b249 (v0 : Nat) (v1 : Int) (v2 : Int) (v6 : Int) (h : Hp) : Option (Int × Hp) :=
  lt1 (sI h v0 31 1) fun h53 =>
  if hR h53 v0 32 = 0 then none else
  if ix v1 (ln h53 (hR h53 v0 32)) then
    if ix v1 (ln h53 (hR h53 v0 32)) then
      lt1 (sI h53 (hR h53 v0 32) v1.toNat (max (w32 ((hI h53 (hR h53 v0 32) v1.toNat) - 1)) 0)) fun h57 =>
      some (w32 (v2 + v6), h57)
    else none
  else none
def f_cSide_seal_b218 (v0 : Nat) (v1 : Int) (v2 : Int) (v6 : Int) (s0 : Nat) (s1 : Int) (s2 : Int) (s3 : Int) (s4 : Int) (h : Hp) : Option (Int × Hp) :=
  if s0 = 0 then none else
  b2 (f_cBook_send s0 s1 s2 s3 s4 h) fun r48 h46 =>
  if hR h46 v0 44 = 0 then none else
  if ix v1 (ln h46 (hR h46 v0 44)) then
    if (hI h46 (hR h46 v0 44) v1.toNat) = 0 then (
      some (w32 (v2 + v6), h46)
    ) else
    if (hI h46 v0 31) ≠ 0 then (
      f_cSide_seal_b249 v0 v1 v2 v6 h46
    ) else
    if hR h46 v0 9 = 0 then none else
    lt1 (sI h46 v0 26 (hI h46 (hR h46 v0 9) 3)) fun h52 =>
    f_cSide_seal_b249 v0 v1 v2 v6 h52
  else none
def f_cSide_seal_b213 (v0 : Nat) (v1 : Int) (v2 : Int) (v6 : Int) (s0 : Nat) (s1 : Int) (s2 : Int) (s3 : Int) (h : Hp) : Option (Int × Hp) :=
  f_cSide_seal_b218 v0 v1 v2 v6 s0 s1 s2 s3 1 h
def f_cSide_seal_b48 (v0 : Nat) (v1 : Int) (v2 : Int) (v3 : Nat) (v4 : Int) (s0 : Nat) (s1 : Int) (h : Hp) : Option (Int × Hp) :=
  if hR h v0 43 = 0 then none else
  if ix v1 (ln h (hR h v0 43)) then
    b1 (f_cHeader_write s0 s1 (w32 (v4 - 1)) (hR h v0 12) 8 8 0 (w32 ((w32 (v4 + (hI h (hR h v0 43) v1.toNat))) + 16)) h) fun h13 =>
    if hR h13 v0 36 = 0 then none else
    lt1 (w32 ((hI h13 (hR h13 v0 36) 1) - v2)) fun y16 =>
    if v3 = 0 then none else
    b1 (f_cBytes_putMany (hR h13 v0 36) (hI h13 v3 3) v4 h13) fun h18 =>
    if hR h18 v0 42 = 0 then none else
    if ix v1 (ln h18 (hR h18 v0 42)) then
      if hR h18 v0 43 = 0 then none else
      if ix v1 (ln h18 (hR h18 v0 43)) then
        if hR h18 v0 36 = 0 then none else
        b1 (f_cBytes_putRow (hR h18 v0 36) (hR h18 (hR h18 v0 42) v1.toNat) 0 (hI h18 (hR h18 v0 43) v1.toNat) h18) fun h25 =>
        if hR h25 v0 4 = 0 then none else
        if ix v1 (ln h25 (hR h25 v0 4)) then
          if hR h25 v0 36 = 0 then none else
          if hR h25 (hR h25 v0 4) v1.toNat = 0 then none else
          b2 (f_cGuard_seal (hR h25 (hR h25 v0 4) v1.toNat) (hR h25 v0 3) (hI h25 v3 3) (hR h25 v0 39) v2 (w32 (y16 + v4)) (w32 ((hI h25 (hR h25 v0 36) 1) - v2)) h25) fun r33 h31 =>
          if hR h31 v0 4 = 0 then none else
          if ix v1 (ln h31 (hR h31 v0 4)) then
            if hR h31 (hR h31 v0 4) v1.toNat = 0 then none else
            b2 (f_cGuard_shield (hR h31 (hR h31 v0 4) v1.toNat) (hR h31 v0 3) (hR h31 v0 39) v2 y16 1 h31) fun r39 h37 =>
            if hR h37 v0 44 = 0 then none else
            if ix v1 (ln h37 (hR h37 v0 44)) then
              if ix v1 (ln h37 (hR h37 v0 44)) then
                if (hI h37 (hR h37 v0 44) v1.toNat) ≠ 0 then (
                  f_cSide_seal_b213 v0 v1 v2 r33 (hR h37 v0 9) v1 r33 (hI h37 (hR h37 v0 44) v1.toNat) h37
                ) else
                if hR h37 v0 45 = 0 then none else
                if ix v1 (ln h37 (hR h37 v0 45)) then
                  if (hI h37 (hR h37 v0 45) v1.toNat) = 0 then (
                    f_cSide_seal_b218 v0 v1 v2 r33 (hR h37 v0 9) v1 r33 (hI h37 (hR h37 v0 44) v1.toNat) 0 h37
                  ) else
                  f_cSide_seal_b213 v0 v1 v2 r33 (hR h37 v0 9) v1 r33 (hI h37 (hR h37 v0 44) v1.toNat) h37
                else none
              else none
            else none
          else none
        else none
      else none
    else none
  else none
def f_cSide_seal (v0 : Nat) (v1 : Int) (v2 : Int) (h : Hp) : Option (Int × Hp) :=
  if hR h v0 9 = 0 then none else
  if hR h (hR h v0 9) 0 = 0 then none else
  if ix v1 (ln h (hR h (hR h v0 9) 0)) then
    lt1 (hR h (hR h (hR h v0 9) 0) v1.toNat) fun y4 =>
    b2 (f_cSide_bytesOf v0 v1 h) fun r7 h5 =>
    if hR h5 v0 36 = 0 then none else
    b1 (f_cBytes_over (hR h5 v0 36) (hR h5 v0 39) v2 1200 h5) fun h9 =>
    if v1 ≠ 2 then (
      f_cSide_seal_b48 v0 v1 v2 y4 r7 (hR h9 v0 36) (w32 (2 * v1)) h9
    ) else
    f_cSide_seal_b48 v0 v1 v2 y4 r7 (hR h9 v0 36) 4 h9
  else none
def f_cSide_datagram_b199 (k66 : Nat → Nat → Int → Int → Int → Int → Int → Int → Hp → Option (Int × Hp)) (v0 : Nat) (v1 : Nat) (v2 : Int) (v3 : Int) (v4 : Int) (v5 : Int) (v6 : Int) (v7 : Int) (h : Hp) : Option (Int × Hp) :=
  k66 v0 v1 v2 v3 v4 v5 v6 (w32 (v7 + 1)) h
def f_cSide_datagram_b197 (k66 : Nat → Nat → Int → Int → Int → Int → Int → Int → Hp → Option (Int × Hp)) (v0 : Nat) (v1 : Nat) (v2 : Int) (v3 : Int) (v4 : Int) (v5 : Int) (v7 : Int) (s0 : Int) (h : Hp) : Option (Int × Hp) :=
  f_cSide_datagram_b199 k66 v0 v1 v2 v3 v4 v5 s0 v7 h
def f_cSide_datagram_b192 (k66 : Nat → Nat → Int → Int → Int → Int → Int → Int → Hp → Option (Int × Hp)) (v0 : Nat) (v1 : Nat) (v2 : Int) (v3 : Int) (v4 : Int) (v5 : Int) (v7 : Int) (h : Hp) : Option (Int × Hp) :=
  f_cSide_datagram_b197 k66 v0 v1 v2 v3 v4 v5 v7 1 h
def f_cSide_datagram_b279 (k252 : Nat → Nat → Int → Int → Int → Hp → Option (Int × Hp)) (v0 : Nat) (v1 : Nat) (v5 : Int) (v7 : Int) (v8 : Int) (h : Hp) : Option (Int × Hp) :=
  k252 v0 v1 v5 v7 (w32 (v8 + 1)) h
def f_cSide_datagram_b252 (k252 : Nat → Nat → Int → Int → Int → Hp → Option (Int × Hp)) (v0 : Nat) (v1 : Nat) (v5 : Int) (v7 : Int) (v8 : Int) (h : Hp) : Option (Int × Hp) :=
  if v5 < v8 then (
    lt1 (sI h v0 21 (w32 ((hI h v0 21) + v7))) fun h33 =>
    if hR h33 v0 9 = 0 then none else
    if v1 = 0 then none else
    b1 (f_cLine_add v1 (hR h33 v0 39) v7 (hI h33 (hR h33 v0 9) 3) h33) fun h36 =>
    if hR h36 v0 46 = 0 then none else
    if ix 1 (ln h36 (hR h36 v0 46)) then
      if (hI h36 (hR h36 v0 46) (Int.toNat 1)) = 0 then (
        some (1, h36)
      ) else
      if (hI h36 v0 0) ≠ 0 then (
        some (1, h36)
      ) else
      b1 (f_cSide_discard v0 0 h36) fun h40 =>
      some (1, h40)
    else none
  ) else
  if hR h v0 46 = 0 then none else
  if ix v8 (ln h (hR h v0 46)) then
    if (hI h (hR h v0 46) v8.toNat) = 0 then (
      f_cSide_datagram_b279 k252 v0 v1 v5 v7 v8 h
    ) else
    b2 (f_cSide_seal v0 v8 v7 h) fun r46 h44 =>
    f_cSide_datagram_b279 k252 v0 v1 v5 r46 v8 h44
  else none
def f_cSide_datagram_b252_lp : Nat → Nat → Nat → Int → Int → Int → Hp → Option (Int × Hp)
  | 0, _, _, _, _, _, _ => none
  | n + 1, v0, v1, v5, v7, v8, h => f_cSide_datagram_b252 (f_cSide_datagram_b252_lp n) v0 v1 v5 v7 v8 h
def f_cSide_datagram_b246 (v0 : Nat) (v1 : Nat) (v5 : Int) (h : Hp) : Option (Int × Hp) :=
  f_cSide_datagram_b252_lp FU v0 v1 v5 0 0 h
def f_cSide_datagram_b225 (v0 : Nat) (v1 : Nat) (v3 : Int) (v4 : Int) (v5 : Int) (v6 : Int) (h : Hp) : Option (Int × Hp) :=
  if v6 = 0 then (
    f_cSide_datagram_b246 v0 v1 v5 h
  ) else
  if v3 ≤ v4 then (
    f_cSide_datagram_b246 v0 v1 v5 h
  ) else
  b1 (f_cSide_pad v0 v5 (w32 (v3 - v4)) h) fun h31 =>
  f_cSide_datagram_b246 v0 v1 v5 h31
def f_cSide_datagram_b196 (k66 : Nat → Nat → Int → Int → Int → Int → Int → Int → Hp → Option (Int × Hp)) (v0 : Nat) (v1 : Nat) (v2 : Int) (v3 : Int) (v4 : Int) (v5 : Int) (v7 : Int) (h : Hp) : Option (Int × Hp) :=
  f_cSide_datagram_b197 k66 v0 v1 v2 v3 v4 v5 v7 0 h
def f_cSide_datagram_b66 (k66 : Nat → Nat → Int → Int → Int → Int → Int → Int → Hp → Option (Int × Hp)) (v0 : Nat) (v1 : Nat) (v2 : Int) (v3 : Int) (v4 : Int) (v5 : Int) (v6 : Int) (v7 : Int) (h : Hp) : Option (Int × Hp) :=
  if 3 ≤ v7 then (
    if 0 ≤ v5 then (
      if (hI h v0 1) ≠ 3 then (
        f_cSide_datagram_b225 v0 v1 v3 v4 v5 v6 h
      ) else
      lt1 (sI h v0 18 0) fun h6 =>
      f_cSide_datagram_b225 v0 v1 v3 v4 v5 v6 h6
    ) else
    some (0, h)
  ) else
  if hR h v0 46 = 0 then none else
  if ix v7 (ln h (hR h v0 46)) then
    lt1 (sI h (hR h v0 46) v7.toNat 0) fun h9 =>
    if hR h9 v0 6 = 0 then none else
    if ix v7 (ln h9 (hR h9 v0 6)) then
      if (hI h9 (hR h9 v0 6) v7.toNat) ≠ 0 then (
        b2 (f_cSide_headSize v7 h9) fun r14 h12 =>
        lt1 (w32 ((w32 ((w32 ((w32 (v3 - v4)) - r14)) - 4)) - 16)) fun y15 =>
        if 4 ≤ y15 then (
          b1 (f_cSide_draft v0 v7 y15 v2 h12) fun h16 =>
          if hR h16 v0 46 = 0 then none else
          if ix v7 (ln h16 (hR h16 v0 46)) then
            if (hI h16 (hR h16 v0 46) v7.toNat) ≠ 0 then (
              b2 (f_cSide_headSize v7 h16) fun r22 h20 =>
              b2 (f_cSide_bytesOf v0 v7 h20) fun r25 h23 =>
              if hR h23 v0 43 = 0 then none else
              if ix v7 (ln h23 (hR h23 v0 43)) then
                lt1 (w32 (v4 + (w32 ((w32 ((w32 (r22 + r25)) + (hI h23 (hR h23 v0 43) v7.toNat))) + 16)))) fun y28 =>
                if v6 ≠ 0 then (
                  f_cSide_datagram_b192 k66 v0 v1 v2 v3 y28 v7 v7 h23
                ) else
                if v7 ≠ 0 then (
                  f_cSide_datagram_b196 k66 v0 v1 v2 v3 y28 v7 v7 h23
                ) else
                if hR h23 v0 44 = 0 then none else
                if ix 0 (ln h23 (hR h23 v0 44)) then
                  if (hI h23 (hR h23 v0 44) (Int.toNat 0)) = 0 then (
                    f_cSide_datagram_b196 k66 v0 v1 v2 v3 y28 v7 v7 h23
                  ) else
                  f_cSide_datagram_b192 k66 v0 v1 v2 v3 y28 v7 v7 h23
                else none
              else none
            ) else
            f_cSide_datagram_b199 k66 v0 v1 v2 v3 v4 v5 v6 v7 h16
          else none
        ) else
        f_cSide_datagram_b199 k66 v0 v1 v2 v3 v4 v5 v6 v7 h12
      ) else
      f_cSide_datagram_b199 k66 v0 v1 v2 v3 v4 v5 v6 v7 h9
    else none
  else none
def f_cSide_datagram_b66_lp : Nat → Nat → Nat → Int → Int → Int → Int → Int → Int → Hp → Option (Int × Hp)
  | 0, _, _, _, _, _, _, _, _, _ => none
  | n + 1, v0, v1, v2, v3, v4, v5, v6, v7, h => f_cSide_datagram_b66 (f_cSide_datagram_b66_lp n) v0 v1 v2 v3 v4 v5 v6 v7 h
def f_cSide_datagram_b53 (v0 : Nat) (v1 : Nat) (v2 : Int) (s0 : Int) (h : Hp) : Option (Int × Hp) :=
  f_cSide_datagram_b66_lp FU v0 v1 v2 s0 0 (-1) 0 0 h
def f_cSide_datagram_b30 (v0 : Nat) (v1 : Nat) (v2 : Int) (h : Hp) : Option (Int × Hp) :=
  f_cSide_datagram_b53 v0 v1 v2 1200 h
def f_cSide_datagram (v0 : Nat) (v1 : Nat) (v2 : Int) (h : Hp) : Option (Int × Hp) :=
  b2 (f_cSide_isWorn v0 h) fun r3 h1 =>
  if r3 = 0 then (
    if (hI h1 v0 0) = 0 then (
      f_cSide_datagram_b30 v0 v1 v2 h1
    ) else
    if (hI h1 v0 14) = 0 then (
      f_cSide_datagram_b53 v0 v1 v2 (min 1200 (w32 ((w32 (3 * (hI h1 v0 20))) - (hI h1 v0 21)))) h1
    ) else
    f_cSide_datagram_b30 v0 v1 v2 h1
  ) else
  b1 (f_cSide_end v0 50000 h1) fun h4 =>
  some (0, h4)
def f_cSide_sends_b25 (k4 : Nat → Nat → Int → Int → Hp → Option (Hp)) (v0 : Nat) (v1 : Nat) (v3 : Int) (s0 : Nat) (s1 : Nat) (s2 : Int) (h : Hp) : Option (Hp) :=
  if s0 = 0 then none else
  b2 (f_cSide_datagram s0 s1 s2 h) fun r4 h2 =>
  k4 v0 v1 r4 (w32 (v3 + 1)) h2
def f_cSide_sends_b4 (k4 : Nat → Nat → Int → Int → Hp → Option (Hp)) (v0 : Nat) (v1 : Nat) (v2 : Int) (v3 : Int) (h : Hp) : Option (Hp) :=
  if 16 ≤ v3 then (
    some h
  ) else
  if v2 = 0 then (
    some h
  ) else
  if v3 ≠ 0 then (
    f_cSide_sends_b25 k4 v0 v1 v3 v0 v1 0 h
  ) else
  f_cSide_sends_b25 k4 v0 v1 v3 v0 v1 1 h
def f_cSide_sends_b4_lp : Nat → Nat → Nat → Int → Int → Hp → Option (Hp)
  | 0, _, _, _, _, _ => none
  | n + 1, v0, v1, v2, v3, h => f_cSide_sends_b4 (f_cSide_sends_b4_lp n) v0 v1 v2 v3 h
def f_cSide_sends (v0 : Nat) (v1 : Nat) (h : Hp) : Option (Hp) :=
  f_cSide_sends_b4_lp FU v0 v1 1 0 h
def f_cSide_tick_b121 (v0 : Nat) (v1 : Nat) (h : Hp) : Option (Hp) :=
  if (hI h v0 1) = 5 then (
    some h
  ) else
  if (hI h v0 1) = 4 then (
    some h
  ) else
  b1 (f_cSide_sends v0 v1 h) fun h16 =>
  some h16
def f_cSide_tick_b89 (v0 : Nat) (v1 : Nat) (h : Hp) : Option (Hp) :=
  b2 (f_cSide_quietLimit v0 h) fun r12 h10 =>
  if r12 < 0 then (
    f_cSide_tick_b121 v0 v1 h10
  ) else
  if hR h10 v0 9 = 0 then none else
  if (hI h10 (hR h10 v0 9) 3) < (w32 ((hI h10 v0 26) + r12)) then (
    f_cSide_tick_b121 v0 v1 h10
  ) else
  b1 (f_cSide_end v0 40000 h10) fun h14 =>
  f_cSide_tick_b121 v0 v1 h14
def f_cSide_tick_b77 (v0 : Nat) (v1 : Nat) (v2 : Int) (h : Hp) : Option (Hp) :=
  if v2 ≤ 1 then (
    f_cSide_tick_b89 v0 v1 h
  ) else
  b1 (f_cSide_probe v0 (w32 (v2 - 2)) h) fun h8 =>
  f_cSide_tick_b89 v0 v1 h8
def f_cSide_tick_b61 (k61 : Nat → Nat → Int → Int → Hp → Option (Hp)) (v0 : Nat) (v1 : Nat) (v2 : Int) (v3 : Int) (h : Hp) : Option (Hp) :=
  if 3 ≤ v3 then (
    f_cSide_tick_b77 v0 v1 v2 h
  ) else
  b1 (f_cSide_settle v0 v3 h) fun h18 =>
  k61 v0 v1 v2 (w32 (v3 + 1)) h18
def f_cSide_tick_b61_lp : Nat → Nat → Nat → Int → Int → Hp → Option (Hp)
  | 0, _, _, _, _, _ => none
  | n + 1, v0, v1, v2, v3, h => f_cSide_tick_b61 (f_cSide_tick_b61_lp n) v0 v1 v2 v3 h
def f_cSide_tick (v0 : Nat) (v1 : Nat) (h : Hp) : Option (Hp) :=
  if hR h v0 9 = 0 then none else
  b2 (f_cBook_tick (hR h v0 9) h) fun r4 h2 =>
  if (hI h2 v0 1) = 0 then (
    some h2
  ) else
  if (hI h2 v0 1) ≠ 5 then (
    if (hI h2 v0 1) ≤ 2 then (
      if r4 ≠ 1 then (
        f_cSide_tick_b77 v0 v1 r4 h2
      ) else
      f_cSide_tick_b61_lp FU v0 v1 r4 0 h2
    ) else
    if hR h2 v0 9 = 0 then none else
    if (hI h2 (hR h2 v0 9) 3) < (hI h2 v0 22) then (
      f_cSide_tick_b121 v0 v1 h2
    ) else
    b1 (f_cSide_end v0 0 h2) fun h6 =>
    f_cSide_tick_b121 v0 v1 h6
  ) else
  some h2
def f_cP_tick__b26 (k12 : Nat → Int → Hp → Option (Hp)) (k26 : Nat → Int → Int → Hp → Option (Hp)) (v0 : Nat) (v1 : Int) (v2 : Int) (h : Hp) : Option (Hp) :=
  if hR h v0 8 = 0 then none else
  if ix v1 (ln h (hR h v0 8)) then
    if hR h (hR h v0 8) v1.toNat = 0 then none else
    if (hI h (hR h (hR h v0 8) v1.toNat) 3) ≤ v2 then (
      k12 v0 (w32 (v1 + 1)) h
    ) else
    if ix v1 (ln h (hR h v0 8)) then
      if hR h (hR h (hR h v0 8) v1.toNat) 2 = 0 then none else
      if ix v2 (ln h (hR h (hR h (hR h v0 8) v1.toNat) 2)) then
        if (hI h v0 3) < (w32 ((hI h (hR h (hR h (hR h v0 8) v1.toNat) 2) v2.toNat) + (hI h v0 4))) then (
          k26 v0 v1 (w32 (v2 + 1)) h
        ) else
        b2 (f_cP_comes v0 v1 v2 h) fun r24 h22 =>
        k26 v0 v1 v2 h22
      else none
    else none
  else none
def f_cP_tick__b26_lp (k12 : Nat → Int → Hp → Option (Hp)) : Nat → Nat → Int → Int → Hp → Option (Hp)
  | 0, _, _, _, _ => none
  | n + 1, v0, v1, v2, h => f_cP_tick__b26 k12 (f_cP_tick__b26_lp k12 n) v0 v1 v2 h
def f_cP_tick__b84 (v0 : Nat) (h : Hp) : Option (Hp) :=
  if hR h v0 7 = 0 then none else
  if ix 0 (ln h (hR h v0 7)) then
    if hR h v0 8 = 0 then none else
    if ix 0 (ln h (hR h v0 8)) then
      if hR h (hR h v0 7) (Int.toNat 0) = 0 then none else
      b1 (f_cSide_tick (hR h (hR h v0 7) (Int.toNat 0)) (hR h (hR h v0 8) (Int.toNat 0)) h) fun h7 =>
      if hR h7 v0 7 = 0 then none else
      if ix 1 (ln h7 (hR h7 v0 7)) then
        if hR h7 v0 8 = 0 then none else
        if ix 1 (ln h7 (hR h7 v0 8)) then
          if hR h7 (hR h7 v0 7) (Int.toNat 1) = 0 then none else
          b1 (f_cSide_tick (hR h7 (hR h7 v0 7) (Int.toNat 1)) (hR h7 (hR h7 v0 8) (Int.toNat 1)) h7) fun h14 =>
          some h14
        else none
      else none
    else none
  else none
def f_cP_tick__b12 (k12 : Nat → Int → Hp → Option (Hp)) (v0 : Nat) (v1 : Int) (h : Hp) : Option (Hp) :=
  if 2 ≤ v1 then (
    f_cP_tick__b84 v0 h
  ) else
  if (hI h v0 4) ≤ 0 then (
    f_cP_tick__b84 v0 h
  ) else
  f_cP_tick__b26_lp k12 FU v0 v1 0 h
def f_cP_tick__b12_lp : Nat → Nat → Int → Hp → Option (Hp)
  | 0, _, _, _ => none
  | n + 1, v0, v1, h => f_cP_tick__b12 (f_cP_tick__b12_lp n) v0 v1 h
def f_cP_tick_ (v0 : Nat) (h : Hp) : Option (Hp) :=
  lt1 (sI h v0 3 (w32 ((hI h v0 3) + 1))) fun h1 =>
  f_cP_tick__b12_lp FU v0 0 h1
def f_cP_tick_I_b33 (k33 : Nat → Int → Int → Hp → Option ((Int × Hp) ⊕ (Nat × Hp))) (v0 : Nat) (v1 : Int) (v2 : Int) (h : Hp) : Option ((Int × Hp) ⊕ (Nat × Hp)) :=
  if v1 ≤ v2 then (
    some (.inl (hI h v0 3, h))
  ) else
  b1 (f_cP_tick_ v0 h) fun h14 =>
  k33 v0 v1 (w32 (v2 + 1)) h14
def f_cP_tick_I_b33_lp : Nat → Nat → Int → Int → Hp → Option ((Int × Hp) ⊕ (Nat × Hp))
  | 0, _, _, _, _ => none
  | n + 1, v0, v1, v2, h => f_cP_tick_I_b33 (f_cP_tick_I_b33_lp n) v0 v1 v2 h
def f_cP_tick_I_b28 (v0 : Nat) (v1 : Int) (s0 : Int) (h : Hp) : Option ((Int × Hp) ⊕ (Nat × Hp)) :=
  bt (f_cP_ready s0 h) (fun a11 h12 =>
    some (.inr (a11, h12))) fun h9 =>
  f_cP_tick_I_b33_lp FU v0 v1 0 h9
def f_cP_tick_I (v0 : Nat) (v1 : Int) (h : Hp) : Option ((Int × Hp) ⊕ (Nat × Hp)) :=
  b2 (f_cP_in v1 1 1000 h) fun r3 h1 =>
  bt (f_cP_need r3 h1) (fun a6 h7 =>
    some (.inr (a6, h7))) fun h4 =>
  if 200000 < (w32 ((hI h4 v0 3) + v1)) then (
    f_cP_tick_I_b28 v0 v1 0 h4
  ) else
  f_cP_tick_I_b28 v0 v1 1 h4
def f_cP_line_b27 (v0 : Nat) (v1 : Int) (v2 : Int) (s0 : Int) (h : Hp) : Option ((Int × Hp) ⊕ (Nat × Hp)) :=
  bt (f_cP_need s0 h) (fun a9 h10 =>
    some (.inr (a9, h10))) fun h7 =>
  if hR h7 v0 8 = 0 then none else
  if ix v1 (ln h7 (hR h7 v0 8)) then
    lt1 (hR h7 (hR h7 v0 8) v1.toNat) fun y14 =>
    if v2 ≠ 0 then (
      if v2 ≠ 1 then (
        if y14 = 0 then none else
        some (.inl (hI h7 y14 5, h7))
      ) else
      if y14 = 0 then none else
      some (.inl (hI h7 y14 4, h7))
    ) else
    if y14 = 0 then none else
    some (.inl (hI h7 y14 3, h7))
  else none
def f_cP_line_b26 (v0 : Nat) (v1 : Int) (v2 : Int) (h : Hp) : Option ((Int × Hp) ⊕ (Nat × Hp)) :=
  f_cP_line_b27 v0 v1 v2 0 h
def f_cP_line (v0 : Nat) (v1 : Int) (v2 : Int) (h : Hp) : Option ((Int × Hp) ⊕ (Nat × Hp)) :=
  b2 (f_cP_in v1 0 1 h) fun r3 h1 =>
  if r3 = 0 then (
    f_cP_line_b26 v0 v1 v2 h1
  ) else
  b2 (f_cP_in v2 0 2 h1) fun r6 h4 =>
  if r6 = 0 then (
    f_cP_line_b26 v0 v1 v2 h4
  ) else
  f_cP_line_b27 v0 v1 v2 1 h4
def f_cP_at (v0 : Nat) (v1 : Int) (v2 : Int) (v3 : Int) (h : Hp) : Option ((Int × Hp) ⊕ (Nat × Hp)) :=
  bt2 (f_cP_on v0 v1 v2 h) (fun a3 h4 =>
    some (.inr (a3, h4))) fun r6 h1 =>
  if r6 = 0 then none else
  if hR h1 r6 1 = 0 then none else
  if ix v2 (ln h1 (hR h1 r6 1)) then
    b2 (f_cP_in v3 (-2) (w32 ((hI h1 (hR h1 r6 1) v2.toNat) - 1)) h1) fun r12 h10 =>
    bt (f_cP_there r12 h10) (fun a15 h16 =>
      some (.inr (a15, h16))) fun h13 =>
    if v3 ≠ (-2) then (
      if v3 ≠ (-1) then (
        if hR h13 r6 0 = 0 then none else
        if ix v2 (ln h13 (hR h13 r6 0)) then
          if hR h13 (hR h13 r6 0) v2.toNat = 0 then none else
          if ix v3 (ln h13 (hR h13 (hR h13 r6 0) v2.toNat)) then
            some (.inl (iAnd (hI h13 (hR h13 (hR h13 r6 0) v2.toNat) v3.toNat) 255, h13))
          else none
        else none
      ) else
      if hR h13 r6 1 = 0 then none else
      if ix v2 (ln h13 (hR h13 r6 1)) then
        some (.inl (hI h13 (hR h13 r6 1) v2.toNat, h13))
      else none
    ) else
    if hR h13 r6 2 = 0 then none else
    if ix v2 (ln h13 (hR h13 r6 2)) then
      some (.inl (hI h13 (hR h13 r6 2) v2.toNat, h13))
    else none
  else none
def f_cP_look (v0 : Nat) (v1 : Int) (v2 : Int) (h : Hp) : Option ((Int × Hp) ⊕ (Nat × Hp)) :=
  bt2 (f_cP_of v0 v1 h) (fun a3 h4 =>
    some (.inr (a3, h4))) fun r6 h1 =>
  b2 (f_cP_in v2 0 9 h1) fun r9 h7 =>
  bt (f_cP_need r9 h7) (fun a12 h13 =>
    some (.inr (a12, h13))) fun h10 =>
  if v2 = 0 then (
    if r6 = 0 then none else
    some (.inl (hI h10 r6 1, h10))
  ) else
  if v2 = 1 then (
    if r6 = 0 then none else
    some (.inl (hI h10 r6 2, h10))
  ) else
  if v2 = 2 then (
    if r6 = 0 then none else
    if hR h10 r6 9 = 0 then none else
    if (hI h10 (hR h10 r6 9) 6) = 0 then (
      some (.inl (0, h10))
    ) else
    some (.inl (1, h10))
  ) else
  if v2 = 3 then (
    if r6 = 0 then none else
    if (hI h10 r6 14) = 0 then (
      some (.inl (0, h10))
    ) else
    some (.inl (1, h10))
  ) else
  if v2 = 4 then (
    if r6 = 0 then none else
    if hR h10 r6 7 = 0 then none else
    some (.inl (hI h10 (hR h10 r6 7) 20, h10))
  ) else
  if v2 = 5 then (
    if r6 = 0 then none else
    if hR h10 r6 7 = 0 then none else
    if hR h10 (hR h10 r6 7) 11 = 0 then none else
    if ix 2 (ln h10 (hR h10 (hR h10 r6 7) 11)) then
      if (hI h10 (hR h10 (hR h10 r6 7) 11) (Int.toNat 2)) = 0 then (
        if ix 1 (ln h10 (hR h10 (hR h10 r6 7) 11)) then
          if (hI h10 (hR h10 (hR h10 r6 7) 11) (Int.toNat 1)) = 0 then (
            if ix 0 (ln h10 (hR h10 (hR h10 r6 7) 11)) then
              if (hI h10 (hR h10 (hR h10 r6 7) 11) (Int.toNat 0)) = 0 then (
                some (.inl ((-1), h10))
              ) else
              some (.inl (0, h10))
            else none
          ) else
          some (.inl (1, h10))
        else none
      ) else
      some (.inl (2, h10))
    else none
  ) else
  if v2 = 6 then (
    if r6 = 0 then none else
    some (.inl (hI h10 r6 20, h10))
  ) else
  if v2 = 7 then (
    if r6 = 0 then none else
    some (.inl (hI h10 r6 21, h10))
  ) else
  if v2 = 8 then (
    if r6 = 0 then none else
    if hR h10 r6 32 = 0 then none else
    if ix 0 (ln h10 (hR h10 r6 32)) then
      if ix 1 (ln h10 (hR h10 r6 32)) then
        if ix 2 (ln h10 (hR h10 r6 32)) then
          some (.inl (w32 ((w32 ((hI h10 (hR h10 r6 32) (Int.toNat 0)) + (hI h10 (hR h10 r6 32) (Int.toNat 1)))) + (hI h10 (hR h10 r6 32) (Int.toNat 2))), h10))
        else none
      else none
    else none
  ) else
  if r6 = 0 then none else
  if hR h10 r6 10 = 0 then none else
  if ix 0 (ln h10 (hR h10 r6 10)) then
    if hR h10 (hR h10 r6 10) (Int.toNat 0) = 0 then none else
    if ix 1 (ln h10 (hR h10 r6 10)) then
      if hR h10 (hR h10 r6 10) (Int.toNat 1) = 0 then none else
      if ix 2 (ln h10 (hR h10 r6 10)) then
        if hR h10 (hR h10 r6 10) (Int.toNat 2) = 0 then none else
        some (.inl (w32 ((w32 ((hI h10 (hR h10 (hR h10 r6 10) (Int.toNat 0)) 7) + (hI h10 (hR h10 (hR h10 r6 10) (Int.toNat 1)) 7))) + (hI h10 (hR h10 (hR h10 r6 10) (Int.toNat 2)) 7)), h10))
      else none
    else none
  else none
def f_cBook_look (v0 : Nat) (v1 : Int) (h : Hp) : Option (Int × Hp) :=
  if v1 = 0 then (
    some (hI h v0 3, h)
  ) else
  if v1 = 1 then (
    if hR h v0 2 = 0 then none else
    some (hI h (hR h v0 2) 3, h)
  ) else
  if v1 = 2 then (
    if hR h v0 2 = 0 then none else
    some (hI h (hR h v0 2) 0, h)
  ) else
  if v1 = 3 then (
    if hR h v0 2 = 0 then none else
    some (hI h (hR h v0 2) 1, h)
  ) else
  if v1 = 4 then (
    if hR h v0 2 = 0 then none else
    some (hI h (hR h v0 2) 2, h)
  ) else
  if v1 = 5 then (
    if hR h v0 1 = 0 then none else
    some (hI h (hR h v0 1) 0, h)
  ) else
  if v1 = 6 then (
    if hR h v0 1 = 0 then none else
    some (hI h (hR h v0 1) 1, h)
  ) else
  if v1 = 7 then (
    if hR h v0 1 = 0 then none else
    some (hI h (hR h v0 1) 2, h)
  ) else
  if v1 = 8 then (
    if hR h v0 1 = 0 then none else
    some (hI h (hR h v0 1) 3, h)
  ) else
  if v1 = 9 then (
    some (hI h v0 4, h)
  ) else
  if v1 = 10 then (
    if hR h v0 1 = 0 then none else
    b2 (f_cTrip_limit (hR h v0 1) h) fun r34 h32 =>
    some (r34, h32)
  ) else
  if hR h v0 2 = 0 then none else
  some (max (w32 ((hI h (hR h v0 2) 0) - (hI h (hR h v0 2) 3))) 0, h)
def f_cP_book (v0 : Nat) (v1 : Int) (v2 : Int) (h : Hp) : Option ((Int × Hp) ⊕ (Nat × Hp)) :=
  bt2 (f_cP_of v0 v1 h) (fun a3 h4 =>
    some (.inr (a3, h4))) fun r6 h1 =>
  b2 (f_cP_in v2 0 10 h1) fun r9 h7 =>
  bt (f_cP_need r9 h7) (fun a12 h13 =>
    some (.inr (a12, h13))) fun h10 =>
  if r6 = 0 then none else
  if hR h10 r6 9 = 0 then none else
  b2 (f_cBook_look (hR h10 r6 9) v2 h10) fun r19 h17 =>
  some (.inl (r19, h17))
def f_cBook_space (v0 : Nat) (v1 : Int) (v2 : Int) (h : Hp) : Option (Int × Hp) :=
  if hR h v0 0 = 0 then none else
  if ix v1 (ln h (hR h v0 0)) then
    lt1 (hR h (hR h v0 0) v1.toNat) fun y3 =>
    if v2 = 0 then (
      if y3 = 0 then none else
      some (hI h y3 3, h)
    ) else
    if v2 = 1 then (
      if y3 = 0 then none else
      some (hI h y3 6, h)
    ) else
    if v2 = 2 then (
      if y3 = 0 then none else
      some (hI h y3 8, h)
    ) else
    if v2 = 3 then (
      b2 (f_cBook_probeTime v0 v1 h) fun r17 h15 =>
      some (r17, h15)
    ) else
    if v2 = 4 then (
      if y3 = 0 then none else
      some (hI h y3 4, h)
    ) else
    if v2 = 5 then (
      if y3 = 0 then none else
      some (hI h y3 5, h)
    ) else
    if v2 = 6 then (
      if y3 = 0 then none else
      if hR h y3 13 = 0 then none else
      some (hI h (hR h y3 13) 2, h)
    ) else
    if v2 = 7 then (
      if y3 = 0 then none else
      some (hI h y3 14, h)
    ) else
    if v2 = 8 then (
      b2 (f_cBook_patience v0 v1 h) fun r35 h33 =>
      some (r35, h33)
    ) else
    if v2 = 9 then (
      if y3 = 0 then none else
      if (hI h y3 10) = 0 then (
        some (0, h)
      ) else
      some (1, h)
    ) else
    if y3 = 0 then none else
    if hR h y3 13 = 0 then none else
    some (hJ h (hR h y3 13) 3, h)
  else none
def f_cP_space_b36 (v0 : Nat) (v2 : Int) (v3 : Int) (v4 : Nat) (s0 : Int) (h : Hp) : Option ((Int × Hp) ⊕ (Nat × Hp)) :=
  bt (f_cP_need s0 h) (fun a15 h16 =>
    some (.inr (a15, h16))) fun h13 =>
  if v3 ≠ 11 then (
    if v4 = 0 then none else
    if hR h13 v4 9 = 0 then none else
    b2 (f_cBook_space (hR h13 v4 9) v2 v3 h13) fun r22 h20 =>
    some (.inl (r22, h20))
  ) else
  if v4 = 0 then none else
  if hR h13 v4 6 = 0 then none else
  if ix v2 (ln h13 (hR h13 v4 6)) then
    if (hI h13 (hR h13 v4 6) v2.toNat) = 0 then (
      some (.inl (0, h13))
    ) else
    some (.inl (1, h13))
  else none
def f_cP_space_b35 (v0 : Nat) (v2 : Int) (v3 : Int) (v4 : Nat) (h : Hp) : Option ((Int × Hp) ⊕ (Nat × Hp)) :=
  f_cP_space_b36 v0 v2 v3 v4 0 h
def f_cP_space (v0 : Nat) (v1 : Int) (v2 : Int) (v3 : Int) (h : Hp) : Option ((Int × Hp) ⊕ (Nat × Hp)) :=
  bt2 (f_cP_of v0 v1 h) (fun a3 h4 =>
    some (.inr (a3, h4))) fun r6 h1 =>
  b2 (f_cP_in v2 0 2 h1) fun r9 h7 =>
  if r9 = 0 then (
    f_cP_space_b35 v0 v2 v3 r6 h7
  ) else
  b2 (f_cP_in v3 0 11 h7) fun r12 h10 =>
  if r12 = 0 then (
    f_cP_space_b35 v0 v2 v3 r6 h10
  ) else
  f_cP_space_b36 v0 v2 v3 r6 1 h10
def f_cHall_look_II_b31 (v0 : Nat) (h : Hp) : Option (Int × Hp) :=
  some ((-1), h)
def f_cHall_look_II_b35 (v0 : Nat) (v2 : Int) (v3 : Nat) (v4 : Nat) (h : Hp) : Option (Int × Hp) :=
  if v2 = 0 then (
    if v3 = 0 then none else
    some (hI h v3 0, h)
  ) else
  if v2 = 1 then (
    if v3 = 0 then none else
    some (hI h v3 1, h)
  ) else
  if v2 = 2 then (
    if v3 = 0 then none else
    some (hI h v3 2, h)
  ) else
  if v2 = 3 then (
    if v3 = 0 then none else
    some (hJ h v3 8, h)
  ) else
  if v2 = 4 then (
    if v3 = 0 then none else
    some (hJ h v3 9, h)
  ) else
  if v2 = 5 then (
    if v3 = 0 then none else
    if hR h v0 6 = 0 then none else
    b2 (f_cSpans_count (hR h v0 6) (hI h v3 6) h) fun r28 h26 =>
    some (r28, h26)
  ) else
  if v2 = 6 then (
    if v3 = 0 then none else
    if hR h v0 6 = 0 then none else
    b2 (f_cSpans_count (hR h v0 6) (hI h v3 7) h) fun r35 h33 =>
    some (r35, h33)
  ) else
  if v2 = 7 then (
    if v3 = 0 then none else
    some (hI h v3 3, h)
  ) else
  if v2 = 8 then (
    if v4 = 0 then none else
    some (hI h v4 1, h)
  ) else
  if v2 = 9 then (
    if v4 = 0 then none else
    some (hI h v4 2, h)
  ) else
  if v2 = 10 then (
    if v4 = 0 then none else
    some (hI h v4 3, h)
  ) else
  if v2 = 11 then (
    if v4 = 0 then none else
    some (hI h v4 4, h)
  ) else
  if v2 = 12 then (
    if v4 = 0 then none else
    some (hI h v4 5, h)
  ) else
  if v2 = 13 then (
    if v4 = 0 then none else
    some (hI h v4 6, h)
  ) else
  if v4 = 0 then none else
  some (hJ h v4 8, h)
def f_cHall_look_II (v0 : Nat) (v1 : Int) (v2 : Int) (h : Hp) : Option (Int × Hp) :=
  b2 (f_cHall_sending v0 v1 h) fun r3 h1 =>
  b2 (f_cHall_receiving v0 v1 h1) fun r6 h4 =>
  if 8 ≤ v2 then (
    if r6 ≠ 0 then (
      f_cHall_look_II_b35 v0 v2 r3 r6 h4
    ) else
    f_cHall_look_II_b31 v0 h4
  ) else
  if r3 ≠ 0 then (
    f_cHall_look_II_b35 v0 v2 r3 r6 h4
  ) else
  f_cHall_look_II_b31 v0 h4
def f_cP_stream (v0 : Nat) (v1 : Int) (v2 : Int) (v3 : Int) (h : Hp) : Option ((Int × Hp) ⊕ (Nat × Hp)) :=
  bt2 (f_cP_of v0 v1 h) (fun a3 h4 =>
    some (.inr (a3, h4))) fun r6 h1 =>
  b2 (f_cP_in v3 0 14 h1) fun r9 h7 =>
  bt (f_cP_need r9 h7) (fun a12 h13 =>
    some (.inr (a12, h13))) fun h10 =>
  if r6 = 0 then none else
  if hR h10 r6 11 = 0 then none else
  b2 (f_cHall_look_II (hR h10 r6 11) v2 v3 h10) fun r19 h17 =>
  some (.inl (r19, h17))
def f_cHall_look_I_b110 (v0 : Nat) (v1 : Int) (h : Hp) : Option (Int × Hp) :=
  if hR h v0 3 = 0 then none else
  if ix (iRem (w32 (v1 - 5)) 2) (ln h (hR h v0 3)) then
    lt1 (hR h (hR h v0 3) ((iRem (w32 (v1 - 5)) 2).toNat)) fun y32 =>
    if 7 ≤ v1 then (
      if 9 ≤ v1 then (
        if 11 ≤ v1 then (
          if y32 = 0 then none else
          some (hI h y32 2, h)
        ) else
        if y32 = 0 then none else
        some (hI h y32 1, h)
      ) else
      if y32 = 0 then none else
      some (hJ h y32 3, h)
    ) else
    if y32 = 0 then none else
    some (hI h y32 0, h)
  else none
def f_cHall_look_I (v0 : Nat) (v1 : Int) (h : Hp) : Option (Int × Hp) :=
  if v1 = 0 then (
    some (hI h v0 11, h)
  ) else
  if v1 = 1 then (
    some (hJ h v0 9, h)
  ) else
  if v1 = 2 then (
    some (hI h v0 12, h)
  ) else
  if v1 = 3 then (
    some (hI h v0 13, h)
  ) else
  if v1 = 4 then (
    some (hI h v0 14, h)
  ) else
  if v1 = 5 then (
    f_cHall_look_I_b110 v0 v1 h
  ) else
  if v1 = 6 then (
    f_cHall_look_I_b110 v0 v1 h
  ) else
  if v1 = 7 then (
    f_cHall_look_I_b110 v0 v1 h
  ) else
  if v1 = 8 then (
    f_cHall_look_I_b110 v0 v1 h
  ) else
  if v1 = 9 then (
    f_cHall_look_I_b110 v0 v1 h
  ) else
  if v1 = 10 then (
    f_cHall_look_I_b110 v0 v1 h
  ) else
  if v1 = 11 then (
    f_cHall_look_I_b110 v0 v1 h
  ) else
  if v1 = 12 then (
    f_cHall_look_I_b110 v0 v1 h
  ) else
  if v1 = 13 then (
    if hR h v0 7 = 0 then none else
    some (hI h (hR h v0 7) 1, h)
  ) else
  f_cHall_look_I_b110 v0 v1 h
def f_cP_streams (v0 : Nat) (v1 : Int) (v2 : Int) (h : Hp) : Option ((Int × Hp) ⊕ (Nat × Hp)) :=
  bt2 (f_cP_of v0 v1 h) (fun a3 h4 =>
    some (.inr (a3, h4))) fun r6 h1 =>
  b2 (f_cP_in v2 0 13 h1) fun r9 h7 =>
  bt (f_cP_need r9 h7) (fun a12 h13 =>
    some (.inr (a12, h13))) fun h10 =>
  if r6 = 0 then none else
  if hR h10 r6 11 = 0 then none else
  b2 (f_cHall_look_I (hR h10 r6 11) v2 h10) fun r19 h17 =>
  some (.inl (r19, h17))
def f_mSeals_nextPrime_b35 (k4 : Int → Int → Hp → Option (Int × Hp)) (k15 : Int → Int → Int → Hp → Option (Int × Hp)) (v1 : Int) (v3 : Int) (s0 : Int) (h : Hp) : Option (Int × Hp) :=
  k15 v1 s0 (w32 (v3 + 1)) h
def f_mSeals_nextPrime_b34 (k4 : Int → Int → Hp → Option (Int × Hp)) (k15 : Int → Int → Int → Hp → Option (Int × Hp)) (v1 : Int) (v3 : Int) (h : Hp) : Option (Int × Hp) :=
  f_mSeals_nextPrime_b35 k4 k15 v1 v3 0 h
def f_mSeals_nextPrime_b15 (k4 : Int → Int → Hp → Option (Int × Hp)) (k15 : Int → Int → Int → Hp → Option (Int × Hp)) (v1 : Int) (v2 : Int) (v3 : Int) (h : Hp) : Option (Int × Hp) :=
  if v1 ≤ v3 then (
    k4 v1 v2 h
  ) else
  if v2 = 0 then (
    f_mSeals_nextPrime_b34 k4 k15 v1 v3 h
  ) else
  if v3 = 0 then none else
  if (iRem v1 v3) = 0 then (
    f_mSeals_nextPrime_b34 k4 k15 v1 v3 h
  ) else
  f_mSeals_nextPrime_b35 k4 k15 v1 v3 1 h
def f_mSeals_nextPrime_b15_lp (k4 : Int → Int → Hp → Option (Int × Hp)) : Nat → Int → Int → Int → Hp → Option (Int × Hp)
  | 0, _, _, _, _ => none
  | n + 1, v1, v2, v3, h => f_mSeals_nextPrime_b15 k4 (f_mSeals_nextPrime_b15_lp k4 n) v1 v2 v3 h
def f_mSeals_nextPrime_b4 (k4 : Int → Int → Hp → Option (Int × Hp)) (v1 : Int) (v2 : Int) (h : Hp) : Option (Int × Hp) :=
  if v2 ≠ 0 then (
    some (v1, h)
  ) else
  f_mSeals_nextPrime_b15_lp k4 FU (w32 (v1 + 1)) 1 2 h
def f_mSeals_nextPrime_b4_lp : Nat → Int → Int → Hp → Option (Int × Hp)
  | 0, _, _, _ => none
  | n + 1, v1, v2, h => f_mSeals_nextPrime_b4 (f_mSeals_nextPrime_b4_lp n) v1 v2 h
def f_mSeals_nextPrime (v0 : Int) (h : Hp) : Option (Int × Hp) :=
  f_mSeals_nextPrime_b4_lp FU v0 0 h
def f_mSeals_times_b52 (k3 : Nat → Int → Hp → Option (Hp)) (v0 : Nat) (v1 : Int) (v2 : Int) (h : Hp) : Option (Hp) :=
  if hR h v0 5 = 0 then none else
  if ix v1 (ln h (hR h v0 5)) then
    lt1 (sJ h (hR h v0 5) v1.toNat v2) fun h15 =>
    k3 v0 (w32 (v1 + (-1))) h15
  else none
def f_mSeals_times_b12 (k3 : Nat → Int → Hp → Option (Hp)) (k12 : Nat → Int → Int → Int → Hp → Option (Hp)) (v0 : Nat) (v1 : Int) (v2 : Int) (v4 : Int) (h : Hp) : Option (Hp) :=
  if 3 ≤ v4 then (
    f_mSeals_times_b52 k3 v0 v1 v2 h
  ) else
  if v1 < v4 then (
    f_mSeals_times_b52 k3 v0 v1 v2 h
  ) else
  if hR h v0 3 = 0 then none else
  if ix (w32 (v1 - v4)) (ln h (hR h v0 3)) then
    if hR h v0 2 = 0 then none else
    if ix v4 (ln h (hR h v0 2)) then
      lt1 (w64 (v2 + (w64 ((hI h (hR h v0 3) ((w32 (v1 - v4)).toNat)) * (hI h (hR h v0 2) v4.toNat))))) fun y12 =>
      k12 v0 v1 y12 (w32 (v4 + 1)) h
    else none
  else none
def f_mSeals_times_b12_lp (k3 : Nat → Int → Hp → Option (Hp)) : Nat → Nat → Int → Int → Int → Hp → Option (Hp)
  | 0, _, _, _, _, _ => none
  | n + 1, v0, v1, v2, v4, h => f_mSeals_times_b12 k3 (f_mSeals_times_b12_lp k3 n) v0 v1 v2 v4 h
def f_mSeals_times_b69 (k69 : Nat → Int → Int → Hp → Option (Hp)) (v0 : Nat) (v1 : Int) (v3 : Int) (h : Hp) : Option (Hp) :=
  if 9 ≤ v3 then (
    some h
  ) else
  if hR h v0 5 = 0 then none else
  if ix v3 (ln h (hR h v0 5)) then
    lt1 (w64 (v1 + (hJ h (hR h v0 5) v3.toNat))) fun y3 =>
    if hR h v0 3 = 0 then none else
    if ix v3 (ln h (hR h v0 3)) then
      lt1 (sI h (hR h v0 3) v3.toNat (w32 (lAnd y3 65535))) fun h6 =>
      lt1 (lShr y3 16) fun y7 =>
      k69 v0 y7 (w32 (v3 + 1)) h6
    else none
  else none
def f_mSeals_times_b69_lp : Nat → Nat → Int → Int → Hp → Option (Hp)
  | 0, _, _, _, _ => none
  | n + 1, v0, v1, v3, h => f_mSeals_times_b69 (f_mSeals_times_b69_lp n) v0 v1 v3 h
def f_mSeals_times_b3 (k3 : Nat → Int → Hp → Option (Hp)) (v0 : Nat) (v1 : Int) (h : Hp) : Option (Hp) :=
  if v1 < 0 then (
    f_mSeals_times_b69_lp FU v0 0 0 h
  ) else
  f_mSeals_times_b12_lp k3 FU v0 v1 0 0 h
def f_mSeals_times_b3_lp : Nat → Nat → Int → Hp → Option (Hp)
  | 0, _, _, _ => none
  | n + 1, v0, v1, h => f_mSeals_times_b3 (f_mSeals_times_b3_lp n) v0 v1 h
def f_mSeals_times (v0 : Nat) (h : Hp) : Option (Hp) :=
  f_mSeals_times_b3_lp FU v0 8 h
def f_mSeals_isAbove_b108 (k89 : Nat → Int → Int → Int → Hp → Option (Int × Hp)) (v0 : Nat) (v3 : Int) (v4 : Int) (v5 : Int) (s0 : Int) (h : Hp) : Option (Int × Hp) :=
  if hR h v0 3 = 0 then none else
  if ix v5 (ln h (hR h v0 3)) then
    if (hI h (hR h v0 3) v5.toNat) = s0 then (
      k89 v0 v3 v4 (w32 (v5 + (-1))) h
    ) else
    if ix v5 (ln h (hR h v0 3)) then
      if (hI h (hR h v0 3) v5.toNat) ≤ s0 then (
        some (0, h)
      ) else
      some (1, h)
    else none
  else none
def f_mSeals_isAbove_b89 (k89 : Nat → Int → Int → Int → Hp → Option (Int × Hp)) (v0 : Nat) (v3 : Int) (v4 : Int) (v5 : Int) (h : Hp) : Option (Int × Hp) :=
  if v5 < 0 then (
    some (0, h)
  ) else
  if v5 ≠ (w32 (2 * v4)) then (
    f_mSeals_isAbove_b108 k89 v0 v3 v4 v5 0 h
  ) else
  f_mSeals_isAbove_b108 k89 v0 v3 v4 v5 v3 h
def f_mSeals_isAbove_b89_lp : Nat → Nat → Int → Int → Int → Hp → Option (Int × Hp)
  | 0, _, _, _, _, _ => none
  | n + 1, v0, v3, v4, v5, h => f_mSeals_isAbove_b89 (f_mSeals_isAbove_b89_lp n) v0 v3 v4 v5 h
def f_mSeals_isAbove_b68 (k68 : Nat → Int → Int → Int → Hp → Option (Int × Hp)) (v0 : Nat) (v3 : Int) (v4 : Int) (v5 : Int) (h : Hp) : Option (Int × Hp) :=
  if v4 ≤ v5 then (
    f_mSeals_isAbove_b89_lp FU v0 v3 v4 8 h
  ) else
  b1 (f_mSeals_times v0 h) fun h10 =>
  k68 v0 v3 v4 (w32 (v5 + 1)) h10
def f_mSeals_isAbove_b68_lp : Nat → Nat → Int → Int → Int → Hp → Option (Int × Hp)
  | 0, _, _, _, _, _ => none
  | n + 1, v0, v3, v4, v5, h => f_mSeals_isAbove_b68 (f_mSeals_isAbove_b68_lp n) v0 v3 v4 v5 h
def f_mSeals_isAbove_b34 (k34 : Nat → Int → Int → Int → Int → Hp → Option (Int × Hp)) (v0 : Nat) (v1 : Int) (v3 : Int) (v4 : Int) (v5 : Int) (h : Hp) : Option (Int × Hp) :=
  if 3 ≤ v5 then (
    f_mSeals_isAbove_b68_lp FU v0 v3 v4 0 h
  ) else
  if hR h v0 2 = 0 then none else
  if ix v5 (ln h (hR h v0 2)) then
    lt1 (sI h (hR h v0 2) v5.toNat (w32 (lAnd (lShr v1 (w32 (16 * v5))) 65535))) fun h9 =>
    k34 v0 v1 v3 v4 (w32 (v5 + 1)) h9
  else none
def f_mSeals_isAbove_b34_lp : Nat → Nat → Int → Int → Int → Int → Hp → Option (Int × Hp)
  | 0, _, _, _, _, _, _ => none
  | n + 1, v0, v1, v3, v4, v5, h => f_mSeals_isAbove_b34 (f_mSeals_isAbove_b34_lp n) v0 v1 v3 v4 v5 h
def f_mSeals_isAbove_b3 (k3 : Nat → Int → Int → Int → Int → Hp → Option (Int × Hp)) (v0 : Nat) (v1 : Int) (v3 : Int) (v4 : Int) (v5 : Int) (h : Hp) : Option (Int × Hp) :=
  if 9 ≤ v5 then (
    if hR h v0 3 = 0 then none else
    if ix 0 (ln h (hR h v0 3)) then
      lt1 (sI h (hR h v0 3) (Int.toNat 0) 1) fun h3 =>
      f_mSeals_isAbove_b34_lp FU v0 v1 v3 v4 0 h3
    else none
  ) else
  if hR h v0 3 = 0 then none else
  if ix v5 (ln h (hR h v0 3)) then
    lt1 (sI h (hR h v0 3) v5.toNat 0) fun h6 =>
    k3 v0 v1 v3 v4 (w32 (v5 + 1)) h6
  else none
def f_mSeals_isAbove_b3_lp : Nat → Nat → Int → Int → Int → Int → Hp → Option (Int × Hp)
  | 0, _, _, _, _, _, _ => none
  | n + 1, v0, v1, v3, v4, v5, h => f_mSeals_isAbove_b3 (f_mSeals_isAbove_b3_lp n) v0 v1 v3 v4 v5 h
def f_mSeals_isAbove (v0 : Nat) (v1 : Int) (v3 : Int) (v4 : Int) (h : Hp) : Option (Int × Hp) :=
  f_mSeals_isAbove_b3_lp FU v0 v1 v3 v4 0 h
def f_mSeals_rootOf_b35 (k6 : Nat → Int → Int → Int → Int → Hp → Option (Int × Hp)) (v0 : Nat) (v1 : Int) (v2 : Int) (v3 : Int) (v5 : Int) (h : Hp) : Option (Int × Hp) :=
  k6 v0 v1 v2 v3 (w32 (v5 + (-1))) h
def f_mSeals_rootOf_b6 (k6 : Nat → Int → Int → Int → Int → Hp → Option (Int × Hp)) (v0 : Nat) (v1 : Int) (v2 : Int) (v3 : Int) (v5 : Int) (h : Hp) : Option (Int × Hp) :=
  if v5 < 0 then (
    some (lAnd v3 4294967295, h)
  ) else
  lt1 (w64 (v3 + (lShl 1 v5))) fun y1 =>
  b2 (f_mSeals_isAbove v0 y1 v1 v2 h) fun r4 h2 =>
  if r4 = 0 then (
    f_mSeals_rootOf_b35 k6 v0 v1 v2 y1 v5 h2
  ) else
  lt1 (w64 (y1 - (lShl 1 v5))) fun y5 =>
  f_mSeals_rootOf_b35 k6 v0 v1 v2 y5 v5 h2
def f_mSeals_rootOf_b6_lp : Nat → Nat → Int → Int → Int → Int → Hp → Option (Int × Hp)
  | 0, _, _, _, _, _, _ => none
  | n + 1, v0, v1, v2, v3, v5, h => f_mSeals_rootOf_b6 (f_mSeals_rootOf_b6_lp n) v0 v1 v2 v3 v5 h
def f_mSeals_rootOf (v0 : Nat) (v1 : Int) (v2 : Int) (h : Hp) : Option (Int × Hp) :=
  f_mSeals_rootOf_b6_lp FU v0 v1 v2 0 35 h
def f_mSeals_init_b224 (k195 : Nat → Int → Int → Hp → Option (Hp)) (v0 : Nat) (v1 : Int) (v2 : Int) (h : Hp) : Option (Hp) :=
  b2 (f_mSeals_rootOf v0 v1 3 h) fun r104 h102 =>
  if hR h v0 1 = 0 then none else
  if ix v2 (ln h102 (hR h v0 1)) then
    lt1 (sJ h102 (hR h v0 1) v2.toNat r104) fun h107 =>
    k195 v0 v1 (w32 (v2 + 1)) h107
  else none
def f_mSeals_init_b195 (k195 : Nat → Int → Int → Hp → Option (Hp)) (v0 : Nat) (v1 : Int) (v2 : Int) (h : Hp) : Option (Hp) :=
  if 64 ≤ v2 then (
    some h
  ) else
  b2 (f_mSeals_nextPrime v1 h) fun r95 h93 =>
  if 8 ≤ v2 then (
    f_mSeals_init_b224 k195 v0 r95 v2 h93
  ) else
  b2 (f_mSeals_rootOf v0 r95 2 h93) fun r98 h96 =>
  if hR h93 v0 0 = 0 then none else
  if ix v2 (ln h96 (hR h93 v0 0)) then
    lt1 (sJ h96 (hR h93 v0 0) v2.toNat r98) fun h101 =>
    f_mSeals_init_b224 k195 v0 r95 v2 h101
  else none
def f_mSeals_init_b195_lp : Nat → Nat → Int → Int → Hp → Option (Hp)
  | 0, _, _, _, _ => none
  | n + 1, v0, v1, v2, h => f_mSeals_init_b195 (f_mSeals_init_b195_lp n) v0 v1 v2 h
def f_mSeals_init (v0 : Nat) (h : Hp) : Option (Hp) :=
  if (0 : Int) ≤ 8 ∧ hN h + 1 ≤ CN ∧ hZ h + Int.toNat 8 ≤ CZ then
    lt1 (nwC h 105 (Int.toNat 8) (Int.toNat 8)) fun h2 =>
    lt1 (sR h2 v0 0 (hN h)) fun h4 =>
    if (0 : Int) ≤ 64 ∧ hN h4 + 1 ≤ CN ∧ hZ h4 + Int.toNat 64 ≤ CZ then
      lt1 (nwC h4 105 (Int.toNat 64) (Int.toNat 64)) fun h6 =>
      lt1 (sR h6 v0 1 (hN h4)) fun h8 =>
      if (0 : Int) ≤ 3 ∧ hN h8 + 1 ≤ CN ∧ hZ h8 + Int.toNat 3 ≤ CZ then
        lt1 (nwC h8 101 (Int.toNat 3) (Int.toNat 3)) fun h10 =>
        lt1 (sR h10 v0 2 (hN h8)) fun h12 =>
        if (0 : Int) ≤ 9 ∧ hN h12 + 1 ≤ CN ∧ hZ h12 + Int.toNat 9 ≤ CZ then
          lt1 (nwC h12 101 (Int.toNat 9) (Int.toNat 9)) fun h14 =>
          lt1 (sR h14 v0 3 (hN h12)) fun h16 =>
          if (0 : Int) ≤ 2400 ∧ hN h16 + 1 ≤ CN ∧ hZ h16 + Int.toNat 2400 ≤ CZ then
            lt1 (nwC h16 101 (Int.toNat 2400) (Int.toNat 2400)) fun h18 =>
            lt1 (sR h18 v0 4 (hN h16)) fun h20 =>
            if (0 : Int) ≤ 64 ∧ hN h20 + 1 ≤ CN ∧ hZ h20 + Int.toNat 64 ≤ CZ then
              lt1 (nwC h20 105 (Int.toNat 64) (Int.toNat 64)) fun h22 =>
              lt1 (sR h22 v0 5 (hN h20)) fun h24 =>
              if (0 : Int) ≤ 8 ∧ hN h24 + 1 ≤ CN ∧ hZ h24 + Int.toNat 8 ≤ CZ then
                lt1 (nwC h24 105 (Int.toNat 8) (Int.toNat 8)) fun h26 =>
                lt1 (sR h26 v0 6 (hN h24)) fun h28 =>
                if (0 : Int) ≤ 8 ∧ hN h28 + 1 ≤ CN ∧ hZ h28 + Int.toNat 8 ≤ CZ then
                  lt1 (nwC h28 105 (Int.toNat 8) (Int.toNat 8)) fun h30 =>
                  lt1 (sR h30 v0 7 (hN h28)) fun h32 =>
                  if (0 : Int) ≤ 32 ∧ hN h32 + 1 ≤ CN ∧ hZ h32 + Int.toNat 32 ≤ CZ then
                    lt1 (nwC h32 101 (Int.toNat 32) (Int.toNat 32)) fun h34 =>
                    lt1 (sR h34 v0 8 (hN h32)) fun h36 =>
                    if (0 : Int) ≤ 64 ∧ hN h36 + 1 ≤ CN ∧ hZ h36 + Int.toNat 64 ≤ CZ then
                      lt1 (nwC h36 101 (Int.toNat 64) (Int.toNat 64)) fun h38 =>
                      lt1 (sR h38 v0 9 (hN h36)) fun h40 =>
                      if (0 : Int) ≤ 2400 ∧ hN h40 + 1 ≤ CN ∧ hZ h40 + Int.toNat 2400 ≤ CZ then
                        lt1 (nwC h40 101 (Int.toNat 2400) (Int.toNat 2400)) fun h42 =>
                        lt1 (sR h42 v0 10 (hN h40)) fun h44 =>
                        if (0 : Int) ≤ 400 ∧ hN h44 + 1 ≤ CN ∧ hZ h44 + Int.toNat 400 ≤ CZ then
                          lt1 (nwC h44 101 (Int.toNat 400) (Int.toNat 400)) fun h46 =>
                          lt1 (sR h46 v0 12 (hN h44)) fun h48 =>
                          if (0 : Int) ≤ 64 ∧ hN h48 + 1 ≤ CN ∧ hZ h48 + Int.toNat 64 ≤ CZ then
                            lt1 (nwC h48 101 (Int.toNat 64) (Int.toNat 64)) fun h50 =>
                            lt1 (sR h50 v0 14 (hN h48)) fun h52 =>
                            if (0 : Int) ≤ 32 ∧ hN h52 + 1 ≤ CN ∧ hZ h52 + Int.toNat 32 ≤ CZ then
                              lt1 (nwC h52 101 (Int.toNat 32) (Int.toNat 32)) fun h54 =>
                              lt1 (sR h54 v0 15 (hN h52)) fun h56 =>
                              if (0 : Int) ≤ 12 ∧ hN h56 + 1 ≤ CN ∧ hZ h56 + Int.toNat 12 ≤ CZ then
                                lt1 (nwC h56 101 (Int.toNat 12) (Int.toNat 12)) fun h58 =>
                                lt1 (sR h58 v0 16 (hN h56)) fun h60 =>
                                if (0 : Int) ≤ 16 ∧ hN h60 + 1 ≤ CN ∧ hZ h60 + Int.toNat 16 ≤ CZ then
                                  lt1 (nwC h60 105 (Int.toNat 16) (Int.toNat 16)) fun h62 =>
                                  lt1 (sR h62 v0 17 (hN h60)) fun h64 =>
                                  if (0 : Int) ≤ 16 ∧ hN h64 + 1 ≤ CN ∧ hZ h64 + Int.toNat 16 ≤ CZ then
                                    lt1 (nwC h64 105 (Int.toNat 16) (Int.toNat 16)) fun h66 =>
                                    lt1 (sR h66 v0 18 (hN h64)) fun h68 =>
                                    if (0 : Int) ≤ 64 ∧ hN h68 + 1 ≤ CN ∧ hZ h68 + Int.toNat 64 ≤ CZ then
                                      lt1 (nwC h68 101 (Int.toNat 64) (Int.toNat 64)) fun h70 =>
                                      lt1 (sR h70 v0 19 (hN h68)) fun h72 =>
                                      if (0 : Int) ≤ 40 ∧ hN h72 + 1 ≤ CN ∧ hZ h72 + Int.toNat 40 ≤ CZ then
                                        lt1 (nwC h72 101 (Int.toNat 40) (Int.toNat 40)) fun h74 =>
                                        lt1 (sR h74 v0 20 (hN h72)) fun h76 =>
                                        if (0 : Int) ≤ 16 ∧ hN h76 + 1 ≤ CN ∧ hZ h76 + Int.toNat 16 ≤ CZ then
                                          lt1 (nwC h76 101 (Int.toNat 16) (Int.toNat 16)) fun h78 =>
                                          lt1 (sR h78 v0 21 (hN h76)) fun h80 =>
                                          if (0 : Int) ≤ 40 ∧ hN h80 + 1 ≤ CN ∧ hZ h80 + Int.toNat 40 ≤ CZ then
                                            lt1 (nwC h80 101 (Int.toNat 40) (Int.toNat 40)) fun h82 =>
                                            lt1 (sR h82 v0 22 (hN h80)) fun h84 =>
                                            if (0 : Int) ≤ 16 ∧ hN h84 + 1 ≤ CN ∧ hZ h84 + Int.toNat 16 ≤ CZ then
                                              lt1 (nwC h84 101 (Int.toNat 16) (Int.toNat 16)) fun h86 =>
                                              lt1 (sR h86 v0 23 (hN h84)) fun h88 =>
                                              if (0 : Int) ≤ 2400 ∧ hN h88 + 1 ≤ CN ∧ hZ h88 + Int.toNat 2400 ≤ CZ then
                                                lt1 (nwC h88 101 (Int.toNat 2400) (Int.toNat 2400)) fun h90 =>
                                                lt1 (sR h90 v0 24 (hN h88)) fun h92 =>
                                                f_mSeals_init_b195_lp FU v0 1 0 h92
                                              else none
                                            else none
                                          else none
                                        else none
                                      else none
                                    else none
                                  else none
                                else none
                              else none
                            else none
                          else none
                        else none
                      else none
                    else none
                  else none
                else none
              else none
            else none
          else none
        else none
      else none
    else none
  else none
def f_mStreams_init_b449 (k435 : Nat → Int → Hp → Option (Hp)) (k449 : Nat → Int → Int → Hp → Option (Hp)) (v0 : Nat) (v1 : Int) (v2 : Int) (h : Hp) : Option (Hp) :=
  if 3 ≤ v2 then (
    k435 v0 (w32 (v1 + 1)) h
  ) else
  if hR h v0 3 = 0 then none else
  if ix (w32 ((w32 (3 * v1)) + v2)) (ln h (hR h v0 3)) then
    lt1 (sJ h (hR h v0 3) ((w32 ((w32 (3 * v1)) + v2)).toNat) (-1)) fun h228 =>
    k449 v0 v1 (w32 (v2 + 1)) h228
  else none
def f_mStreams_init_b449_lp (k435 : Nat → Int → Hp → Option (Hp)) : Nat → Nat → Int → Int → Hp → Option (Hp)
  | 0, _, _, _, _ => none
  | n + 1, v0, v1, v2, h => f_mStreams_init_b449 k435 (f_mStreams_init_b449_lp k435 n) v0 v1 v2 h
def f_mStreams_init_b481 (k481 : Nat → Int → Hp → Option (Hp)) (v0 : Nat) (v1 : Int) (h : Hp) : Option (Hp) :=
  if 512 ≤ v1 then (
    some h
  ) else
  if hR h v0 28 = 0 then none else
  if ix v1 (ln h (hR h v0 28)) then
    lt1 (sJ h (hR h v0 28) v1.toNat (-1)) fun h210 =>
    if hR h210 v0 19 = 0 then none else
    if ix v1 (ln h210 (hR h210 v0 19)) then
      lt1 (sJ h210 (hR h210 v0 19) v1.toNat (-1)) fun h213 =>
      if hR h213 v0 20 = 0 then none else
      if ix v1 (ln h213 (hR h213 v0 20)) then
        lt1 (sI h213 (hR h213 v0 20) v1.toNat (-1)) fun h216 =>
        if hR h216 v0 21 = 0 then none else
        if ix v1 (ln h216 (hR h216 v0 21)) then
          lt1 (sI h216 (hR h216 v0 21) v1.toNat (-1)) fun h219 =>
          if hR h219 v0 22 = 0 then none else
          if ix v1 (ln h219 (hR h219 v0 22)) then
            lt1 (sI h219 (hR h219 v0 22) v1.toNat (-1)) fun h222 =>
            if hR h222 v0 39 = 0 then none else
            if ix v1 (ln h222 (hR h222 v0 39)) then
              lt1 (sI h222 (hR h222 v0 39) v1.toNat (-1)) fun h225 =>
              k481 v0 (w32 (v1 + 1)) h225
            else none
          else none
        else none
      else none
    else none
  else none
def f_mStreams_init_b481_lp : Nat → Nat → Int → Hp → Option (Hp)
  | 0, _, _, _ => none
  | n + 1, v0, v1, h => f_mStreams_init_b481 (f_mStreams_init_b481_lp n) v0 v1 h
def f_mStreams_init_b435 (k435 : Nat → Int → Hp → Option (Hp)) (v0 : Nat) (v1 : Int) (h : Hp) : Option (Hp) :=
  if 2 ≤ v1 then (
    f_mStreams_init_b481_lp FU v0 0 h
  ) else
  if hR h v0 11 = 0 then none else
  if ix v1 (ln h (hR h v0 11)) then
    lt1 (sI h (hR h v0 11) v1.toNat (-1)) fun h207 =>
    f_mStreams_init_b449_lp k435 FU v0 v1 0 h207
  else none
def f_mStreams_init_b435_lp : Nat → Nat → Int → Hp → Option (Hp)
  | 0, _, _, _ => none
  | n + 1, v0, v1, h => f_mStreams_init_b435 (f_mStreams_init_b435_lp n) v0 v1 h
def f_mStreams_init (v0 : Nat) (h : Hp) : Option (Hp) :=
  if (0 : Int) ≤ 32 ∧ hN h + 1 ≤ CN ∧ hZ h + Int.toNat 32 ≤ CZ then
    lt1 (nwC h 105 (Int.toNat 32) (Int.toNat 32)) fun h2 =>
    lt1 (sR h2 v0 0 (hN h)) fun h4 =>
    if (0 : Int) ≤ 32 ∧ hN h4 + 1 ≤ CN ∧ hZ h4 + Int.toNat 32 ≤ CZ then
      lt1 (nwC h4 105 (Int.toNat 32) (Int.toNat 32)) fun h6 =>
      lt1 (sR h6 v0 1 (hN h4)) fun h8 =>
      if (0 : Int) ≤ 6 ∧ hN h8 + 1 ≤ CN ∧ hZ h8 + Int.toNat 6 ≤ CZ then
        lt1 (nwC h8 105 (Int.toNat 6) (Int.toNat 6)) fun h10 =>
        lt1 (sR h10 v0 2 (hN h8)) fun h12 =>
        if (0 : Int) ≤ 6 ∧ hN h12 + 1 ≤ CN ∧ hZ h12 + Int.toNat 6 ≤ CZ then
          lt1 (nwC h12 105 (Int.toNat 6) (Int.toNat 6)) fun h14 =>
          lt1 (sR h14 v0 3 (hN h12)) fun h16 =>
          if (0 : Int) ≤ 4 ∧ hN h16 + 1 ≤ CN ∧ hZ h16 + Int.toNat 4 ≤ CZ then
            lt1 (nwC h16 101 (Int.toNat 4) (Int.toNat 4)) fun h18 =>
            lt1 (sR h18 v0 4 (hN h16)) fun h20 =>
            if (0 : Int) ≤ 4 ∧ hN h20 + 1 ≤ CN ∧ hZ h20 + Int.toNat 4 ≤ CZ then
              lt1 (nwC h20 101 (Int.toNat 4) (Int.toNat 4)) fun h22 =>
              lt1 (sR h22 v0 5 (hN h20)) fun h24 =>
              if (0 : Int) ≤ 4 ∧ hN h24 + 1 ≤ CN ∧ hZ h24 + Int.toNat 4 ≤ CZ then
                lt1 (nwC h24 101 (Int.toNat 4) (Int.toNat 4)) fun h26 =>
                lt1 (sR h26 v0 6 (hN h24)) fun h28 =>
                if (0 : Int) ≤ 4 ∧ hN h28 + 1 ≤ CN ∧ hZ h28 + Int.toNat 4 ≤ CZ then
                  lt1 (nwC h28 103 (Int.toNat 4) (Int.toNat 4)) fun h30 =>
                  lt1 (sR h30 v0 7 (hN h28)) fun h32 =>
                  if (0 : Int) ≤ 4 ∧ hN h32 + 1 ≤ CN ∧ hZ h32 + Int.toNat 4 ≤ CZ then
                    lt1 (nwC h32 103 (Int.toNat 4) (Int.toNat 4)) fun h34 =>
                    lt1 (sR h34 v0 8 (hN h32)) fun h36 =>
                    if (0 : Int) ≤ 2 ∧ hN h36 + 1 ≤ CN ∧ hZ h36 + Int.toNat 2 ≤ CZ then
                      lt1 (nwC h36 105 (Int.toNat 2) (Int.toNat 2)) fun h38 =>
                      lt1 (sR h38 v0 9 (hN h36)) fun h40 =>
                      if (0 : Int) ≤ 2 ∧ hN h40 + 1 ≤ CN ∧ hZ h40 + Int.toNat 2 ≤ CZ then
                        lt1 (nwC h40 103 (Int.toNat 2) (Int.toNat 2)) fun h42 =>
                        lt1 (sR h42 v0 10 (hN h40)) fun h44 =>
                        if (0 : Int) ≤ 2 ∧ hN h44 + 1 ≤ CN ∧ hZ h44 + Int.toNat 2 ≤ CZ then
                          lt1 (nwC h44 101 (Int.toNat 2) (Int.toNat 2)) fun h46 =>
                          lt1 (sR h46 v0 11 (hN h44)) fun h48 =>
                          if (0 : Int) ≤ 512 ∧ hN h48 + 1 ≤ CN ∧ hZ h48 + Int.toNat 512 ≤ CZ then
                            lt1 (nwC h48 103 (Int.toNat 512) (Int.toNat 512)) fun h50 =>
                            lt1 (sR h50 v0 12 (hN h48)) fun h52 =>
                            if (0 : Int) ≤ 512 ∧ hN h52 + 1 ≤ CN ∧ hZ h52 + Int.toNat 512 ≤ CZ then
                              lt1 (nwC h52 105 (Int.toNat 512) (Int.toNat 512)) fun h54 =>
                              lt1 (sR h54 v0 13 (hN h52)) fun h56 =>
                              if (0 : Int) ≤ 512 ∧ hN h56 + 1 ≤ CN ∧ hZ h56 + Int.toNat 512 ≤ CZ then
                                lt1 (nwC h56 103 (Int.toNat 512) (Int.toNat 512)) fun h58 =>
                                lt1 (sR h58 v0 14 (hN h56)) fun h60 =>
                                if (0 : Int) ≤ 512 ∧ hN h60 + 1 ≤ CN ∧ hZ h60 + Int.toNat 512 ≤ CZ then
                                  lt1 (nwC h60 101 (Int.toNat 512) (Int.toNat 512)) fun h62 =>
                                  lt1 (sR h62 v0 15 (hN h60)) fun h64 =>
                                  if (0 : Int) ≤ 512 ∧ hN h64 + 1 ≤ CN ∧ hZ h64 + Int.toNat 512 ≤ CZ then
                                    lt1 (nwC h64 101 (Int.toNat 512) (Int.toNat 512)) fun h66 =>
                                    lt1 (sR h66 v0 16 (hN h64)) fun h68 =>
                                    if (0 : Int) ≤ 512 ∧ hN h68 + 1 ≤ CN ∧ hZ h68 + Int.toNat 512 ≤ CZ then
                                      lt1 (nwC h68 103 (Int.toNat 512) (Int.toNat 512)) fun h70 =>
                                      lt1 (sR h70 v0 17 (hN h68)) fun h72 =>
                                      if (0 : Int) ≤ 512 ∧ hN h72 + 1 ≤ CN ∧ hZ h72 + Int.toNat 512 ≤ CZ then
                                        lt1 (nwC h72 105 (Int.toNat 512) (Int.toNat 512)) fun h74 =>
                                        lt1 (sR h74 v0 18 (hN h72)) fun h76 =>
                                        if (0 : Int) ≤ 512 ∧ hN h76 + 1 ≤ CN ∧ hZ h76 + Int.toNat 512 ≤ CZ then
                                          lt1 (nwC h76 105 (Int.toNat 512) (Int.toNat 512)) fun h78 =>
                                          lt1 (sR h78 v0 19 (hN h76)) fun h80 =>
                                          if (0 : Int) ≤ 512 ∧ hN h80 + 1 ≤ CN ∧ hZ h80 + Int.toNat 512 ≤ CZ then
                                            lt1 (nwC h80 101 (Int.toNat 512) (Int.toNat 512)) fun h82 =>
                                            lt1 (sR h82 v0 20 (hN h80)) fun h84 =>
                                            if (0 : Int) ≤ 512 ∧ hN h84 + 1 ≤ CN ∧ hZ h84 + Int.toNat 512 ≤ CZ then
                                              lt1 (nwC h84 101 (Int.toNat 512) (Int.toNat 512)) fun h86 =>
                                              lt1 (sR h86 v0 21 (hN h84)) fun h88 =>
                                              if (0 : Int) ≤ 512 ∧ hN h88 + 1 ≤ CN ∧ hZ h88 + Int.toNat 512 ≤ CZ then
                                                lt1 (nwC h88 101 (Int.toNat 512) (Int.toNat 512)) fun h90 =>
                                                lt1 (sR h90 v0 22 (hN h88)) fun h92 =>
                                                if (0 : Int) ≤ 512 ∧ hN h92 + 1 ≤ CN ∧ hZ h92 + Int.toNat 512 ≤ CZ then
                                                  lt1 (nwC h92 101 (Int.toNat 512) (Int.toNat 512)) fun h94 =>
                                                  lt1 (sR h94 v0 23 (hN h92)) fun h96 =>
                                                  if (0 : Int) ≤ 512 ∧ hN h96 + 1 ≤ CN ∧ hZ h96 + Int.toNat 512 ≤ CZ then
                                                    lt1 (nwC h96 101 (Int.toNat 512) (Int.toNat 512)) fun h98 =>
                                                    lt1 (sR h98 v0 24 (hN h96)) fun h100 =>
                                                    if (0 : Int) ≤ 512 ∧ hN h100 + 1 ≤ CN ∧ hZ h100 + Int.toNat 512 ≤ CZ then
                                                      lt1 (nwC h100 101 (Int.toNat 512) (Int.toNat 512)) fun h102 =>
                                                      lt1 (sR h102 v0 25 (hN h100)) fun h104 =>
                                                      if (0 : Int) ≤ 512 ∧ hN h104 + 1 ≤ CN ∧ hZ h104 + Int.toNat 512 ≤ CZ then
                                                        lt1 (nwC h104 101 (Int.toNat 512) (Int.toNat 512)) fun h106 =>
                                                        lt1 (sR h106 v0 26 (hN h104)) fun h108 =>
                                                        if (0 : Int) ≤ 512 ∧ hN h108 + 1 ≤ CN ∧ hZ h108 + Int.toNat 512 ≤ CZ then
                                                          lt1 (nwC h108 105 (Int.toNat 512) (Int.toNat 512)) fun h110 =>
                                                          lt1 (sR h110 v0 27 (hN h108)) fun h112 =>
                                                          if (0 : Int) ≤ 512 ∧ hN h112 + 1 ≤ CN ∧ hZ h112 + Int.toNat 512 ≤ CZ then
                                                            lt1 (nwC h112 105 (Int.toNat 512) (Int.toNat 512)) fun h114 =>
                                                            lt1 (sR h114 v0 28 (hN h112)) fun h116 =>
                                                            if (0 : Int) ≤ 512 ∧ hN h116 + 1 ≤ CN ∧ hZ h116 + Int.toNat 512 ≤ CZ then
                                                              lt1 (nwC h116 101 (Int.toNat 512) (Int.toNat 512)) fun h118 =>
                                                              lt1 (sR h118 v0 29 (hN h116)) fun h120 =>
                                                              if (0 : Int) ≤ 512 ∧ hN h120 + 1 ≤ CN ∧ hZ h120 + Int.toNat 512 ≤ CZ then
                                                                lt1 (nwC h120 101 (Int.toNat 512) (Int.toNat 512)) fun h122 =>
                                                                lt1 (sR h122 v0 30 (hN h120)) fun h124 =>
                                                                if (0 : Int) ≤ 512 ∧ hN h124 + 1 ≤ CN ∧ hZ h124 + Int.toNat 512 ≤ CZ then
                                                                  lt1 (nwC h124 103 (Int.toNat 512) (Int.toNat 512)) fun h126 =>
                                                                  lt1 (sR h126 v0 31 (hN h124)) fun h128 =>
                                                                  if (0 : Int) ≤ 512 ∧ hN h128 + 1 ≤ CN ∧ hZ h128 + Int.toNat 512 ≤ CZ then
                                                                    lt1 (nwC h128 105 (Int.toNat 512) (Int.toNat 512)) fun h130 =>
                                                                    lt1 (sR h130 v0 32 (hN h128)) fun h132 =>
                                                                    if (0 : Int) ≤ 512 ∧ hN h132 + 1 ≤ CN ∧ hZ h132 + Int.toNat 512 ≤ CZ then
                                                                      lt1 (nwC h132 105 (Int.toNat 512) (Int.toNat 512)) fun h134 =>
                                                                      lt1 (sR h134 v0 33 (hN h132)) fun h136 =>
                                                                      if (0 : Int) ≤ 512 ∧ hN h136 + 1 ≤ CN ∧ hZ h136 + Int.toNat 512 ≤ CZ then
                                                                        lt1 (nwC h136 103 (Int.toNat 512) (Int.toNat 512)) fun h138 =>
                                                                        lt1 (sR h138 v0 34 (hN h136)) fun h140 =>
                                                                        if (0 : Int) ≤ 512 ∧ hN h140 + 1 ≤ CN ∧ hZ h140 + Int.toNat 512 ≤ CZ then
                                                                          lt1 (nwC h140 103 (Int.toNat 512) (Int.toNat 512)) fun h142 =>
                                                                          lt1 (sR h142 v0 35 (hN h140)) fun h144 =>
                                                                          if (0 : Int) ≤ 512 ∧ hN h144 + 1 ≤ CN ∧ hZ h144 + Int.toNat 512 ≤ CZ then
                                                                            lt1 (nwC h144 103 (Int.toNat 512) (Int.toNat 512)) fun h146 =>
                                                                            lt1 (sR h146 v0 36 (hN h144)) fun h148 =>
                                                                            if (0 : Int) ≤ 512 ∧ hN h148 + 1 ≤ CN ∧ hZ h148 + Int.toNat 512 ≤ CZ then
                                                                              lt1 (nwC h148 105 (Int.toNat 512) (Int.toNat 512)) fun h150 =>
                                                                              lt1 (sR h150 v0 37 (hN h148)) fun h152 =>
                                                                              if (0 : Int) ≤ 512 ∧ hN h152 + 1 ≤ CN ∧ hZ h152 + Int.toNat 512 ≤ CZ then
                                                                                lt1 (nwC h152 103 (Int.toNat 512) (Int.toNat 512)) fun h154 =>
                                                                                lt1 (sR h154 v0 38 (hN h152)) fun h156 =>
                                                                                if (0 : Int) ≤ 512 ∧ hN h156 + 1 ≤ CN ∧ hZ h156 + Int.toNat 512 ≤ CZ then
                                                                                  lt1 (nwC h156 101 (Int.toNat 512) (Int.toNat 512)) fun h158 =>
                                                                                  lt1 (sR h158 v0 39 (hN h156)) fun h160 =>
                                                                                  if (0 : Int) ≤ 2 ∧ hN h160 + 1 ≤ CN ∧ hZ h160 + Int.toNat 2 ≤ CZ then
                                                                                    lt1 (nwC h160 101 (Int.toNat 2) (Int.toNat 2)) fun h162 =>
                                                                                    lt1 (sR h162 v0 40 (hN h160)) fun h164 =>
                                                                                    if (0 : Int) ≤ 131072 ∧ hN h164 + 1 ≤ CN ∧ hZ h164 + Int.toNat 131072 ≤ CZ then
                                                                                      lt1 (nwC h164 102 (Int.toNat 131072) (Int.toNat 131072)) fun h166 =>
                                                                                      lt1 (sR h166 v0 41 (hN h164)) fun h168 =>
                                                                                      if (0 : Int) ≤ 131072 ∧ hN h168 + 1 ≤ CN ∧ hZ h168 + Int.toNat 131072 ≤ CZ then
                                                                                        lt1 (nwC h168 102 (Int.toNat 131072) (Int.toNat 131072)) fun h170 =>
                                                                                        lt1 (sR h170 v0 42 (hN h168)) fun h172 =>
                                                                                        if (0 : Int) ≤ 131072 ∧ hN h172 + 1 ≤ CN ∧ hZ h172 + Int.toNat 131072 ≤ CZ then
                                                                                          lt1 (nwC h172 101 (Int.toNat 131072) (Int.toNat 131072)) fun h174 =>
                                                                                          lt1 (sR h174 v0 43 (hN h172)) fun h176 =>
                                                                                          if (0 : Int) ≤ 2 ∧ hN h176 + 1 ≤ CN ∧ hZ h176 + Int.toNat 2 ≤ CZ then
                                                                                            lt1 (nwC h176 101 (Int.toNat 2) (Int.toNat 2)) fun h178 =>
                                                                                            lt1 (sR h178 v0 44 (hN h176)) fun h180 =>
                                                                                            if (0 : Int) ≤ 2 ∧ hN h180 + 1 ≤ CN ∧ hZ h180 + Int.toNat 2 ≤ CZ then
                                                                                              lt1 (nwC h180 101 (Int.toNat 2) (Int.toNat 2)) fun h182 =>
                                                                                              lt1 (sR h182 v0 45 (hN h180)) fun h184 =>
                                                                                              if (0 : Int) ≤ 2816 ∧ hN h184 + 1 ≤ CN ∧ hZ h184 + Int.toNat 2816 ≤ CZ then
                                                                                                lt1 (nwC h184 101 (Int.toNat 2816) (Int.toNat 2816)) fun h186 =>
                                                                                                lt1 (sR h186 v0 46 (hN h184)) fun h188 =>
                                                                                                if (0 : Int) ≤ 2816 ∧ hN h188 + 1 ≤ CN ∧ hZ h188 + Int.toNat 2816 ≤ CZ then
                                                                                                  lt1 (nwC h188 101 (Int.toNat 2816) (Int.toNat 2816)) fun h190 =>
                                                                                                  lt1 (sR h190 v0 47 (hN h188)) fun h192 =>
                                                                                                  if (0 : Int) ≤ 2816 ∧ hN h192 + 1 ≤ CN ∧ hZ h192 + Int.toNat 2816 ≤ CZ then
                                                                                                    lt1 (nwC h192 105 (Int.toNat 2816) (Int.toNat 2816)) fun h194 =>
                                                                                                    lt1 (sR h194 v0 48 (hN h192)) fun h196 =>
                                                                                                    if (0 : Int) ≤ 180224 ∧ hN h196 + 1 ≤ CN ∧ hZ h196 + Int.toNat 180224 ≤ CZ then
                                                                                                      lt1 (nwC h196 102 (Int.toNat 180224) (Int.toNat 180224)) fun h198 =>
                                                                                                      lt1 (sR h198 v0 49 (hN h196)) fun h200 =>
                                                                                                      if (0 : Int) ≤ 1200 ∧ hN h200 + 1 ≤ CN ∧ hZ h200 + Int.toNat 1200 ≤ CZ then
                                                                                                        lt1 (nwC h200 101 (Int.toNat 1200) (Int.toNat 1200)) fun h202 =>
                                                                                                        lt1 (sR h202 v0 55 (hN h200)) fun h204 =>
                                                                                                        f_mStreams_init_b435_lp FU v0 0 h204
                                                                                                      else none
                                                                                                    else none
                                                                                                  else none
                                                                                                else none
                                                                                              else none
                                                                                            else none
                                                                                          else none
                                                                                        else none
                                                                                      else none
                                                                                    else none
                                                                                  else none
                                                                                else none
                                                                              else none
                                                                            else none
                                                                          else none
                                                                        else none
                                                                      else none
                                                                    else none
                                                                  else none
                                                                else none
                                                              else none
                                                            else none
                                                          else none
                                                        else none
                                                      else none
                                                    else none
                                                  else none
                                                else none
                                              else none
                                            else none
                                          else none
                                        else none
                                      else none
                                    else none
                                  else none
                                else none
                              else none
                            else none
                          else none
                        else none
                      else none
                    else none
                  else none
                else none
              else none
            else none
          else none
        else none
      else none
    else none
  else none
def f_mBook_init_b237 (k237 : Nat → Int → Hp → Option (Hp)) (v0 : Nat) (v1 : Int) (h : Hp) : Option (Hp) :=
  if 3 ≤ v1 then (
    some h
  ) else
  if hR h v0 12 = 0 then none else
  if ix v1 (ln h (hR h v0 12)) then
    lt1 (sI h (hR h v0 12) v1.toNat (-1)) fun h106 =>
    if hR h106 v0 13 = 0 then none else
    if ix v1 (ln h106 (hR h106 v0 13)) then
      lt1 (sI h106 (hR h106 v0 13) v1.toNat (-1)) fun h109 =>
      k237 v0 (w32 (v1 + 1)) h109
    else none
  else none
def f_mBook_init_b237_lp : Nat → Nat → Int → Hp → Option (Hp)
  | 0, _, _, _ => none
  | n + 1, v0, v1, h => f_mBook_init_b237 (f_mBook_init_b237_lp n) v0 v1 h
def f_mBook_init (v0 : Nat) (h : Hp) : Option (Hp) :=
  if (0 : Int) ≤ 3 ∧ hN h + 1 ≤ CN ∧ hZ h + Int.toNat 3 ≤ CZ then
    lt1 (nwC h 101 (Int.toNat 3) (Int.toNat 3)) fun h2 =>
    lt1 (sR h2 v0 3 (hN h)) fun h4 =>
    if (0 : Int) ≤ 12288 ∧ hN h4 + 1 ≤ CN ∧ hZ h4 + Int.toNat 12288 ≤ CZ then
      lt1 (nwC h4 101 (Int.toNat 12288) (Int.toNat 12288)) fun h6 =>
      lt1 (sR h6 v0 4 (hN h4)) fun h8 =>
      if (0 : Int) ≤ 12288 ∧ hN h8 + 1 ≤ CN ∧ hZ h8 + Int.toNat 12288 ≤ CZ then
        lt1 (nwC h8 101 (Int.toNat 12288) (Int.toNat 12288)) fun h10 =>
        lt1 (sR h10 v0 5 (hN h8)) fun h12 =>
        if (0 : Int) ≤ 12288 ∧ hN h12 + 1 ≤ CN ∧ hZ h12 + Int.toNat 12288 ≤ CZ then
          lt1 (nwC h12 102 (Int.toNat 12288) (Int.toNat 12288)) fun h14 =>
          lt1 (sR h14 v0 6 (hN h12)) fun h16 =>
          if (0 : Int) ≤ 12288 ∧ hN h16 + 1 ≤ CN ∧ hZ h16 + Int.toNat 12288 ≤ CZ then
            lt1 (nwC h16 103 (Int.toNat 12288) (Int.toNat 12288)) fun h18 =>
            lt1 (sR h18 v0 7 (hN h16)) fun h20 =>
            if (0 : Int) ≤ 12288 ∧ hN h20 + 1 ≤ CN ∧ hZ h20 + Int.toNat 12288 ≤ CZ then
              lt1 (nwC h20 103 (Int.toNat 12288) (Int.toNat 12288)) fun h22 =>
              lt1 (sR h22 v0 8 (hN h20)) fun h24 =>
              if (0 : Int) ≤ 12288 ∧ hN h24 + 1 ≤ CN ∧ hZ h24 + Int.toNat 12288 ≤ CZ then
                lt1 (nwC h24 103 (Int.toNat 12288) (Int.toNat 12288)) fun h26 =>
                lt1 (sR h26 v0 9 (hN h24)) fun h28 =>
                if (0 : Int) ≤ 3 ∧ hN h28 + 1 ≤ CN ∧ hZ h28 + Int.toNat 3 ≤ CZ then
                  lt1 (nwC h28 101 (Int.toNat 3) (Int.toNat 3)) fun h30 =>
                  lt1 (sR h30 v0 10 (hN h28)) fun h32 =>
                  if (0 : Int) ≤ 3 ∧ hN h32 + 1 ≤ CN ∧ hZ h32 + Int.toNat 3 ≤ CZ then
                    lt1 (nwC h32 103 (Int.toNat 3) (Int.toNat 3)) fun h34 =>
                    lt1 (sR h34 v0 11 (hN h32)) fun h36 =>
                    if (0 : Int) ≤ 3 ∧ hN h36 + 1 ≤ CN ∧ hZ h36 + Int.toNat 3 ≤ CZ then
                      lt1 (nwC h36 101 (Int.toNat 3) (Int.toNat 3)) fun h38 =>
                      lt1 (sR h38 v0 12 (hN h36)) fun h40 =>
                      if (0 : Int) ≤ 3 ∧ hN h40 + 1 ≤ CN ∧ hZ h40 + Int.toNat 3 ≤ CZ then
                        lt1 (nwC h40 101 (Int.toNat 3) (Int.toNat 3)) fun h42 =>
                        lt1 (sR h42 v0 13 (hN h40)) fun h44 =>
                        if (0 : Int) ≤ 24576 ∧ hN h44 + 1 ≤ CN ∧ hZ h44 + Int.toNat 24576 ≤ CZ then
                          lt1 (nwC h44 104 (Int.toNat 24576) (Int.toNat 24576)) fun h46 =>
                          lt1 (sR h46 v0 15 (hN h44)) fun h48 =>
                          if (0 : Int) ≤ 6 ∧ hN h48 + 1 ≤ CN ∧ hZ h48 + Int.toNat 6 ≤ CZ then
                            lt1 (nwC h48 101 (Int.toNat 6) (Int.toNat 6)) fun h50 =>
                            lt1 (sR h50 v0 16 (hN h48)) fun h52 =>
                            if (0 : Int) ≤ 6 ∧ hN h52 + 1 ≤ CN ∧ hZ h52 + Int.toNat 6 ≤ CZ then
                              lt1 (nwC h52 101 (Int.toNat 6) (Int.toNat 6)) fun h54 =>
                              lt1 (sR h54 v0 17 (hN h52)) fun h56 =>
                              lt1 (sI h56 v0 18 800) fun h57 =>
                              lt1 (sI h57 v0 19 200) fun h58 =>
                              lt1 (sI h58 v0 21 (-1)) fun h59 =>
                              lt1 (sI h59 v0 22 (-1)) fun h60 =>
                              lt1 (sI h60 v0 24 12000) fun h61 =>
                              lt1 (sI h61 v0 25 (-1)) fun h62 =>
                              lt1 (sI h62 v0 26 (-1)) fun h63 =>
                              if (0 : Int) ≤ 64 ∧ hN h63 + 1 ≤ CN ∧ hZ h63 + Int.toNat 64 ≤ CZ then
                                lt1 (nwC h63 105 (Int.toNat 64) (Int.toNat 64)) fun h65 =>
                                lt1 (sR h65 v0 28 (hN h63)) fun h67 =>
                                if (0 : Int) ≤ 64 ∧ hN h67 + 1 ≤ CN ∧ hZ h67 + Int.toNat 64 ≤ CZ then
                                  lt1 (nwC h67 105 (Int.toNat 64) (Int.toNat 64)) fun h69 =>
                                  lt1 (sR h69 v0 29 (hN h67)) fun h71 =>
                                  if (0 : Int) ≤ 3 ∧ hN h71 + 1 ≤ CN ∧ hZ h71 + Int.toNat 3 ≤ CZ then
                                    lt1 (nwC h71 101 (Int.toNat 3) (Int.toNat 3)) fun h73 =>
                                    lt1 (sR h73 v0 30 (hN h71)) fun h75 =>
                                    if (0 : Int) ≤ 195 ∧ hN h75 + 1 ≤ CN ∧ hZ h75 + Int.toNat 195 ≤ CZ then
                                      lt1 (nwC h75 105 (Int.toNat 195) (Int.toNat 195)) fun h77 =>
                                      lt1 (sR h77 v0 31 (hN h75)) fun h79 =>
                                      if (0 : Int) ≤ 195 ∧ hN h79 + 1 ≤ CN ∧ hZ h79 + Int.toNat 195 ≤ CZ then
                                        lt1 (nwC h79 105 (Int.toNat 195) (Int.toNat 195)) fun h81 =>
                                        lt1 (sR h81 v0 32 (hN h79)) fun h83 =>
                                        if (0 : Int) ≤ 3 ∧ hN h83 + 1 ≤ CN ∧ hZ h83 + Int.toNat 3 ≤ CZ then
                                          lt1 (nwC h83 105 (Int.toNat 3) (Int.toNat 3)) fun h85 =>
                                          lt1 (sR h85 v0 33 (hN h83)) fun h87 =>
                                          if (0 : Int) ≤ 3 ∧ hN h87 + 1 ≤ CN ∧ hZ h87 + Int.toNat 3 ≤ CZ then
                                            lt1 (nwC h87 101 (Int.toNat 3) (Int.toNat 3)) fun h89 =>
                                            lt1 (sR h89 v0 34 (hN h87)) fun h91 =>
                                            if (0 : Int) ≤ 3 ∧ hN h91 + 1 ≤ CN ∧ hZ h91 + Int.toNat 3 ≤ CZ then
                                              lt1 (nwC h91 101 (Int.toNat 3) (Int.toNat 3)) fun h93 =>
                                              lt1 (sR h93 v0 35 (hN h91)) fun h95 =>
                                              if (0 : Int) ≤ 3 ∧ hN h95 + 1 ≤ CN ∧ hZ h95 + Int.toNat 3 ≤ CZ then
                                                lt1 (nwC h95 101 (Int.toNat 3) (Int.toNat 3)) fun h97 =>
                                                lt1 (sR h97 v0 36 (hN h95)) fun h99 =>
                                                if (0 : Int) ≤ 3 ∧ hN h99 + 1 ≤ CN ∧ hZ h99 + Int.toNat 3 ≤ CZ then
                                                  lt1 (nwC h99 103 (Int.toNat 3) (Int.toNat 3)) fun h101 =>
                                                  lt1 (sR h101 v0 37 (hN h99)) fun h103 =>
                                                  f_mBook_init_b237_lp FU v0 0 h103
                                                else none
                                              else none
                                            else none
                                          else none
                                        else none
                                      else none
                                    else none
                                  else none
                                else none
                              else none
                            else none
                          else none
                        else none
                      else none
                    else none
                  else none
                else none
              else none
            else none
          else none
        else none
      else none
    else none
  else none
def f_mWire_init (v0 : Nat) (h : Hp) : Option (Hp) :=
  if (0 : Int) ≤ 4 ∧ hN h + 1 ≤ CN ∧ hZ h + Int.toNat 4 ≤ CZ then
    lt1 (nwC h 105 (Int.toNat 4) (Int.toNat 4)) fun h2 =>
    lt1 (sR h2 v0 5 (hN h)) fun h4 =>
    some h4
  else none
def f_mCargo_init (v0 : Nat) (h : Hp) : Option (Hp) :=
  if (0 : Int) ≤ 64 ∧ hN h + 1 ≤ CN ∧ hZ h + Int.toNat 64 ≤ CZ then
    lt1 (nwC h 102 (Int.toNat 64) (Int.toNat 64)) fun h2 =>
    lt1 (sR h2 v0 1 (hN h)) fun h4 =>
    if (0 : Int) ≤ 64 ∧ hN h4 + 1 ≤ CN ∧ hZ h4 + Int.toNat 64 ≤ CZ then
      lt1 (nwC h4 101 (Int.toNat 64) (Int.toNat 64)) fun h6 =>
      lt1 (sR h6 v0 2 (hN h4)) fun h8 =>
      if (0 : Int) ≤ 64 ∧ hN h8 + 1 ≤ CN ∧ hZ h8 + Int.toNat 64 ≤ CZ then
        lt1 (nwC h8 105 (Int.toNat 64) (Int.toNat 64)) fun h10 =>
        lt1 (sR h10 v0 3 (hN h8)) fun h12 =>
        if (0 : Int) ≤ 64 ∧ hN h12 + 1 ≤ CN ∧ hZ h12 + Int.toNat 64 ≤ CZ then
          lt1 (nwC h12 105 (Int.toNat 64) (Int.toNat 64)) fun h14 =>
          lt1 (sR h14 v0 4 (hN h12)) fun h16 =>
          if (0 : Int) ≤ 64 ∧ hN h16 + 1 ≤ CN ∧ hZ h16 + Int.toNat 64 ≤ CZ then
            lt1 (nwC h16 102 (Int.toNat 64) (Int.toNat 64)) fun h18 =>
            lt1 (sR h18 v0 5 (hN h16)) fun h20 =>
            some h20
          else none
        else none
      else none
    else none
  else none
def f_mDraft_init (v0 : Nat) (h : Hp) : Option (Hp) :=
  if (0 : Int) ≤ 1400 ∧ hN h + 1 ≤ CN ∧ hZ h + Int.toNat 1400 ≤ CZ then
    lt1 (nwC h 101 (Int.toNat 1400) (Int.toNat 1400)) fun h2 =>
    lt1 (sR h2 v0 0 (hN h)) fun h4 =>
    some h4
  else none
def f_mGreet_init (v0 : Nat) (v1 : Int) (v2 : Nat) (h : Hp) : Option (Hp) :=
  if (0 : Int) ≤ 32 ∧ hN h + 1 ≤ CN ∧ hZ h + Int.toNat 32 ≤ CZ then
    lt1 (nwC h 101 (Int.toNat 32) (Int.toNat 32)) fun h2 =>
    lt1 (sR h2 v0 2 (hN h)) fun h4 =>
    if (0 : Int) ≤ 32 ∧ hN h4 + 1 ≤ CN ∧ hZ h4 + Int.toNat 32 ≤ CZ then
      lt1 (nwC h4 101 (Int.toNat 32) (Int.toNat 32)) fun h6 =>
      lt1 (sR h6 v0 3 (hN h4)) fun h8 =>
      if (0 : Int) ≤ 300 ∧ hN h8 + 1 ≤ CN ∧ hZ h8 + Int.toNat 300 ≤ CZ then
        lt1 (nwC h8 101 (Int.toNat 300) (Int.toNat 300)) fun h10 =>
        lt1 (sR h10 v0 4 (hN h8)) fun h12 =>
        if (0 : Int) ≤ 2048 ∧ hN h12 + 1 ≤ CN ∧ hZ h12 + Int.toNat 2048 ≤ CZ then
          lt1 (nwC h12 101 (Int.toNat 2048) (Int.toNat 2048)) fun h14 =>
          lt1 (sR h14 v0 9 (hN h12)) fun h16 =>
          if (0 : Int) ≤ 2 ∧ hN h16 + 1 ≤ CN ∧ hZ h16 + Int.toNat 2 ≤ CZ then
            lt1 (nwC h16 101 (Int.toNat 2) (Int.toNat 2)) fun h18 =>
            lt1 (sR h18 v0 10 (hN h16)) fun h20 =>
            if (0 : Int) ≤ 2048 ∧ hN h20 + 1 ≤ CN ∧ hZ h20 + Int.toNat 2048 ≤ CZ then
              lt1 (nwC h20 101 (Int.toNat 2048) (Int.toNat 2048)) fun h22 =>
              lt1 (sR h22 v0 11 (hN h20)) fun h24 =>
              if (0 : Int) ≤ 2 ∧ hN h24 + 1 ≤ CN ∧ hZ h24 + Int.toNat 2 ≤ CZ then
                lt1 (nwC h24 101 (Int.toNat 2) (Int.toNat 2)) fun h26 =>
                lt1 (sR h26 v0 12 (hN h24)) fun h28 =>
                if (0 : Int) ≤ 300 ∧ hN h28 + 1 ≤ CN ∧ hZ h28 + Int.toNat 300 ≤ CZ then
                  lt1 (nwC h28 101 (Int.toNat 300) (Int.toNat 300)) fun h30 =>
                  lt1 (sR h30 v0 13 (hN h28)) fun h32 =>
                  lt1 (sI h32 v0 14 (-1)) fun h33 =>
                  if (0 : Int) ≤ 1024 ∧ hN h33 + 1 ≤ CN ∧ hZ h33 + Int.toNat 1024 ≤ CZ then
                    lt1 (nwC h33 101 (Int.toNat 1024) (Int.toNat 1024)) fun h35 =>
                    lt1 (sR h35 v0 15 (hN h33)) fun h37 =>
                    if (0 : Int) ≤ 192 ∧ hN h37 + 1 ≤ CN ∧ hZ h37 + Int.toNat 192 ≤ CZ then
                      lt1 (nwC h37 101 (Int.toNat 192) (Int.toNat 192)) fun h39 =>
                      lt1 (sR h39 v0 17 (hN h37)) fun h41 =>
                      lt1 (sI h41 v0 18 (-1)) fun h42 =>
                      if (0 : Int) ≤ 32 ∧ hN h42 + 1 ≤ CN ∧ hZ h42 + Int.toNat 32 ≤ CZ then
                        lt1 (nwC h42 101 (Int.toNat 32) (Int.toNat 32)) fun h44 =>
                        lt1 (sR h44 v0 19 (hN h42)) fun h46 =>
                        if (0 : Int) ≤ 32 ∧ hN h46 + 1 ≤ CN ∧ hZ h46 + Int.toNat 32 ≤ CZ then
                          lt1 (nwC h46 101 (Int.toNat 32) (Int.toNat 32)) fun h48 =>
                          lt1 (sR h48 v0 20 (hN h46)) fun h50 =>
                          if (0 : Int) ≤ 32 ∧ hN h50 + 1 ≤ CN ∧ hZ h50 + Int.toNat 32 ≤ CZ then
                            lt1 (nwC h50 101 (Int.toNat 32) (Int.toNat 32)) fun h52 =>
                            lt1 (sR h52 v0 21 (hN h50)) fun h54 =>
                            if (0 : Int) ≤ 32 ∧ hN h54 + 1 ≤ CN ∧ hZ h54 + Int.toNat 32 ≤ CZ then
                              lt1 (nwC h54 101 (Int.toNat 32) (Int.toNat 32)) fun h56 =>
                              lt1 (sR h56 v0 22 (hN h54)) fun h58 =>
                              lt1 (sI h58 v0 0 v1) fun h59 =>
                              lt1 (sR h59 v0 1 v2) fun h60 =>
                              some h60
                            else none
                          else none
                        else none
                      else none
                    else none
                  else none
                else none
              else none
            else none
          else none
        else none
      else none
    else none
  else none
def f_mSide_init (v0 : Nat) (v1 : Int) (v2 : Nat) (v3 : Nat) (h : Hp) : Option (Hp) :=
  if hN h + 1 ≤ CN ∧ hZ h + 38 ≤ CZ then
    lt1 (nwC h 40 0 38) fun h2 =>
    b1 (f_mBook_init (hN h) h2) fun h4 =>
    lt1 (sR h4 v0 4 (hN h)) fun h6 =>
    if (0 : Int) ≤ 10 ∧ hN h6 + 1 ≤ CN ∧ hZ h6 + Int.toNat 10 ≤ CZ then
      lt1 (nwC h6 105 (Int.toNat 10) (Int.toNat 10)) fun h8 =>
      lt1 (sR h8 v0 5 (hN h6)) fun h10 =>
      if (0 : Int) ≤ 20 ∧ hN h10 + 1 ≤ CN ∧ hZ h10 + Int.toNat 20 ≤ CZ then
        lt1 (nwC h10 101 (Int.toNat 20) (Int.toNat 20)) fun h12 =>
        lt1 (sR h12 v0 13 (hN h10)) fun h14 =>
        if (0 : Int) ≤ 8 ∧ hN h14 + 1 ≤ CN ∧ hZ h14 + Int.toNat 8 ≤ CZ then
          lt1 (nwC h14 101 (Int.toNat 8) (Int.toNat 8)) fun h16 =>
          lt1 (sR h16 v0 16 (hN h14)) fun h18 =>
          if (0 : Int) ≤ 576 ∧ hN h18 + 1 ≤ CN ∧ hZ h18 + Int.toNat 576 ≤ CZ then
            lt1 (nwC h18 101 (Int.toNat 576) (Int.toNat 576)) fun h20 =>
            lt1 (sR h20 v0 18 (hN h18)) fun h22 =>
            if (0 : Int) ≤ 3 ∧ hN h22 + 1 ≤ CN ∧ hZ h22 + Int.toNat 3 ≤ CZ then
              lt1 (nwC h22 103 (Int.toNat 3) (Int.toNat 3)) fun h24 =>
              lt1 (sR h24 v0 19 (hN h22)) fun h26 =>
              if (0 : Int) ≤ 64 ∧ hN h26 + 1 ≤ CN ∧ hZ h26 + Int.toNat 64 ≤ CZ then
                lt1 (nwC h26 101 (Int.toNat 64) (Int.toNat 64)) fun h28 =>
                lt1 (sR h28 v0 20 (hN h26)) fun h30 =>
                if hN h30 + 1 ≤ CN ∧ hZ h30 + 10 ≤ CZ then
                  lt1 (nwC h30 41 0 10) fun h32 =>
                  b1 (f_mWire_init (hN h30) h32) fun h34 =>
                  lt1 (sR h34 v0 21 (hN h30)) fun h36 =>
                  if (0 : Int) ≤ 17 ∧ hN h36 + 1 ≤ CN ∧ hZ h36 + Int.toNat 17 ≤ CZ then
                    lt1 (nwC h36 105 (Int.toNat 17) (Int.toNat 17)) fun h38 =>
                    lt1 (sR h38 v0 22 (hN h36)) fun h40 =>
                    if (0 : Int) ≤ 2 ∧ hN h40 + 1 ≤ CN ∧ hZ h40 + Int.toNat 2 ≤ CZ then
                      lt1 (nwC h40 101 (Int.toNat 2) (Int.toNat 2)) fun h42 =>
                      lt1 (sR h42 v0 23 (hN h40)) fun h44 =>
                      if (0 : Int) ≤ 4096 ∧ hN h44 + 1 ≤ CN ∧ hZ h44 + Int.toNat 4096 ≤ CZ then
                        lt1 (nwC h44 101 (Int.toNat 4096) (Int.toNat 4096)) fun h46 =>
                        lt1 (sR h46 v0 25 (hN h44)) fun h48 =>
                        if (0 : Int) ≤ 4096 ∧ hN h48 + 1 ≤ CN ∧ hZ h48 + Int.toNat 4096 ≤ CZ then
                          lt1 (nwC h48 103 (Int.toNat 4096) (Int.toNat 4096)) fun h50 =>
                          lt1 (sR h50 v0 26 (hN h48)) fun h52 =>
                          if (0 : Int) ≤ 2 ∧ hN h52 + 1 ≤ CN ∧ hZ h52 + Int.toNat 2 ≤ CZ then
                            lt1 (nwC h52 101 (Int.toNat 2) (Int.toNat 2)) fun h54 =>
                            lt1 (sR h54 v0 27 (hN h52)) fun h56 =>
                            if (0 : Int) ≤ 2048 ∧ hN h56 + 1 ≤ CN ∧ hZ h56 + Int.toNat 2048 ≤ CZ then
                              lt1 (nwC h56 102 (Int.toNat 2048) (Int.toNat 2048)) fun h58 =>
                              lt1 (sR h58 v0 28 (hN h56)) fun h60 =>
                              if (0 : Int) ≤ 2 ∧ hN h60 + 1 ≤ CN ∧ hZ h60 + Int.toNat 2 ≤ CZ then
                                lt1 (nwC h60 101 (Int.toNat 2) (Int.toNat 2)) fun h62 =>
                                lt1 (sR h62 v0 29 (hN h60)) fun h64 =>
                                if (0 : Int) ≤ 3 ∧ hN h64 + 1 ≤ CN ∧ hZ h64 + Int.toNat 3 ≤ CZ then
                                  lt1 (nwC h64 101 (Int.toNat 3) (Int.toNat 3)) fun h66 =>
                                  lt1 (sR h66 v0 34 (hN h64)) fun h68 =>
                                  if (0 : Int) ≤ 1000 ∧ hN h68 + 1 ≤ CN ∧ hZ h68 + Int.toNat 1000 ≤ CZ then
                                    lt1 (nwC h68 101 (Int.toNat 1000) (Int.toNat 1000)) fun h70 =>
                                    lt1 (sR h70 v0 42 (hN h68)) fun h72 =>
                                    if (0 : Int) ≤ 12291 ∧ hN h72 + 1 ≤ CN ∧ hZ h72 + Int.toNat 12291 ≤ CZ then
                                      lt1 (nwC h72 101 (Int.toNat 12291) (Int.toNat 12291)) fun h74 =>
                                      lt1 (sR h74 v0 44 (hN h72)) fun h76 =>
                                      if (0 : Int) ≤ 3 ∧ hN h76 + 1 ≤ CN ∧ hZ h76 + Int.toNat 3 ≤ CZ then
                                        lt1 (nwC h76 119 (Int.toNat 3) (Int.toNat 3)) fun h78 =>
                                        if hN h78 + 1 ≤ CN ∧ hZ h78 + 6 ≤ CZ then
                                          lt1 (nwC h78 42 0 6) fun h81 =>
                                          b1 (f_mCargo_init (hN h78) h81) fun h83 =>
                                          if ix 0 (ln h83 (hN h76)) then
                                            lt1 (sR h83 (hN h76) (Int.toNat 0) (hN h78)) fun h86 =>
                                            if hN h86 + 1 ≤ CN ∧ hZ h86 + 6 ≤ CZ then
                                              lt1 (nwC h86 42 0 6) fun h88 =>
                                              b1 (f_mCargo_init (hN h86) h88) fun h90 =>
                                              if ix 1 (ln h90 (hN h76)) then
                                                lt1 (sR h90 (hN h76) (Int.toNat 1) (hN h86)) fun h93 =>
                                                if hN h93 + 1 ≤ CN ∧ hZ h93 + 6 ≤ CZ then
                                                  lt1 (nwC h93 42 0 6) fun h95 =>
                                                  b1 (f_mCargo_init (hN h93) h95) fun h97 =>
                                                  if ix 2 (ln h97 (hN h76)) then
                                                    lt1 (sR h97 (hN h76) (Int.toNat 2) (hN h93)) fun h100 =>
                                                    lt1 (sR h100 v0 45 (hN h76)) fun h101 =>
                                                    if (0 : Int) ≤ 1400 ∧ hN h101 + 1 ≤ CN ∧ hZ h101 + Int.toNat 1400 ≤ CZ then
                                                      lt1 (nwC h101 101 (Int.toNat 1400) (Int.toNat 1400)) fun h103 =>
                                                      lt1 (sR h103 v0 46 (hN h101)) fun h105 =>
                                                      if (0 : Int) ≤ 3 ∧ hN h105 + 1 ≤ CN ∧ hZ h105 + Int.toNat 3 ≤ CZ then
                                                        lt1 (nwC h105 120 (Int.toNat 3) (Int.toNat 3)) fun h107 =>
                                                        if hN h107 + 1 ≤ CN ∧ hZ h107 + 2 ≤ CZ then
                                                          lt1 (nwC h107 43 0 2) fun h110 =>
                                                          b1 (f_mDraft_init (hN h107) h110) fun h112 =>
                                                          if ix 0 (ln h112 (hN h105)) then
                                                            lt1 (sR h112 (hN h105) (Int.toNat 0) (hN h107)) fun h115 =>
                                                            if hN h115 + 1 ≤ CN ∧ hZ h115 + 2 ≤ CZ then
                                                              lt1 (nwC h115 43 0 2) fun h117 =>
                                                              b1 (f_mDraft_init (hN h115) h117) fun h119 =>
                                                              if ix 1 (ln h119 (hN h105)) then
                                                                lt1 (sR h119 (hN h105) (Int.toNat 1) (hN h115)) fun h122 =>
                                                                if hN h122 + 1 ≤ CN ∧ hZ h122 + 2 ≤ CZ then
                                                                  lt1 (nwC h122 43 0 2) fun h124 =>
                                                                  b1 (f_mDraft_init (hN h122) h124) fun h126 =>
                                                                  if ix 2 (ln h126 (hN h105)) then
                                                                    lt1 (sR h126 (hN h105) (Int.toNat 2) (hN h122)) fun h129 =>
                                                                    lt1 (sR h129 v0 47 (hN h105)) fun h130 =>
                                                                    if (0 : Int) ≤ 3 ∧ hN h130 + 1 ≤ CN ∧ hZ h130 + Int.toNat 3 ≤ CZ then
                                                                      lt1 (nwC h130 103 (Int.toNat 3) (Int.toNat 3)) fun h132 =>
                                                                      lt1 (sR h132 v0 48 (hN h130)) fun h134 =>
                                                                      if (0 : Int) ≤ 3 ∧ hN h134 + 1 ≤ CN ∧ hZ h134 + Int.toNat 3 ≤ CZ then
                                                                        lt1 (nwC h134 103 (Int.toNat 3) (Int.toNat 3)) fun h136 =>
                                                                        lt1 (sR h136 v0 49 (hN h134)) fun h138 =>
                                                                        if (0 : Int) ≤ 3 ∧ hN h138 + 1 ≤ CN ∧ hZ h138 + Int.toNat 3 ≤ CZ then
                                                                          lt1 (nwC h138 103 (Int.toNat 3) (Int.toNat 3)) fun h140 =>
                                                                          lt1 (sR h140 v0 50 (hN h138)) fun h142 =>
                                                                          if hN h142 + 1 ≤ CN ∧ hZ h142 + 2 ≤ CZ then
                                                                            lt1 (nwC h142 43 0 2) fun h144 =>
                                                                            b1 (f_mDraft_init (hN h142) h144) fun h146 =>
                                                                            lt1 (sR h146 v0 52 (hN h142)) fun h148 =>
                                                                            lt1 (sI h148 v0 0 v1) fun h149 =>
                                                                            lt1 (sR h149 v0 1 v2) fun h150 =>
                                                                            lt1 (sR h150 v0 2 v3) fun h151 =>
                                                                            if hN h151 + 1 ≤ CN ∧ hZ h151 + 23 ≤ CZ then
                                                                              lt1 (nwC h151 44 0 23) fun h153 =>
                                                                              b1 (f_mGreet_init (hN h151) v1 v2 h153) fun h155 =>
                                                                              lt1 (sR h155 v0 3 (hN h151)) fun h157 =>
                                                                              some h157
                                                                            else none
                                                                          else none
                                                                        else none
                                                                      else none
                                                                    else none
                                                                  else none
                                                                else none
                                                              else none
                                                            else none
                                                          else none
                                                        else none
                                                      else none
                                                    else none
                                                  else none
                                                else none
                                              else none
                                            else none
                                          else none
                                        else none
                                      else none
                                    else none
                                  else none
                                else none
                              else none
                            else none
                          else none
                        else none
                      else none
                    else none
                  else none
                else none
              else none
            else none
          else none
        else none
      else none
    else none
  else none
def f_mStreams_setGrant_b24 (v0 : Nat) (v1 : Int) (v2 : Int) (v3 : Int) (h : Hp) : Option (Hp) :=
  if v2 ≤ 7 then (
    some h
  ) else
  if hR h v0 6 = 0 then none else
  if ix (w32 ((w32 ((w32 (2 * v1)) + v2)) - 8)) (ln h (hR h v0 6)) then
    lt1 (sI h (hR h v0 6) ((w32 ((w32 ((w32 (2 * v1)) + v2)) - 8)).toNat) (w32 v3)) fun h9 =>
    some h9
  else none
def f_mStreams_setGrant (v0 : Nat) (v1 : Int) (v2 : Int) (v3 : Int) (h : Hp) : Option (Hp) :=
  if hR h v0 0 = 0 then none else
  if ix (w32 ((w32 (16 * v1)) + v2)) (ln h (hR h v0 0)) then
    lt1 (sJ h (hR h v0 0) ((w32 ((w32 (16 * v1)) + v2)).toNat) v3) fun h3 =>
    if v2 ≠ 4 then (
      f_mStreams_setGrant_b24 v0 v1 v2 v3 h3
    ) else
    if hR h3 v0 9 = 0 then none else
    if ix v1 (ln h3 (hR h3 v0 9)) then
      lt1 (sJ h3 (hR h3 v0 9) v1.toNat v3) fun h6 =>
      f_mStreams_setGrant_b24 v0 v1 v2 v3 h6
    else none
  else none
def f_mP_set (v0 : Nat) (v1 : Int) (v2 : Int) (v3 : Int) (h : Hp) : Option (Hp) :=
  if hR h v0 7 = 0 then none else
  if ix v1 (ln h (hR h v0 7)) then
    if hR h (hR h v0 7) v1.toNat = 0 then none else
    if hR h (hR h (hR h v0 7) v1.toNat) 5 = 0 then none else
    if ix v2 (ln h (hR h (hR h (hR h v0 7) v1.toNat) 5)) then
      lt1 (sJ h (hR h (hR h (hR h v0 7) v1.toNat) 5) v2.toNat v3) fun h6 =>
      if v2 ≤ 3 then (
        some h6
      ) else
      if hR h6 v0 6 = 0 then none else
      b1 (f_mStreams_setGrant (hR h6 v0 6) v1 v2 v3 h6) fun h8 =>
      some h8
    else none
  else none
def f_mP_init_b216 (k192 : Nat → Int → Hp → Option (Hp)) (k216 : Nat → Int → Int → Hp → Option (Hp)) (v0 : Nat) (v1 : Int) (v2 : Int) (h : Hp) : Option (Hp) :=
  if 8 ≤ v2 then (
    b1 (f_mP_set v0 v1 8 16 h) fun h93 =>
    b1 (f_mP_set v0 v1 9 8 h93) fun h95 =>
    k192 v0 (w32 (v1 + 1)) h95
  ) else
  b1 (f_mP_set v0 v1 v2 16384 h) fun h97 =>
  k216 v0 v1 (w32 (v2 + 1)) h97
def f_mP_init_b216_lp (k192 : Nat → Int → Hp → Option (Hp)) : Nat → Nat → Int → Int → Hp → Option (Hp)
  | 0, _, _, _, _ => none
  | n + 1, v0, v1, v2, h => f_mP_init_b216 k192 (f_mP_init_b216_lp k192 n) v0 v1 v2 h
def f_mP_init_b192 (k192 : Nat → Int → Hp → Option (Hp)) (v0 : Nat) (v1 : Int) (h : Hp) : Option (Hp) :=
  if 2 ≤ v1 then (
    some h
  ) else
  b1 (f_mP_set v0 v1 1 30000 h) fun h89 =>
  b1 (f_mP_set v0 v1 4 65536 h89) fun h91 =>
  f_mP_init_b216_lp k192 FU v0 v1 5 h91
def f_mP_init_b192_lp : Nat → Nat → Int → Hp → Option (Hp)
  | 0, _, _, _ => none
  | n + 1, v0, v1, h => f_mP_init_b192 (f_mP_init_b192_lp n) v0 v1 h
def f_mP_init (v0 : Nat) (h : Hp) : Option (Hp) :=
  if (0 : Int) ≤ 65536 ∧ hN h + 1 ≤ CN ∧ hZ h + Int.toNat 65536 ≤ CZ then
    lt1 (nwC h 102 (Int.toNat 65536) (Int.toNat 65536)) fun h2 =>
    lt1 (sR h2 v0 1 (hN h)) fun h4 =>
    if (0 : Int) ≤ 2048 ∧ hN h4 + 1 ≤ CN ∧ hZ h4 + Int.toNat 2048 ≤ CZ then
      lt1 (nwC h4 101 (Int.toNat 2048) (Int.toNat 2048)) fun h6 =>
      lt1 (sR h6 v0 3 (hN h4)) fun h8 =>
      if hN h8 + 1 ≤ CN ∧ hZ h8 + 25 ≤ CZ then
        lt1 (nwC h8 37 0 25) fun h10 =>
        b1 (f_mSeals_init (hN h8) h10) fun h12 =>
        lt1 (sR h12 v0 5 (hN h8)) fun h14 =>
        if hN h14 + 1 ≤ CN ∧ hZ h14 + 56 ≤ CZ then
          lt1 (nwC h14 38 0 56) fun h16 =>
          b1 (f_mStreams_init (hN h14) h16) fun h18 =>
          lt1 (sR h18 v0 6 (hN h14)) fun h20 =>
          if (0 : Int) ≤ 2 ∧ hN h20 + 1 ≤ CN ∧ hZ h20 + Int.toNat 2 ≤ CZ then
            lt1 (nwC h20 118 (Int.toNat 2) (Int.toNat 2)) fun h22 =>
            if hN h22 + 1 ≤ CN ∧ hZ h22 + 53 ≤ CZ then
              lt1 (nwC h22 39 0 53) fun h25 =>
              b1 (f_mSide_init (hN h22) 0 (hR h25 v0 5) (hR h25 v0 6) h25) fun h27 =>
              if ix 0 (ln h27 (hN h20)) then
                lt1 (sR h27 (hN h20) (Int.toNat 0) (hN h22)) fun h30 =>
                if hN h30 + 1 ≤ CN ∧ hZ h30 + 53 ≤ CZ then
                  lt1 (nwC h30 39 0 53) fun h32 =>
                  b1 (f_mSide_init (hN h30) 1 (hR h32 v0 5) (hR h32 v0 6) h32) fun h34 =>
                  if ix 1 (ln h34 (hN h20)) then
                    lt1 (sR h34 (hN h20) (Int.toNat 1) (hN h30)) fun h37 =>
                    lt1 (sR h37 v0 7 (hN h20)) fun h38 =>
                    if (0 : Int) ≤ 2 ∧ hN h38 + 1 ≤ CN ∧ hZ h38 + Int.toNat 2 ≤ CZ then
                      lt1 (nwC h38 101 (Int.toNat 2) (Int.toNat 2)) fun h40 =>
                      lt1 (sR h40 v0 10 (hN h38)) fun h42 =>
                      if (0 : Int) ≤ 192 ∧ hN h42 + 1 ≤ CN ∧ hZ h42 + Int.toNat 192 ≤ CZ then
                        lt1 (nwC h42 101 (Int.toNat 192) (Int.toNat 192)) fun h44 =>
                        lt1 (sR h44 v0 11 (hN h42)) fun h46 =>
                        if (0 : Int) ≤ 192 ∧ hN h46 + 1 ≤ CN ∧ hZ h46 + Int.toNat 192 ≤ CZ then
                          lt1 (nwC h46 103 (Int.toNat 192) (Int.toNat 192)) fun h48 =>
                          lt1 (sR h48 v0 12 (hN h46)) fun h50 =>
                          if (0 : Int) ≤ 192 ∧ hN h50 + 1 ≤ CN ∧ hZ h50 + Int.toNat 192 ≤ CZ then
                            lt1 (nwC h50 101 (Int.toNat 192) (Int.toNat 192)) fun h52 =>
                            lt1 (sR h52 v0 13 (hN h50)) fun h54 =>
                            if (0 : Int) ≤ 192 ∧ hN h54 + 1 ≤ CN ∧ hZ h54 + Int.toNat 192 ≤ CZ then
                              lt1 (nwC h54 101 (Int.toNat 192) (Int.toNat 192)) fun h56 =>
                              lt1 (sR h56 v0 14 (hN h54)) fun h58 =>
                              if (0 : Int) ≤ 230400 ∧ hN h58 + 1 ≤ CN ∧ hZ h58 + Int.toNat 230400 ≤ CZ then
                                lt1 (nwC h58 102 (Int.toNat 230400) (Int.toNat 230400)) fun h60 =>
                                lt1 (sR h60 v0 15 (hN h58)) fun h62 =>
                                if (0 : Int) ≤ 2 ∧ hN h62 + 1 ≤ CN ∧ hZ h62 + Int.toNat 2 ≤ CZ then
                                  lt1 (nwC h62 101 (Int.toNat 2) (Int.toNat 2)) fun h64 =>
                                  lt1 (sR h64 v0 16 (hN h62)) fun h66 =>
                                  if (0 : Int) ≤ 2 ∧ hN h66 + 1 ≤ CN ∧ hZ h66 + Int.toNat 2 ≤ CZ then
                                    lt1 (nwC h66 101 (Int.toNat 2) (Int.toNat 2)) fun h68 =>
                                    lt1 (sR h68 v0 17 (hN h66)) fun h70 =>
                                    if (0 : Int) ≤ 1400 ∧ hN h70 + 1 ≤ CN ∧ hZ h70 + Int.toNat 1400 ≤ CZ then
                                      lt1 (nwC h70 101 (Int.toNat 1400) (Int.toNat 1400)) fun h72 =>
                                      lt1 (sR h72 v0 18 (hN h70)) fun h74 =>
                                      if (0 : Int) ≤ 10 ∧ hN h74 + 1 ≤ CN ∧ hZ h74 + Int.toNat 10 ≤ CZ then
                                        lt1 (nwC h74 101 (Int.toNat 10) (Int.toNat 10)) fun h76 =>
                                        lt1 (sR h76 v0 19 (hN h74)) fun h78 =>
                                        if (0 : Int) ≤ 20 ∧ hN h78 + 1 ≤ CN ∧ hZ h78 + Int.toNat 20 ≤ CZ then
                                          lt1 (nwC h78 101 (Int.toNat 20) (Int.toNat 20)) fun h80 =>
                                          lt1 (sR h80 v0 20 (hN h78)) fun h82 =>
                                          if hN h82 + 1 ≤ CN ∧ hZ h82 + 10 ≤ CZ then
                                            lt1 (nwC h82 41 0 10) fun h84 =>
                                            b1 (f_mWire_init (hN h82) h84) fun h86 =>
                                            lt1 (sR h86 v0 22 (hN h82)) fun h88 =>
                                            f_mP_init_b192_lp FU v0 0 h88
                                          else none
                                        else none
                                      else none
                                    else none
                                  else none
                                else none
                              else none
                            else none
                          else none
                        else none
                      else none
                    else none
                  else none
                else none
              else none
            else none
          else none
        else none
      else none
    else none
  else none
def f_mP_thrown (v0 : Nat) (h : Hp) : Option (Int × Hp) :=
  some (hI h v0 0, h)
def f_mP_fails_b10 (v0 : Nat) (v1 : Int) (s0 : Nat) (s1 : Int) (h : Hp) : Option (Int × Hp) :=
  if s0 = 0 then none else
  lt1 (sI h s0 0 s1) fun h2 =>
  if v1 = 0 ∨ v1 = 1 then some (v1, h2) else none
def f_mP_fails (v0 : Nat) (v1 : Int) (v2 : Int) (h : Hp) : Option (Int × Hp) :=
  if v1 = 0 then (
    f_mP_fails_b10 v0 v1 v0 0 h
  ) else
  f_mP_fails_b10 v0 v1 v0 v2 h
def f_mP_no_b9 (h : Hp) : Option (Int × Hp) :=
  some (1, h)
def f_mP_no (v0 : Int) (h : Hp) : Option (Int × Hp) :=
  if v0 < 0 then (
    f_mP_no_b9  h
  ) else
  if v0 ≤ 1 then (
    some (0, h)
  ) else
  f_mP_no_b9  h
def f_mP_feed_b83 (k30 : Nat → Int → Int → Int → Int → Int → Int → Hp → Option (Int × Hp)) (v0 : Nat) (v1 : Int) (v2 : Int) (v3 : Int) (v4 : Int) (v5 : Int) (v6 : Int) (s0 : Int) (h : Hp) : Option (Int × Hp) :=
  if hR h v0 1 = 0 then none else
  if ix (hI h v0 2) (ln h (hR h v0 1)) then
    lt1 (sI h (hR h v0 1) ((hI h v0 2).toNat) (i8 (i8 (iShr s0 (w32 (24 - (w32 (8 * (iRem v6 4))))))))) fun h7 =>
    lt1 (sI h7 v0 2 (w32 ((hI h7 v0 2) + 1))) fun h8 =>
    k30 v0 v1 v2 v3 v4 v5 (w32 (v6 + 1)) h8
  else none
def f_mP_feed_b30 (k30 : Nat → Int → Int → Int → Int → Int → Int → Hp → Option (Int × Hp)) (v0 : Nat) (v1 : Int) (v2 : Int) (v3 : Int) (v4 : Int) (v5 : Int) (v6 : Int) (h : Hp) : Option (Int × Hp) :=
  if 20 ≤ v6 then (
    some (hI h v0 2, h)
  ) else
  if 4 ≤ v6 then (
    if 8 ≤ v6 then (
      if 12 ≤ v6 then (
        if 16 ≤ v6 then (
          f_mP_feed_b83 k30 v0 v1 v2 v3 v4 v5 v6 v5 h
        ) else
        f_mP_feed_b83 k30 v0 v1 v2 v3 v4 v5 v6 v4 h
      ) else
      f_mP_feed_b83 k30 v0 v1 v2 v3 v4 v5 v6 v3 h
    ) else
    f_mP_feed_b83 k30 v0 v1 v2 v3 v4 v5 v6 v2 h
  ) else
  f_mP_feed_b83 k30 v0 v1 v2 v3 v4 v5 v6 v1 h
def f_mP_feed_b30_lp : Nat → Nat → Int → Int → Int → Int → Int → Int → Hp → Option (Int × Hp)
  | 0, _, _, _, _, _, _, _, _ => none
  | n + 1, v0, v1, v2, v3, v4, v5, v6, h => f_mP_feed_b30 (f_mP_feed_b30_lp n) v0 v1 v2 v3 v4 v5 v6 h
def f_mP_feed_b18 (v0 : Nat) (v1 : Int) (v2 : Int) (v3 : Int) (v4 : Int) (v5 : Int) (s0 : Nat) (s1 : Int) (h : Hp) : Option (Int × Hp) :=
  if s0 = 0 then none else
  b2 (f_mP_fails s0 s1 1 h) fun r4 h2 =>
  if r4 = 0 then (
    f_mP_feed_b30_lp FU v0 v1 v2 v3 v4 v5 0 h2
  ) else
  some (0, h2)
def f_mP_feed (v0 : Nat) (v1 : Int) (v2 : Int) (v3 : Int) (v4 : Int) (v5 : Int) (h : Hp) : Option (Int × Hp) :=
  if (w32 ((hI h v0 2) + 20)) ≤ 65536 then (
    f_mP_feed_b18 v0 v1 v2 v3 v4 v5 v0 0 h
  ) else
  f_mP_feed_b18 v0 v1 v2 v3 v4 v5 v0 1 h
def f_mP_end_b18 (v0 : Nat) (v1 : Int) (s0 : Nat) (s1 : Int) (h : Hp) : Option (Int × Hp) :=
  if s0 = 0 then none else
  b2 (f_mP_fails s0 s1 1 h) fun r4 h2 =>
  if r4 = 0 then (
    lt1 (hI h2 v0 2) fun y5 =>
    lt1 (sI h2 v0 2 v1) fun h6 =>
    some (y5, h6)
  ) else
  some (0, h2)
def f_mP_end_b13 (v0 : Nat) (v1 : Int) (s0 : Nat) (h : Hp) : Option (Int × Hp) :=
  f_mP_end_b18 v0 v1 s0 1 h
def f_mP_end (v0 : Nat) (v1 : Int) (h : Hp) : Option (Int × Hp) :=
  if v1 < 0 then (
    f_mP_end_b13 v0 v1 v0 h
  ) else
  if v1 ≤ (hI h v0 2) then (
    f_mP_end_b18 v0 v1 v0 0 h
  ) else
  f_mP_end_b13 v0 v1 v0 h
def f_mP_key_b57 (k57 : Nat → Int → Int → Hp → Option (Hp)) (v0 : Nat) (v1 : Int) (v2 : Int) (h : Hp) : Option (Hp) :=
  if 32 ≤ v2 then (
    if hR h v0 7 = 0 then none else
    if ix v1 (ln h (hR h v0 7)) then
      if hR h (hR h v0 7) v1.toNat = 0 then none else
      lt1 (sI h (hR h (hR h v0 7) v1.toNat) 6 1) fun h18 =>
      lt1 (sI h18 v0 2 0) fun h19 =>
      some h19
    else none
  ) else
  if hR h v0 7 = 0 then none else
  if ix v1 (ln h (hR h v0 7)) then
    if hR h (hR h v0 7) v1.toNat = 0 then none else
    if hR h (hR h (hR h v0 7) v1.toNat) 3 = 0 then none else
    if hR h v0 1 = 0 then none else
    if ix v2 (ln h (hR h v0 1)) then
      if hR h (hR h (hR h (hR h v0 7) v1.toNat) 3) 2 = 0 then none else
      if ix v2 (ln h (hR h (hR h (hR h (hR h v0 7) v1.toNat) 3) 2)) then
        lt1 (sI h (hR h (hR h (hR h (hR h v0 7) v1.toNat) 3) 2) v2.toNat (iAnd (hI h (hR h v0 1) v2.toNat) 255)) fun h28 =>
        k57 v0 v1 (w32 (v2 + 1)) h28
      else none
    else none
  else none
def f_mP_key_b57_lp : Nat → Nat → Int → Int → Hp → Option (Hp)
  | 0, _, _, _, _ => none
  | n + 1, v0, v1, v2, h => f_mP_key_b57 (f_mP_key_b57_lp n) v0 v1 v2 h
def f_mP_key_b47 (v0 : Nat) (v1 : Int) (s0 : Nat) (s1 : Int) (h : Hp) : Option (Hp) :=
  if s0 = 0 then none else
  b2 (f_mP_fails s0 s1 2 h) fun r14 h12 =>
  if r14 = 0 then (
    f_mP_key_b57_lp FU v0 v1 0 h12
  ) else
  some h12
def f_mP_key_b22 (v0 : Nat) (v1 : Int) (s0 : Nat) (s1 : Int) (h : Hp) : Option (Hp) :=
  if s0 = 0 then none else
  b2 (f_mP_fails s0 s1 1 h) fun r7 h5 =>
  if r7 ≠ 0 then (
    some h5
  ) else
  if hR h5 v0 7 = 0 then none else
  if ix v1 (ln h5 (hR h5 v0 7)) then
    if hR h5 (hR h5 v0 7) v1.toNat = 0 then none else
    if (hI h5 (hR h5 (hR h5 v0 7) v1.toNat) 8) = 0 then (
      f_mP_key_b47 v0 v1 v0 0 h5
    ) else
    f_mP_key_b47 v0 v1 v0 1 h5
  else none
def f_mP_key_b17 (v0 : Nat) (v1 : Int) (s0 : Nat) (h : Hp) : Option (Hp) :=
  f_mP_key_b22 v0 v1 s0 1 h
def f_mP_key (v0 : Nat) (v1 : Int) (h : Hp) : Option (Hp) :=
  b2 (f_mP_no v1 h) fun r3 h1 =>
  if r3 ≠ 0 then (
    f_mP_key_b17 v0 v1 v0 h1
  ) else
  if (hI h1 v0 2) = 32 then (
    f_mP_key_b22 v0 v1 v0 0 h1
  ) else
  f_mP_key_b17 v0 v1 v0 h1
def f_mP_random_b57 (k57 : Nat → Int → Int → Hp → Option (Hp)) (v0 : Nat) (v1 : Int) (v2 : Int) (h : Hp) : Option (Hp) :=
  if 32 ≤ v2 then (
    if hR h v0 7 = 0 then none else
    if ix v1 (ln h (hR h v0 7)) then
      if hR h (hR h v0 7) v1.toNat = 0 then none else
      lt1 (sI h (hR h (hR h v0 7) v1.toNat) 7 1) fun h18 =>
      lt1 (sI h18 v0 2 0) fun h19 =>
      some h19
    else none
  ) else
  if hR h v0 7 = 0 then none else
  if ix v1 (ln h (hR h v0 7)) then
    if hR h (hR h v0 7) v1.toNat = 0 then none else
    if hR h (hR h (hR h v0 7) v1.toNat) 3 = 0 then none else
    if hR h v0 1 = 0 then none else
    if ix v2 (ln h (hR h v0 1)) then
      if hR h (hR h (hR h (hR h v0 7) v1.toNat) 3) 3 = 0 then none else
      if ix v2 (ln h (hR h (hR h (hR h (hR h v0 7) v1.toNat) 3) 3)) then
        lt1 (sI h (hR h (hR h (hR h (hR h v0 7) v1.toNat) 3) 3) v2.toNat (iAnd (hI h (hR h v0 1) v2.toNat) 255)) fun h28 =>
        k57 v0 v1 (w32 (v2 + 1)) h28
      else none
    else none
  else none
def f_mP_random_b57_lp : Nat → Nat → Int → Int → Hp → Option (Hp)
  | 0, _, _, _, _ => none
  | n + 1, v0, v1, v2, h => f_mP_random_b57 (f_mP_random_b57_lp n) v0 v1 v2 h
def f_mP_random_b47 (v0 : Nat) (v1 : Int) (s0 : Nat) (s1 : Int) (h : Hp) : Option (Hp) :=
  if s0 = 0 then none else
  b2 (f_mP_fails s0 s1 2 h) fun r14 h12 =>
  if r14 = 0 then (
    f_mP_random_b57_lp FU v0 v1 0 h12
  ) else
  some h12
def f_mP_random_b22 (v0 : Nat) (v1 : Int) (s0 : Nat) (s1 : Int) (h : Hp) : Option (Hp) :=
  if s0 = 0 then none else
  b2 (f_mP_fails s0 s1 1 h) fun r7 h5 =>
  if r7 ≠ 0 then (
    some h5
  ) else
  if hR h5 v0 7 = 0 then none else
  if ix v1 (ln h5 (hR h5 v0 7)) then
    if hR h5 (hR h5 v0 7) v1.toNat = 0 then none else
    if (hI h5 (hR h5 (hR h5 v0 7) v1.toNat) 8) = 0 then (
      f_mP_random_b47 v0 v1 v0 0 h5
    ) else
    f_mP_random_b47 v0 v1 v0 1 h5
  else none
def f_mP_random_b17 (v0 : Nat) (v1 : Int) (s0 : Nat) (h : Hp) : Option (Hp) :=
  f_mP_random_b22 v0 v1 s0 1 h
def f_mP_random (v0 : Nat) (v1 : Int) (h : Hp) : Option (Hp) :=
  b2 (f_mP_no v1 h) fun r3 h1 =>
  if r3 ≠ 0 then (
    f_mP_random_b17 v0 v1 v0 h1
  ) else
  if (hI h1 v0 2) = 32 then (
    f_mP_random_b22 v0 v1 v0 0 h1
  ) else
  f_mP_random_b17 v0 v1 v0 h1
def f_mP_parameter_b97 (v0 : Nat) (v1 : Int) (v2 : Int) (v3 : Int) (s0 : Nat) (s1 : Int) (h : Hp) : Option (Hp) :=
  if s0 = 0 then none else
  b2 (f_mP_fails s0 s1 2 h) fun r14 h12 =>
  if r14 = 0 then (
    b1 (f_mP_set v0 v1 v2 v3 h12) fun h15 =>
    some h15
  ) else
  some h12
def f_mP_parameter_b72 (v0 : Nat) (v1 : Int) (v2 : Int) (v3 : Int) (s0 : Nat) (s1 : Int) (h : Hp) : Option (Hp) :=
  if s0 = 0 then none else
  b2 (f_mP_fails s0 s1 1 h) fun r7 h5 =>
  if r7 ≠ 0 then (
    some h5
  ) else
  if hR h5 v0 7 = 0 then none else
  if ix v1 (ln h5 (hR h5 v0 7)) then
    if hR h5 (hR h5 v0 7) v1.toNat = 0 then none else
    if (hI h5 (hR h5 (hR h5 v0 7) v1.toNat) 8) = 0 then (
      f_mP_parameter_b97 v0 v1 v2 v3 v0 0 h5
    ) else
    f_mP_parameter_b97 v0 v1 v2 v3 v0 1 h5
  else none
def f_mP_parameter_b67 (v0 : Nat) (v1 : Int) (v2 : Int) (v3 : Int) (s0 : Nat) (h : Hp) : Option (Hp) :=
  f_mP_parameter_b72 v0 v1 v2 v3 s0 1 h
def f_mP_parameter_b64 (v0 : Nat) (v1 : Int) (v2 : Int) (v3 : Int) (s0 : Nat) (s1 : Int) (s2 : Int) (h : Hp) : Option (Hp) :=
  if s1 ≤ s2 then (
    f_mP_parameter_b72 v0 v1 v2 v3 s0 0 h
  ) else
  f_mP_parameter_b67 v0 v1 v2 v3 s0 h
def f_mP_parameter_b21 (v0 : Nat) (v1 : Int) (v2 : Int) (v3 : Int) (s0 : Int) (h : Hp) : Option (Hp) :=
  b2 (f_mP_no v1 h) fun r3 h1 =>
  if r3 ≠ 0 then (
    f_mP_parameter_b67 v0 v1 v2 v3 v0 h1
  ) else
  if s0 = 0 then (
    f_mP_parameter_b67 v0 v1 v2 v3 v0 h1
  ) else
  if v3 < 0 then (
    f_mP_parameter_b67 v0 v1 v2 v3 v0 h1
  ) else
  if v2 ≠ 1 then (
    if v2 ≤ 7 then (
      f_mP_parameter_b64 v0 v1 v2 v3 v0 v3 65536 h1
    ) else
    f_mP_parameter_b64 v0 v1 v2 v3 v0 v3 64 h1
  ) else
  f_mP_parameter_b64 v0 v1 v2 v3 v0 v3 200000 h1
def f_mP_parameter_b16 (v0 : Nat) (v1 : Int) (v2 : Int) (v3 : Int) (h : Hp) : Option (Hp) :=
  f_mP_parameter_b21 v0 v1 v2 v3 1 h
def f_mP_parameter_b20 (v0 : Nat) (v1 : Int) (v2 : Int) (v3 : Int) (h : Hp) : Option (Hp) :=
  f_mP_parameter_b21 v0 v1 v2 v3 0 h
def f_mP_parameter (v0 : Nat) (v1 : Int) (v2 : Int) (v3 : Int) (h : Hp) : Option (Hp) :=
  if v2 = 1 then (
    f_mP_parameter_b16 v0 v1 v2 v3 h
  ) else
  if v2 ≤ 3 then (
    f_mP_parameter_b20 v0 v1 v2 v3 h
  ) else
  if 10 ≤ v2 then (
    f_mP_parameter_b20 v0 v1 v2 v3 h
  ) else
  f_mP_parameter_b16 v0 v1 v2 v3 h
def f_mSeals_right (v0 : Int) (v2 : Int) (h : Hp) : Option (Int × Hp) :=
  some (lAnd (lOr (lShr v0 v2) (lShl v0 (w32 (32 - v2)))) 4294967295, h)
def f_mSeals_round (v0 : Nat) (v1 : Int) (h : Hp) : Option (Hp) :=
  lt1 (iAnd (w32 (64 - v1)) 7) fun y1 =>
  if hR h v0 7 = 0 then none else
  if ix (iAnd (w32 (y1 + 4)) 7) (ln h (hR h v0 7)) then
    lt1 (hJ h (hR h v0 7) ((iAnd (w32 (y1 + 4)) 7).toNat)) fun y4 =>
    if ix (iAnd (w32 (y1 + 5)) 7) (ln h (hR h v0 7)) then
      lt1 (hJ h (hR h v0 7) ((iAnd (w32 (y1 + 5)) 7).toNat)) fun y6 =>
      if ix (iAnd (w32 (y1 + 6)) 7) (ln h (hR h v0 7)) then
        lt1 (hJ h (hR h v0 7) ((iAnd (w32 (y1 + 6)) 7).toNat)) fun y8 =>
        if ix (iAnd (w32 (y1 + 7)) 7) (ln h (hR h v0 7)) then
          b2 (f_mSeals_right y4 6 h) fun r12 h10 =>
          b2 (f_mSeals_right y4 11 h10) fun r15 h13 =>
          b2 (f_mSeals_right y4 25 h13) fun r18 h16 =>
          if hR h16 v0 1 = 0 then none else
          if ix v1 (ln h16 (hR h16 v0 1)) then
            if hR h16 v0 5 = 0 then none else
            if ix v1 (ln h16 (hR h16 v0 5)) then
              lt1 (w64 ((w64 ((w64 ((w64 ((hJ h (hR h v0 7) ((iAnd (w32 (y1 + 7)) 7).toNat)) + (lXor (lXor r12 r15) r18))) + (lOr (lAnd y4 y6) (lAnd (lXor 4294967295 y4) y8)))) + (hJ h16 (hR h16 v0 1) v1.toNat))) + (hJ h16 (hR h16 v0 5) v1.toNat))) fun y23 =>
              if hR h16 v0 7 = 0 then none else
              if ix y1 (ln h16 (hR h16 v0 7)) then
                lt1 (hJ h16 (hR h16 v0 7) y1.toNat) fun y26 =>
                if ix (iAnd (w32 (y1 + 1)) 7) (ln h16 (hR h16 v0 7)) then
                  lt1 (hJ h16 (hR h16 v0 7) ((iAnd (w32 (y1 + 1)) 7).toNat)) fun y28 =>
                  if ix (iAnd (w32 (y1 + 2)) 7) (ln h16 (hR h16 v0 7)) then
                    lt1 (hJ h16 (hR h16 v0 7) ((iAnd (w32 (y1 + 2)) 7).toNat)) fun y30 =>
                    b2 (f_mSeals_right y26 2 h16) fun r33 h31 =>
                    b2 (f_mSeals_right y26 13 h31) fun r36 h34 =>
                    b2 (f_mSeals_right y26 22 h34) fun r39 h37 =>
                    lt1 (w64 ((lXor (lXor r33 r36) r39) + (lOr (lOr (lAnd y26 y28) (lAnd y26 y30)) (lAnd y28 y30)))) fun y40 =>
                    if hR h37 v0 7 = 0 then none else
                    if ix (iAnd (w32 (y1 + 3)) 7) (ln h37 (hR h37 v0 7)) then
                      if ix (iAnd (w32 (y1 + 3)) 7) (ln h37 (hR h37 v0 7)) then
                        lt1 (sJ h37 (hR h37 v0 7) ((iAnd (w32 (y1 + 3)) 7).toNat) (lAnd (w64 ((hJ h37 (hR h37 v0 7) ((iAnd (w32 (y1 + 3)) 7).toNat)) + y23)) 4294967295)) fun h44 =>
                        if hR h44 v0 7 = 0 then none else
                        if ix (iAnd (w32 (y1 + 7)) 7) (ln h44 (hR h44 v0 7)) then
                          lt1 (sJ h44 (hR h44 v0 7) ((iAnd (w32 (y1 + 7)) 7).toNat) (lAnd (w64 (y23 + y40)) 4294967295)) fun h47 =>
                          some h47
                        else none
                      else none
                    else none
                  else none
                else none
              else none
            else none
          else none
        else none
      else none
    else none
  else none
def f_mSeals_part_b195 (k2 : Nat → Int → Int → Hp → Option (Hp)) (v0 : Nat) (v1 : Int) (v2 : Int) (h : Hp) : Option (Hp) :=
  k2 v0 v1 (w32 (v2 + 1)) h
def f_mSeals_part_b248 (k248 : Nat → Int → Hp → Option (Hp)) (v0 : Nat) (v2 : Int) (h : Hp) : Option (Hp) :=
  if 8 ≤ v2 then (
    some h
  ) else
  if hR h v0 6 = 0 then none else
  if ix v2 (ln h (hR h v0 6)) then
    if hR h v0 7 = 0 then none else
    if ix v2 (ln h (hR h v0 7)) then
      if ix v2 (ln h (hR h v0 6)) then
        lt1 (sJ h (hR h v0 6) v2.toNat (lAnd (w64 ((hJ h (hR h v0 6) v2.toNat) + (hJ h (hR h v0 7) v2.toNat))) 4294967295)) fun h51 =>
        k248 v0 (w32 (v2 + 1)) h51
      else none
    else none
  else none
def f_mSeals_part_b248_lp : Nat → Nat → Int → Hp → Option (Hp)
  | 0, _, _, _ => none
  | n + 1, v0, v2, h => f_mSeals_part_b248 (f_mSeals_part_b248_lp n) v0 v2 h
def f_mSeals_part_b229 (k229 : Nat → Int → Hp → Option (Hp)) (v0 : Nat) (v2 : Int) (h : Hp) : Option (Hp) :=
  if 64 ≤ v2 then (
    f_mSeals_part_b248_lp FU v0 0 h
  ) else
  b1 (f_mSeals_round v0 v2 h) fun h44 =>
  k229 v0 (w32 (v2 + 1)) h44
def f_mSeals_part_b229_lp : Nat → Nat → Int → Hp → Option (Hp)
  | 0, _, _, _ => none
  | n + 1, v0, v2, h => f_mSeals_part_b229 (f_mSeals_part_b229_lp n) v0 v2 h
def f_mSeals_part_b203 (k203 : Nat → Int → Hp → Option (Hp)) (v0 : Nat) (v2 : Int) (h : Hp) : Option (Hp) :=
  if 8 ≤ v2 then (
    f_mSeals_part_b229_lp FU v0 0 h
  ) else
  if hR h v0 6 = 0 then none else
  if ix v2 (ln h (hR h v0 6)) then
    if hR h v0 7 = 0 then none else
    if ix v2 (ln h (hR h v0 7)) then
      lt1 (sJ h (hR h v0 7) v2.toNat (hJ h (hR h v0 6) v2.toNat)) fun h43 =>
      k203 v0 (w32 (v2 + 1)) h43
    else none
  else none
def f_mSeals_part_b203_lp : Nat → Nat → Int → Hp → Option (Hp)
  | 0, _, _, _ => none
  | n + 1, v0, v2, h => f_mSeals_part_b203 (f_mSeals_part_b203_lp n) v0 v2 h
def f_mSeals_part_b2 (k2 : Nat → Int → Int → Hp → Option (Hp)) (v0 : Nat) (v1 : Int) (v2 : Int) (h : Hp) : Option (Hp) :=
  if 64 ≤ v2 then (
    f_mSeals_part_b203_lp FU v0 0 h
  ) else
  if 16 ≤ v2 then (
    if hR h v0 5 = 0 then none else
    if ix (w32 (v2 - 15)) (ln h (hR h v0 5)) then
      b2 (f_mSeals_right (hJ h (hR h v0 5) ((w32 (v2 - 15)).toNat)) 7 h) fun r5 h3 =>
      if hR h3 v0 5 = 0 then none else
      if ix (w32 (v2 - 15)) (ln h3 (hR h3 v0 5)) then
        b2 (f_mSeals_right (hJ h3 (hR h3 v0 5) ((w32 (v2 - 15)).toNat)) 18 h3) fun r10 h8 =>
        if hR h8 v0 5 = 0 then none else
        if ix (w32 (v2 - 15)) (ln h8 (hR h8 v0 5)) then
          lt1 (lXor (lXor r5 r10) (lShr (hJ h8 (hR h8 v0 5) ((w32 (v2 - 15)).toNat)) 3)) fun y13 =>
          if ix (w32 (v2 - 2)) (ln h8 (hR h8 v0 5)) then
            b2 (f_mSeals_right (hJ h8 (hR h8 v0 5) ((w32 (v2 - 2)).toNat)) 17 h8) fun r17 h15 =>
            if hR h15 v0 5 = 0 then none else
            if ix (w32 (v2 - 2)) (ln h15 (hR h15 v0 5)) then
              b2 (f_mSeals_right (hJ h15 (hR h15 v0 5) ((w32 (v2 - 2)).toNat)) 19 h15) fun r22 h20 =>
              if hR h20 v0 5 = 0 then none else
              if ix (w32 (v2 - 2)) (ln h20 (hR h20 v0 5)) then
                lt1 (lXor (lXor r17 r22) (lShr (hJ h20 (hR h20 v0 5) ((w32 (v2 - 2)).toNat)) 10)) fun y25 =>
                if ix (w32 (v2 - 16)) (ln h20 (hR h20 v0 5)) then
                  if ix (w32 (v2 - 7)) (ln h20 (hR h20 v0 5)) then
                    if ix v2 (ln h20 (hR h20 v0 5)) then
                      lt1 (sJ h20 (hR h20 v0 5) v2.toNat (lAnd (w64 ((w64 ((w64 ((hJ h20 (hR h20 v0 5) ((w32 (v2 - 16)).toNat)) + y13)) + (hJ h20 (hR h20 v0 5) ((w32 (v2 - 7)).toNat)))) + y25)) 4294967295)) fun h29 =>
                      f_mSeals_part_b195 k2 v0 v1 v2 h29
                    else none
                  else none
                else none
              else none
            else none
          else none
        else none
      else none
    else none
  ) else
  lt1 (w32 (v1 + (w32 (4 * v2)))) fun y30 =>
  if hR h v0 4 = 0 then none else
  if ix y30 (ln h (hR h v0 4)) then
    if ix (w32 (y30 + 1)) (ln h (hR h v0 4)) then
      if ix (w32 (y30 + 2)) (ln h (hR h v0 4)) then
        if ix (w32 (y30 + 3)) (ln h (hR h v0 4)) then
          if hR h v0 5 = 0 then none else
          if ix v2 (ln h (hR h v0 5)) then
            lt1 (sJ h (hR h v0 5) v2.toNat (w64 ((w64 ((w64 ((w64 ((w64 ((w64 ((hI h (hR h v0 4) y30.toNat) * 256)) + (hI h (hR h v0 4) ((w32 (y30 + 1)).toNat)))) * 256)) + (hI h (hR h v0 4) ((w32 (y30 + 2)).toNat)))) * 256)) + (hI h (hR h v0 4) ((w32 (y30 + 3)).toNat))))) fun h38 =>
            f_mSeals_part_b195 k2 v0 v1 v2 h38
          else none
        else none
      else none
    else none
  else none
def f_mSeals_part_b2_lp : Nat → Nat → Int → Int → Hp → Option (Hp)
  | 0, _, _, _, _ => none
  | n + 1, v0, v1, v2, h => f_mSeals_part_b2 (f_mSeals_part_b2_lp n) v0 v1 v2 h
def f_mSeals_part (v0 : Nat) (v1 : Int) (h : Hp) : Option (Hp) :=
  f_mSeals_part_b2_lp FU v0 v1 0 h
def f_mSeals_digestWork_b125 (k125 : Nat → Int → Hp → Option (Hp)) (v0 : Nat) (v3 : Int) (h : Hp) : Option (Hp) :=
  if 32 ≤ v3 then (
    some h
  ) else
  if hR h v0 6 = 0 then none else
  if ix (iDiv v3 4) (ln h (hR h v0 6)) then
    if hR h v0 8 = 0 then none else
    if ix v3 (ln h (hR h v0 8)) then
      lt1 (sI h (hR h v0 8) v3.toNat (w32 (lAnd (lShr (hJ h (hR h v0 6) ((iDiv v3 4).toNat)) (w32 (24 - (w32 (8 * (iRem v3 4)))))) 255))) fun h22 =>
      k125 v0 (w32 (v3 + 1)) h22
    else none
  else none
def f_mSeals_digestWork_b125_lp : Nat → Nat → Int → Hp → Option (Hp)
  | 0, _, _, _ => none
  | n + 1, v0, v3, h => f_mSeals_digestWork_b125 (f_mSeals_digestWork_b125_lp n) v0 v3 h
def f_mSeals_digestWork_b107 (k107 : Nat → Int → Int → Hp → Option (Hp)) (v0 : Nat) (v2 : Int) (v3 : Int) (h : Hp) : Option (Hp) :=
  if v2 ≤ v3 then (
    f_mSeals_digestWork_b125_lp FU v0 0 h
  ) else
  b1 (f_mSeals_part v0 v3 h) fun h16 =>
  k107 v0 v2 (w32 (v3 + 64)) h16
def f_mSeals_digestWork_b107_lp : Nat → Nat → Int → Int → Hp → Option (Hp)
  | 0, _, _, _, _ => none
  | n + 1, v0, v2, v3, h => f_mSeals_digestWork_b107 (f_mSeals_digestWork_b107_lp n) v0 v2 v3 h
def f_mSeals_digestWork_b81 (k81 : Nat → Int → Int → Hp → Option (Hp)) (v0 : Nat) (v2 : Int) (v3 : Int) (h : Hp) : Option (Hp) :=
  if 8 ≤ v3 then (
    f_mSeals_digestWork_b107_lp FU v0 v2 0 h
  ) else
  if hR h v0 0 = 0 then none else
  if ix v3 (ln h (hR h v0 0)) then
    if hR h v0 6 = 0 then none else
    if ix v3 (ln h (hR h v0 6)) then
      lt1 (sJ h (hR h v0 6) v3.toNat (hJ h (hR h v0 0) v3.toNat)) fun h15 =>
      k81 v0 v2 (w32 (v3 + 1)) h15
    else none
  else none
def f_mSeals_digestWork_b81_lp : Nat → Nat → Int → Int → Hp → Option (Hp)
  | 0, _, _, _, _ => none
  | n + 1, v0, v2, v3, h => f_mSeals_digestWork_b81 (f_mSeals_digestWork_b81_lp n) v0 v2 v3 h
def f_mSeals_digestWork_b45 (k45 : Nat → Int → Int → Int → Hp → Option (Hp)) (v0 : Nat) (v1 : Int) (v2 : Int) (v3 : Int) (h : Hp) : Option (Hp) :=
  if 4 ≤ v3 then (
    f_mSeals_digestWork_b81_lp FU v0 v2 0 h
  ) else
  if hR h v0 4 = 0 then none else
  if ix (w32 ((w32 (v2 - 1)) - v3)) (ln h (hR h v0 4)) then
    lt1 (sI h (hR h v0 4) ((w32 ((w32 (v2 - 1)) - v3)).toNat) (iAnd (iShr (w32 (8 * v1)) (w32 (8 * v3))) 255)) fun h10 =>
    k45 v0 v1 v2 (w32 (v3 + 1)) h10
  else none
def f_mSeals_digestWork_b45_lp : Nat → Nat → Int → Int → Int → Hp → Option (Hp)
  | 0, _, _, _, _, _ => none
  | n + 1, v0, v1, v2, v3, h => f_mSeals_digestWork_b45 (f_mSeals_digestWork_b45_lp n) v0 v1 v2 v3 h
def f_mSeals_digestWork_b16 (k16 : Nat → Int → Int → Int → Hp → Option (Hp)) (v0 : Nat) (v1 : Int) (v2 : Int) (v3 : Int) (h : Hp) : Option (Hp) :=
  if v2 ≤ v3 then (
    if hR h v0 4 = 0 then none else
    if ix v1 (ln h (hR h v0 4)) then
      lt1 (sI h (hR h v0 4) v1.toNat 128) fun h4 =>
      f_mSeals_digestWork_b45_lp FU v0 v1 v2 0 h4
    else none
  ) else
  if hR h v0 4 = 0 then none else
  if ix v3 (ln h (hR h v0 4)) then
    lt1 (sI h (hR h v0 4) v3.toNat 0) fun h7 =>
    k16 v0 v1 v2 (w32 (v3 + 1)) h7
  else none
def f_mSeals_digestWork_b16_lp : Nat → Nat → Int → Int → Int → Hp → Option (Hp)
  | 0, _, _, _, _, _ => none
  | n + 1, v0, v1, v2, v3, h => f_mSeals_digestWork_b16 (f_mSeals_digestWork_b16_lp n) v0 v1 v2 v3 h
def f_mSeals_digestWork (v0 : Nat) (v1 : Int) (h : Hp) : Option (Hp) :=
  lt1 (w32 ((w32 ((iDiv (w32 (v1 + 8)) 64) * 64)) + 64)) fun y1 =>
  f_mSeals_digestWork_b16_lp FU v0 v1 y1 v1 h
def f_mSeals_macText_b32 (k3 : Nat → Nat → Int → Int → Int → Hp → Option (Hp)) (v0 : Nat) (v1 : Nat) (v2 : Int) (v3 : Int) (v4 : Int) (s0 : Nat) (s1 : Int) (s2 : Int) (h : Hp) : Option (Hp) :=
  if s0 = 0 then none else
  if ix s1 (ln h s0) then
    lt1 (sI h s0 s1.toNat s2) fun h29 =>
    k3 v0 v1 v2 v3 (w32 (v4 + 1)) h29
  else none
def f_mSeals_macText_b154 (k154 : Nat → Int → Hp → Option (Hp)) (v0 : Nat) (v4 : Int) (h : Hp) : Option (Hp) :=
  if 32 ≤ v4 then (
    b1 (f_mSeals_digestWork v0 96 h) fun h20 =>
    some h20
  ) else
  if hR h v0 8 = 0 then none else
  if ix v4 (ln h (hR h v0 8)) then
    if hR h v0 4 = 0 then none else
    if ix (w32 (64 + v4)) (ln h (hR h v0 4)) then
      lt1 (sI h (hR h v0 4) ((w32 (64 + v4)).toNat) (hI h (hR h v0 8) v4.toNat)) fun h26 =>
      k154 v0 (w32 (v4 + 1)) h26
    else none
  else none
def f_mSeals_macText_b154_lp : Nat → Nat → Int → Hp → Option (Hp)
  | 0, _, _, _ => none
  | n + 1, v0, v4, h => f_mSeals_macText_b154 (f_mSeals_macText_b154_lp n) v0 v4 h
def f_mSeals_macText_b121 (k121 : Nat → Int → Hp → Option (Hp)) (v0 : Nat) (v4 : Int) (h : Hp) : Option (Hp) :=
  if 64 ≤ v4 then (
    f_mSeals_macText_b154_lp FU v0 0 h
  ) else
  if hR h v0 9 = 0 then none else
  if ix v4 (ln h (hR h v0 9)) then
    if hR h v0 4 = 0 then none else
    if ix v4 (ln h (hR h v0 4)) then
      lt1 (sI h (hR h v0 4) v4.toNat (iXor (hI h (hR h v0 9) v4.toNat) 92)) fun h19 =>
      k121 v0 (w32 (v4 + 1)) h19
    else none
  else none
def f_mSeals_macText_b121_lp : Nat → Nat → Int → Hp → Option (Hp)
  | 0, _, _, _ => none
  | n + 1, v0, v4, h => f_mSeals_macText_b121 (f_mSeals_macText_b121_lp n) v0 v4 h
def f_mSeals_macText_b75 (k75 : Nat → Int → Hp → Option (Hp)) (v0 : Nat) (v4 : Int) (h : Hp) : Option (Hp) :=
  if (hI h v0 11) ≤ v4 then (
    b1 (f_mSeals_digestWork v0 (w32 (64 + (hI h v0 11))) h) fun h8 =>
    f_mSeals_macText_b121_lp FU v0 0 h8
  ) else
  if hR h v0 10 = 0 then none else
  if ix v4 (ln h (hR h v0 10)) then
    if hR h v0 4 = 0 then none else
    if ix (w32 (64 + v4)) (ln h (hR h v0 4)) then
      lt1 (sI h (hR h v0 4) ((w32 (64 + v4)).toNat) (hI h (hR h v0 10) v4.toNat)) fun h14 =>
      k75 v0 (w32 (v4 + 1)) h14
    else none
  else none
def f_mSeals_macText_b75_lp : Nat → Nat → Int → Hp → Option (Hp)
  | 0, _, _, _ => none
  | n + 1, v0, v4, h => f_mSeals_macText_b75 (f_mSeals_macText_b75_lp n) v0 v4 h
def f_mSeals_macText_b42 (k42 : Nat → Int → Hp → Option (Hp)) (v0 : Nat) (v4 : Int) (h : Hp) : Option (Hp) :=
  if 64 ≤ v4 then (
    f_mSeals_macText_b75_lp FU v0 0 h
  ) else
  if hR h v0 9 = 0 then none else
  if ix v4 (ln h (hR h v0 9)) then
    if hR h v0 4 = 0 then none else
    if ix v4 (ln h (hR h v0 4)) then
      lt1 (sI h (hR h v0 4) v4.toNat (iXor (hI h (hR h v0 9) v4.toNat) 54)) fun h7 =>
      k42 v0 (w32 (v4 + 1)) h7
    else none
  else none
def f_mSeals_macText_b42_lp : Nat → Nat → Int → Hp → Option (Hp)
  | 0, _, _, _ => none
  | n + 1, v0, v4, h => f_mSeals_macText_b42 (f_mSeals_macText_b42_lp n) v0 v4 h
def f_mSeals_macText_b3 (k3 : Nat → Nat → Int → Int → Int → Hp → Option (Hp)) (v0 : Nat) (v1 : Nat) (v2 : Int) (v3 : Int) (v4 : Int) (h : Hp) : Option (Hp) :=
  if 64 ≤ v4 then (
    f_mSeals_macText_b42_lp FU v0 0 h
  ) else
  if v3 ≤ v4 then (
    f_mSeals_macText_b32 k3 v0 v1 v2 v3 v4 (hR h v0 9) v4 0 h
  ) else
  if v1 = 0 then none else
  if ix (w32 (v2 + v4)) (ln h v1) then
    f_mSeals_macText_b32 k3 v0 v1 v2 v3 v4 (hR h v0 9) v4 (hI h v1 ((w32 (v2 + v4)).toNat)) h
  else none
def f_mSeals_macText_b3_lp : Nat → Nat → Nat → Int → Int → Int → Hp → Option (Hp)
  | 0, _, _, _, _, _, _ => none
  | n + 1, v0, v1, v2, v3, v4, h => f_mSeals_macText_b3 (f_mSeals_macText_b3_lp n) v0 v1 v2 v3 v4 h
def f_mSeals_macText (v0 : Nat) (v1 : Nat) (v2 : Int) (v3 : Int) (h : Hp) : Option (Hp) :=
  f_mSeals_macText_b3_lp FU v0 v1 v2 v3 0 h
def f_mSeals_mac_b47 (k47 : Nat → Nat → Int → Hp → Option (Hp)) (v0 : Nat) (v7 : Nat) (v8 : Int) (h : Hp) : Option (Hp) :=
  if 32 ≤ v8 then (
    some h
  ) else
  if hR h v0 8 = 0 then none else
  if ix v8 (ln h (hR h v0 8)) then
    if v7 = 0 then none else
    if ix v8 (ln h v7) then
      lt1 (sI h v7 v8.toNat (hI h (hR h v0 8) v8.toNat)) fun h13 =>
      k47 v0 v7 (w32 (v8 + 1)) h13
    else none
  else none
def f_mSeals_mac_b47_lp : Nat → Nat → Nat → Int → Hp → Option (Hp)
  | 0, _, _, _, _ => none
  | n + 1, v0, v7, v8, h => f_mSeals_mac_b47 (f_mSeals_mac_b47_lp n) v0 v7 v8 h
def f_mSeals_mac_b3 (k3 : Nat → Nat → Int → Int → Nat → Int → Int → Nat → Int → Hp → Option (Hp)) (v0 : Nat) (v1 : Nat) (v2 : Int) (v3 : Int) (v4 : Nat) (v5 : Int) (v6 : Int) (v7 : Nat) (v8 : Int) (h : Hp) : Option (Hp) :=
  if v6 ≤ v8 then (
    lt1 (sI h v0 11 v6) fun h1 =>
    b1 (f_mSeals_macText v0 v1 v2 v3 h1) fun h2 =>
    f_mSeals_mac_b47_lp FU v0 v7 0 h2
  ) else
  if v4 = 0 then none else
  if ix (w32 (v5 + v8)) (ln h v4) then
    if hR h v0 10 = 0 then none else
    if ix v8 (ln h (hR h v0 10)) then
      lt1 (sI h (hR h v0 10) v8.toNat (hI h v4 ((w32 (v5 + v8)).toNat))) fun h8 =>
      k3 v0 v1 v2 v3 v4 v5 v6 v7 (w32 (v8 + 1)) h8
    else none
  else none
def f_mSeals_mac_b3_lp : Nat → Nat → Nat → Int → Int → Nat → Int → Int → Nat → Int → Hp → Option (Hp)
  | 0, _, _, _, _, _, _, _, _, _, _ => none
  | n + 1, v0, v1, v2, v3, v4, v5, v6, v7, v8, h => f_mSeals_mac_b3 (f_mSeals_mac_b3_lp n) v0 v1 v2 v3 v4 v5 v6 v7 v8 h
def f_mSeals_mac (v0 : Nat) (v1 : Nat) (v2 : Int) (v3 : Int) (v4 : Nat) (v5 : Int) (v6 : Int) (v7 : Nat) (h : Hp) : Option (Hp) :=
  f_mSeals_mac_b3_lp FU v0 v1 v2 v3 v4 v5 v6 v7 0 h
def f_mSeals_words (v0 : Int) (h : Hp) : Option (Int × Hp) :=
  if v0 = 0 then (
    some (7038329, h)
  ) else
  if v0 = 1 then (
    some (26998, h)
  ) else
  if v0 = 2 then (
    some (1751737445, h)
  ) else
  if v0 = 3 then (
    some (1953854062, h)
  ) else
  if v0 = 4 then (
    some (28826387908665441, h)
  ) else
  if v0 = 5 then (
    some (28826387908665442, h)
  ) else
  if v0 = 6 then (
    some (29117702420570209, h)
  ) else
  if v0 = 7 then (
    some (29117702420570210, h)
  ) else
  if v0 = 8 then (
    some (127961779609697, h)
  ) else
  if v0 = 9 then (
    some (127961779609698, h)
  ) else
  some (1685024357, h)
def f_mSeals_tell (v0 : Nat) (v1 : Int) (h : Hp) : Option (Hp) :=
  if hR h v0 12 = 0 then none else
  if ix (hI h v0 13) (ln h (hR h v0 12)) then
    lt1 (sI h (hR h v0 12) ((hI h v0 13).toNat) v1) fun h3 =>
    lt1 (sI h3 v0 13 (w32 ((hI h3 v0 13) + 1))) fun h4 =>
    some h4
  else none
def f_mSeals_label_b228 (k228 : Nat → Int → Nat → Int → Int → Hp → Option (Hp)) (v0 : Nat) (v6 : Int) (v7 : Nat) (v8 : Int) (v12 : Int) (h : Hp) : Option (Hp) :=
  if v6 ≤ v12 then (
    some h
  ) else
  if hR h v0 14 = 0 then none else
  if ix v12 (ln h (hR h v0 14)) then
    if v7 = 0 then none else
    if ix (w32 (v8 + v12)) (ln h v7) then
      lt1 (sI h v7 ((w32 (v8 + v12)).toNat) (hI h (hR h v0 14) v12.toNat)) fun h45 =>
      k228 v0 v6 v7 v8 (w32 (v12 + 1)) h45
    else none
  else none
def f_mSeals_label_b228_lp : Nat → Nat → Int → Nat → Int → Int → Hp → Option (Hp)
  | 0, _, _, _, _, _, _ => none
  | n + 1, v0, v6, v7, v8, v12, h => f_mSeals_label_b228 (f_mSeals_label_b228_lp n) v0 v6 v7 v8 v12 h
def f_mSeals_label_b198 (k198 : Nat → Int → Nat → Int → Int → Hp → Option (Hp)) (v0 : Nat) (v6 : Int) (v7 : Nat) (v8 : Int) (v12 : Int) (h : Hp) : Option (Hp) :=
  if v6 ≤ v12 then (
    f_mSeals_label_b228_lp FU v0 v6 v7 v8 0 h
  ) else
  if hR h v0 8 = 0 then none else
  if ix v12 (ln h (hR h v0 8)) then
    if hR h v0 14 = 0 then none else
    if ix v12 (ln h (hR h v0 14)) then
      lt1 (sI h (hR h v0 14) v12.toNat (hI h (hR h v0 8) v12.toNat)) fun h40 =>
      k198 v0 v6 v7 v8 (w32 (v12 + 1)) h40
    else none
  else none
def f_mSeals_label_b198_lp : Nat → Nat → Int → Nat → Int → Int → Hp → Option (Hp)
  | 0, _, _, _, _, _, _ => none
  | n + 1, v0, v6, v7, v8, v12, h => f_mSeals_label_b198 (f_mSeals_label_b198_lp n) v0 v6 v7 v8 v12 h
def f_mSeals_label_b150 (k150 : Nat → Nat → Int → Int → Nat → Int → Int → Hp → Option (Hp)) (v0 : Nat) (v1 : Nat) (v2 : Int) (v6 : Int) (v7 : Nat) (v8 : Int) (v12 : Int) (h : Hp) : Option (Hp) :=
  if (hI h v0 13) ≤ v12 then (
    lt1 (sI h v0 11 (hI h v0 13)) fun h28 =>
    b1 (f_mSeals_macText v0 v1 v2 32 h28) fun h29 =>
    f_mSeals_label_b198_lp FU v0 v6 v7 v8 0 h29
  ) else
  if hR h v0 12 = 0 then none else
  if ix v12 (ln h (hR h v0 12)) then
    if hR h v0 10 = 0 then none else
    if ix v12 (ln h (hR h v0 10)) then
      lt1 (sI h (hR h v0 10) v12.toNat (hI h (hR h v0 12) v12.toNat)) fun h35 =>
      k150 v0 v1 v2 v6 v7 v8 (w32 (v12 + 1)) h35
    else none
  else none
def f_mSeals_label_b150_lp : Nat → Nat → Nat → Int → Int → Nat → Int → Int → Hp → Option (Hp)
  | 0, _, _, _, _, _, _, _, _ => none
  | n + 1, v0, v1, v2, v6, v7, v8, v12, h => f_mSeals_label_b150 (f_mSeals_label_b150_lp n) v0 v1 v2 v6 v7 v8 v12 h
def f_mSeals_label_b120 (k120 : Nat → Nat → Int → Nat → Int → Int → Nat → Int → Int → Hp → Option (Hp)) (v0 : Nat) (v1 : Nat) (v2 : Int) (v4 : Nat) (v5 : Int) (v6 : Int) (v7 : Nat) (v8 : Int) (v12 : Int) (h : Hp) : Option (Hp) :=
  if v5 ≤ v12 then (
    b1 (f_mSeals_tell v0 1 h) fun h22 =>
    f_mSeals_label_b150_lp FU v0 v1 v2 v6 v7 v8 0 h22
  ) else
  if v4 = 0 then none else
  if ix v12 (ln h v4) then
    b1 (f_mSeals_tell v0 (hI h v4 v12.toNat) h) fun h26 =>
    k120 v0 v1 v2 v4 v5 v6 v7 v8 (w32 (v12 + 1)) h26
  else none
def f_mSeals_label_b120_lp : Nat → Nat → Nat → Int → Nat → Int → Int → Nat → Int → Int → Hp → Option (Hp)
  | 0, _, _, _, _, _, _, _, _, _, _ => none
  | n + 1, v0, v1, v2, v4, v5, v6, v7, v8, v12, h => f_mSeals_label_b120 (f_mSeals_label_b120_lp n) v0 v1 v2 v4 v5 v6 v7 v8 v12 h
def f_mSeals_label_b83 (k83 : Nat → Nat → Int → Nat → Int → Int → Nat → Int → Int → Int → Hp → Option (Hp)) (v0 : Nat) (v1 : Nat) (v2 : Int) (v4 : Nat) (v5 : Int) (v6 : Int) (v7 : Nat) (v8 : Int) (v9 : Int) (v12 : Int) (h : Hp) : Option (Hp) :=
  if v12 < 0 then (
    b1 (f_mSeals_tell v0 v5 h) fun h18 =>
    f_mSeals_label_b120_lp FU v0 v1 v2 v4 v5 v6 v7 v8 0 h18
  ) else
  b1 (f_mSeals_tell v0 (w32 (lAnd (lShr v9 (w32 (8 * v12))) 255)) h) fun h20 =>
  k83 v0 v1 v2 v4 v5 v6 v7 v8 v9 (w32 (v12 + (-1))) h20
def f_mSeals_label_b83_lp : Nat → Nat → Nat → Int → Nat → Int → Int → Nat → Int → Int → Int → Hp → Option (Hp)
  | 0, _, _, _, _, _, _, _, _, _, _, _ => none
  | n + 1, v0, v1, v2, v4, v5, v6, v7, v8, v9, v12, h => f_mSeals_label_b83 (f_mSeals_label_b83_lp n) v0 v1 v2 v4 v5 v6 v7 v8 v9 v12 h
def f_mSeals_label_b35 (v0 : Nat) (v1 : Nat) (v2 : Int) (v4 : Nat) (v5 : Int) (v6 : Int) (v7 : Nat) (v8 : Int) (v9 : Int) (v11 : Int) (h : Hp) : Option (Hp) :=
  lt1 (sI h v0 13 0) fun h4 =>
  b1 (f_mSeals_tell v0 0 h4) fun h5 =>
  b1 (f_mSeals_tell v0 v6 h5) fun h7 =>
  b1 (f_mSeals_tell v0 (w32 (v11 + 3)) h7) fun h9 =>
  b1 (f_mSeals_tell v0 118 h9) fun h11 =>
  b1 (f_mSeals_tell v0 49 h11) fun h13 =>
  b1 (f_mSeals_tell v0 32 h13) fun h15 =>
  lt1 (w32 (v11 - 1)) fun y17 =>
  f_mSeals_label_b83_lp FU v0 v1 v2 v4 v5 v6 v7 v8 v9 y17 h15
def f_mSeals_label_b9 (k9 : Nat → Nat → Int → Nat → Int → Int → Nat → Int → Int → Int → Hp → Option (Hp)) (v0 : Nat) (v1 : Nat) (v2 : Int) (v4 : Nat) (v5 : Int) (v6 : Int) (v7 : Nat) (v8 : Int) (v9 : Int) (v11 : Int) (h : Hp) : Option (Hp) :=
  if 8 ≤ v11 then (
    f_mSeals_label_b35 v0 v1 v2 v4 v5 v6 v7 v8 v9 v11 h
  ) else
  if (lShr v9 (w32 (8 * v11))) ≤ 0 then (
    f_mSeals_label_b35 v0 v1 v2 v4 v5 v6 v7 v8 v9 v11 h
  ) else
  k9 v0 v1 v2 v4 v5 v6 v7 v8 v9 (w32 (v11 + 1)) h
def f_mSeals_label_b9_lp : Nat → Nat → Nat → Int → Nat → Int → Int → Nat → Int → Int → Int → Hp → Option (Hp)
  | 0, _, _, _, _, _, _, _, _, _, _, _ => none
  | n + 1, v0, v1, v2, v4, v5, v6, v7, v8, v9, v11, h => f_mSeals_label_b9 (f_mSeals_label_b9_lp n) v0 v1 v2 v4 v5 v6 v7 v8 v9 v11 h
def f_mSeals_label (v0 : Nat) (v1 : Nat) (v2 : Int) (v3 : Int) (v4 : Nat) (v5 : Int) (v6 : Int) (v7 : Nat) (v8 : Int) (h : Hp) : Option (Hp) :=
  b2 (f_mSeals_words v3 h) fun r3 h1 =>
  f_mSeals_label_b9_lp FU v0 v1 v2 v4 v5 v6 v7 v8 r3 0 h1
def f_mGreet_firstSecrets_b51 (k51 : Nat → Nat → Int → Hp → Option (Hp)) (v0 : Nat) (v4 : Nat) (v5 : Int) (h : Hp) : Option (Hp) :=
  if 2 ≤ v5 then (
    some h
  ) else
  if hR h v0 1 = 0 then none else
  b1 (f_mSeals_label (hR h v0 1) (hR h v0 22) 0 (w32 (4 + v5)) 0 0 32 v4 (w32 (32 * v5)) h) fun h8 =>
  k51 v0 v4 (w32 (v5 + 1)) h8
def f_mGreet_firstSecrets_b51_lp : Nat → Nat → Nat → Int → Hp → Option (Hp)
  | 0, _, _, _, _ => none
  | n + 1, v0, v4, v5, h => f_mGreet_firstSecrets_b51 (f_mGreet_firstSecrets_b51_lp n) v0 v4 v5 h
def f_mGreet_firstSecrets_b3 (k3 : Nat → Nat → Int → Int → Nat → Int → Hp → Option (Hp)) (v0 : Nat) (v1 : Nat) (v2 : Int) (v3 : Int) (v4 : Nat) (v5 : Int) (h : Hp) : Option (Hp) :=
  if 20 ≤ v5 then (
    if hR h v0 1 = 0 then none else
    b1 (f_mSeals_mac (hR h v0 1) (hR h v0 21) 0 20 v1 v2 v3 (hR h v0 22) h) fun h2 =>
    f_mGreet_firstSecrets_b51_lp FU v0 v4 0 h2
  ) else
  if hR h v0 21 = 0 then none else
  if ix v5 (ln h (hR h v0 21)) then
    lt1 (sI h (hR h v0 21) v5.toNat (w32 (v5 + 1))) fun h6 =>
    k3 v0 v1 v2 v3 v4 (w32 (v5 + 1)) h6
  else none
def f_mGreet_firstSecrets_b3_lp : Nat → Nat → Nat → Int → Int → Nat → Int → Hp → Option (Hp)
  | 0, _, _, _, _, _, _, _ => none
  | n + 1, v0, v1, v2, v3, v4, v5, h => f_mGreet_firstSecrets_b3 (f_mGreet_firstSecrets_b3_lp n) v0 v1 v2 v3 v4 v5 h
def f_mGreet_firstSecrets (v0 : Nat) (v1 : Nat) (v2 : Int) (v3 : Int) (v4 : Nat) (h : Hp) : Option (Hp) :=
  f_mGreet_firstSecrets_b3_lp FU v0 v1 v2 v3 v4 0 h
def f_mSeals_arm (v0 : Nat) (v1 : Nat) (v2 : Int) (v3 : Nat) (v4 : Int) (h : Hp) : Option (Hp) :=
  b1 (f_mSeals_label v0 v1 v2 0 0 0 32 v3 v4 h) fun h1 =>
  b1 (f_mSeals_label v0 v1 v2 2 0 0 32 v3 (w32 (v4 + 32)) h1) fun h3 =>
  b1 (f_mSeals_label v0 v1 v2 1 0 0 12 v3 (w32 (v4 + 64)) h3) fun h5 =>
  some h5
def f_mSide_arm (v0 : Nat) (v1 : Int) (h : Hp) : Option (Hp) :=
  if hR h v0 3 = 0 then none else
  if hR h v0 1 = 0 then none else
  b1 (f_mSeals_arm (hR h v0 1) (hR h (hR h v0 3) 17) (w32 ((w32 (64 * v1)) + (w32 (32 * (hI h v0 0))))) (hR h v0 18) (w32 (192 * v1)) h) fun h3 =>
  if hR h3 v0 3 = 0 then none else
  if hR h3 v0 1 = 0 then none else
  b1 (f_mSeals_arm (hR h3 v0 1) (hR h3 (hR h3 v0 3) 17) (w32 ((w32 (64 * v1)) + (w32 (32 * (w32 (1 - (hI h3 v0 0))))))) (hR h3 v0 18) (w32 ((w32 (192 * v1)) + 96)) h3) fun h7 =>
  if hR h7 v0 19 = 0 then none else
  if ix v1 (ln h7 (hR h7 v0 19)) then
    lt1 (sI h7 (hR h7 v0 19) v1.toNat 1) fun h11 =>
    some h11
  else none
def f_mSide_putOwn (v0 : Nat) (v1 : Int) (h : Hp) : Option (Hp) :=
  if hR h v0 3 = 0 then none else
  if hR h (hR h v0 3) 4 = 0 then none else
  if ix (hI h (hR h v0 3) 5) (ln h (hR h (hR h v0 3) 4)) then
    lt1 (sI h (hR h (hR h v0 3) 4) ((hI h (hR h v0 3) 5).toNat) v1) fun h4 =>
    if hR h4 v0 3 = 0 then none else
    lt1 (sI h4 (hR h4 v0 3) 5 (w32 ((hI h4 (hR h4 v0 3) 5) + 1))) fun h6 =>
    some h6
  else none
def f_mSide_putName_b14 (k14 : Nat → Nat → Int → Int → Hp → Option (Hp)) (v0 : Nat) (v2 : Nat) (v3 : Int) (v4 : Int) (h : Hp) : Option (Hp) :=
  if 8 ≤ v4 then (
    some h
  ) else
  if v2 = 0 then none else
  if ix (w32 (v3 + v4)) (ln h v2) then
    b1 (f_mSide_putOwn v0 (hI h v2 ((w32 (v3 + v4)).toNat)) h) fun h7 =>
    k14 v0 v2 v3 (w32 (v4 + 1)) h7
  else none
def f_mSide_putName_b14_lp : Nat → Nat → Nat → Int → Int → Hp → Option (Hp)
  | 0, _, _, _, _, _ => none
  | n + 1, v0, v2, v3, v4, h => f_mSide_putName_b14 (f_mSide_putName_b14_lp n) v0 v2 v3 v4 h
def f_mSide_putName (v0 : Nat) (v1 : Int) (v2 : Nat) (v3 : Int) (h : Hp) : Option (Hp) :=
  b1 (f_mSide_putOwn v0 v1 h) fun h1 =>
  b1 (f_mSide_putOwn v0 8 h1) fun h3 =>
  f_mSide_putName_b14_lp FU v0 v2 v3 0 h3
def f_mWire_needs (v0 : Int) (h : Hp) : Option (Int × Hp) :=
  if 64 ≤ v0 then (
    if 16384 ≤ v0 then (
      if 1073741824 ≤ v0 then (
        some (8, h)
      ) else
      some (4, h)
    ) else
    some (2, h)
  ) else
  some (1, h)
def f_mSide_putNumber_b74 (k74 : Nat → Int → Int → Hp → Option (Hp)) (v0 : Nat) (v7 : Int) (v9 : Int) (h : Hp) : Option (Hp) :=
  if v9 < 0 then (
    some h
  ) else
  b1 (f_mSide_putOwn v0 (w32 (lAnd (lShr v7 (w32 (8 * v9))) 255)) h) fun h10 =>
  k74 v0 v7 (w32 (v9 + (-1))) h10
def f_mSide_putNumber_b74_lp : Nat → Nat → Int → Int → Hp → Option (Hp)
  | 0, _, _, _, _ => none
  | n + 1, v0, v7, v9, h => f_mSide_putNumber_b74 (f_mSide_putNumber_b74_lp n) v0 v7 v9 h
def f_mSide_putNumber_b52 (v0 : Nat) (v2 : Int) (v4 : Int) (s0 : Int) (h : Hp) : Option (Hp) :=
  lt1 (lOr v2 (lShl s0 (w32 ((w32 (8 * v4)) - 2)))) fun y8 =>
  lt1 (w32 (v4 - 1)) fun y9 =>
  f_mSide_putNumber_b74_lp FU v0 y8 y9 h
def f_mSide_putNumber (v0 : Nat) (v1 : Int) (v2 : Int) (h : Hp) : Option (Hp) :=
  b2 (f_mWire_needs v2 h) fun r3 h1 =>
  b1 (f_mSide_putOwn v0 v1 h1) fun h4 =>
  b1 (f_mSide_putOwn v0 r3 h4) fun h6 =>
  if r3 ≠ 1 then (
    if r3 ≠ 2 then (
      if r3 ≠ 4 then (
        f_mSide_putNumber_b52 v0 v2 r3 3 h6
      ) else
      f_mSide_putNumber_b52 v0 v2 r3 2 h6
    ) else
    f_mSide_putNumber_b52 v0 v2 r3 1 h6
  ) else
  f_mSide_putNumber_b52 v0 v2 r3 0 h6
def f_mSide_makeParameters_b113 (k28 : Nat → Int → Hp → Option (Hp)) (v0 : Nat) (v1 : Int) (h : Hp) : Option (Hp) :=
  k28 v0 (w32 (v1 + 1)) h
def f_mSide_makeParameters_b91 (k28 : Nat → Int → Hp → Option (Hp)) (v0 : Nat) (v1 : Int) (h : Hp) : Option (Hp) :=
  if hR h v0 5 = 0 then none else
  if ix v1 (ln h (hR h v0 5)) then
    if (hJ h (hR h v0 5) v1.toNat) ≤ 0 then (
      f_mSide_makeParameters_b113 k28 v0 v1 h
    ) else
    if ix v1 (ln h (hR h v0 5)) then
      b1 (f_mSide_putNumber v0 v1 (hJ h (hR h v0 5) v1.toNat) h) fun h17 =>
      f_mSide_makeParameters_b113 k28 v0 v1 h17
    else none
  else none
def f_mSide_makeParameters_b75 (k28 : Nat → Int → Hp → Option (Hp)) (v0 : Nat) (v1 : Int) (h : Hp) : Option (Hp) :=
  if v1 = 1 then (
    f_mSide_makeParameters_b91 k28 v0 v1 h
  ) else
  if v1 ≤ 3 then (
    f_mSide_makeParameters_b113 k28 v0 v1 h
  ) else
  if 10 ≤ v1 then (
    f_mSide_makeParameters_b113 k28 v0 v1 h
  ) else
  f_mSide_makeParameters_b91 k28 v0 v1 h
def f_mSide_makeParameters_b60 (k28 : Nat → Int → Hp → Option (Hp)) (v0 : Nat) (v1 : Int) (h : Hp) : Option (Hp) :=
  if v1 ≠ 14 then (
    f_mSide_makeParameters_b75 k28 v0 v1 h
  ) else
  b1 (f_mSide_putNumber v0 14 2 h) fun h12 =>
  f_mSide_makeParameters_b75 k28 v0 v1 h12
def f_mSide_makeParameters_b47 (k28 : Nat → Int → Hp → Option (Hp)) (v0 : Nat) (v1 : Int) (h : Hp) : Option (Hp) :=
  if v1 ≠ 10 then (
    f_mSide_makeParameters_b60 k28 v0 v1 h
  ) else
  b1 (f_mSide_putNumber v0 10 0 h) fun h10 =>
  f_mSide_makeParameters_b60 k28 v0 v1 h10
def f_mSide_makeParameters_b28 (k28 : Nat → Int → Hp → Option (Hp)) (v0 : Nat) (v1 : Int) (h : Hp) : Option (Hp) :=
  if 15 ≤ v1 then (
    if hR h v0 3 = 0 then none else
    b1 (f_mSide_putName v0 15 (hR h (hR h v0 3) 3) 0 h) fun h6 =>
    some h6
  ) else
  if v1 ≠ 3 then (
    f_mSide_makeParameters_b47 k28 v0 v1 h
  ) else
  b1 (f_mSide_putNumber v0 3 1200 h) fun h8 =>
  f_mSide_makeParameters_b47 k28 v0 v1 h8
def f_mSide_makeParameters_b28_lp : Nat → Nat → Int → Hp → Option (Hp)
  | 0, _, _, _ => none
  | n + 1, v0, v1, h => f_mSide_makeParameters_b28 (f_mSide_makeParameters_b28_lp n) v0 v1 h
def f_mSide_makeParameters_b26 (v0 : Nat) (h : Hp) : Option (Hp) :=
  f_mSide_makeParameters_b28_lp FU v0 1 h
def f_mSide_makeParameters (v0 : Nat) (h : Hp) : Option (Hp) :=
  if hR h v0 3 = 0 then none else
  lt1 (sI h (hR h v0 3) 5 0) fun h2 =>
  if (hI h2 v0 0) ≠ 1 then (
    f_mSide_makeParameters_b26 v0 h2
  ) else
  b1 (f_mSide_putName v0 0 (hR h2 v0 16) 0 h2) fun h3 =>
  f_mSide_makeParameters_b26 v0 h3
def f_mGreet_send (v0 : Nat) (v1 : Int) (v2 : Int) (h : Hp) : Option (Hp) :=
  if hR h v0 10 = 0 then none else
  if ix v1 (ln h (hR h v0 10)) then
    if hR h v0 9 = 0 then none else
    if ix (w32 ((w32 (1024 * v1)) + (hI h (hR h v0 10) v1.toNat))) (ln h (hR h v0 9)) then
      lt1 (sI h (hR h v0 9) ((w32 ((w32 (1024 * v1)) + (hI h (hR h v0 10) v1.toNat))).toNat) v2) fun h5 =>
      if hR h5 v0 10 = 0 then none else
      if ix v1 (ln h5 (hR h5 v0 10)) then
        if ix v1 (ln h5 (hR h5 v0 10)) then
          lt1 (sI h5 (hR h5 v0 10) v1.toNat (w32 ((hI h5 (hR h5 v0 10) v1.toNat) + 1))) fun h9 =>
          some h9
        else none
      else none
    else none
  else none
def f_mGreet_note (v0 : Nat) (v1 : Int) (h : Hp) : Option (Hp) :=
  if hR h v0 15 = 0 then none else
  if ix (hI h v0 16) (ln h (hR h v0 15)) then
    lt1 (sI h (hR h v0 15) ((hI h v0 16).toNat) v1) fun h3 =>
    lt1 (sI h3 v0 16 (w32 ((hI h3 v0 16) + 1))) fun h4 =>
    some h4
  else none
def f_mGreet_says_b142 (k122 : Nat → Int → Int → Int → Int → Int → Hp → Option (Hp)) (v0 : Nat) (v1 : Int) (v2 : Int) (v3 : Int) (v4 : Int) (v6 : Int) (h : Hp) : Option (Hp) :=
  if hR h v0 4 = 0 then none else
  if ix v6 (ln h (hR h v0 4)) then
    b1 (f_mGreet_send v0 v3 (hI h (hR h v0 4) v6.toNat) h) fun h28 =>
    k122 v0 v1 v2 v3 v4 (w32 (v6 + 1)) h28
  else none
def f_mGreet_says_b198 (k198 : Nat → Int → Int → Int → Hp → Option (Hp)) (v0 : Nat) (v2 : Int) (v3 : Int) (v6 : Int) (h : Hp) : Option (Hp) :=
  if hR h v0 10 = 0 then none else
  if ix v3 (ln h (hR h v0 10)) then
    if (hI h (hR h v0 10) v3.toNat) ≤ v6 then (
      some h
    ) else
    if v2 = 0 then (
      some h
    ) else
    if hR h v0 9 = 0 then none else
    if ix (w32 ((w32 (1024 * v3)) + v6)) (ln h (hR h v0 9)) then
      b1 (f_mGreet_note v0 (hI h (hR h v0 9) ((w32 ((w32 (1024 * v3)) + v6)).toNat)) h) fun h24 =>
      k198 v0 v2 v3 (w32 (v6 + 1)) h24
    else none
  else none
def f_mGreet_says_b198_lp : Nat → Nat → Int → Int → Int → Hp → Option (Hp)
  | 0, _, _, _, _, _ => none
  | n + 1, v0, v2, v3, v6, h => f_mGreet_says_b198 (f_mGreet_says_b198_lp n) v0 v2 v3 v6 h
def f_mGreet_says_b194 (v0 : Nat) (v2 : Int) (v3 : Int) (v4 : Int) (h : Hp) : Option (Hp) :=
  f_mGreet_says_b198_lp FU v0 v2 v3 v4 h
def f_mGreet_says_b163 (k163 : Nat → Int → Int → Int → Int → Int → Hp → Option (Hp)) (v0 : Nat) (v1 : Int) (v2 : Int) (v3 : Int) (v4 : Int) (v6 : Int) (h : Hp) : Option (Hp) :=
  if 32 ≤ v6 then (
    f_mGreet_says_b194 v0 v2 v3 v4 h
  ) else
  if v1 ≠ 20 then (
    f_mGreet_says_b194 v0 v2 v3 v4 h
  ) else
  if hR h v0 21 = 0 then none else
  if ix v6 (ln h (hR h v0 21)) then
    b1 (f_mGreet_send v0 v3 (hI h (hR h v0 21) v6.toNat) h) fun h18 =>
    k163 v0 v1 v2 v3 v4 (w32 (v6 + 1)) h18
  else none
def f_mGreet_says_b163_lp : Nat → Nat → Int → Int → Int → Int → Int → Hp → Option (Hp)
  | 0, _, _, _, _, _, _, _ => none
  | n + 1, v0, v1, v2, v3, v4, v6, h => f_mGreet_says_b163 (f_mGreet_says_b163_lp n) v0 v1 v2 v3 v4 v6 h
def f_mGreet_says_b160 (v0 : Nat) (v1 : Int) (v2 : Int) (v3 : Int) (v4 : Int) (h : Hp) : Option (Hp) :=
  f_mGreet_says_b163_lp FU v0 v1 v2 v3 v4 0 h
def f_mGreet_says_b122 (k122 : Nat → Int → Int → Int → Int → Int → Hp → Option (Hp)) (v0 : Nat) (v1 : Int) (v2 : Int) (v3 : Int) (v4 : Int) (v6 : Int) (h : Hp) : Option (Hp) :=
  if (hI h v0 5) ≤ v6 then (
    f_mGreet_says_b160 v0 v1 v2 v3 v4 h
  ) else
  if v1 = 1 then (
    f_mGreet_says_b142 k122 v0 v1 v2 v3 v4 v6 h
  ) else
  if v1 ≠ 8 then (
    f_mGreet_says_b160 v0 v1 v2 v3 v4 h
  ) else
  f_mGreet_says_b142 k122 v0 v1 v2 v3 v4 v6 h
def f_mGreet_says_b122_lp : Nat → Nat → Int → Int → Int → Int → Int → Hp → Option (Hp)
  | 0, _, _, _, _, _, _, _ => none
  | n + 1, v0, v1, v2, v3, v4, v6, h => f_mGreet_says_b122 (f_mGreet_says_b122_lp n) v0 v1 v2 v3 v4 v6 h
def f_mGreet_says_b119 (v0 : Nat) (v1 : Int) (v2 : Int) (v3 : Int) (v4 : Int) (h : Hp) : Option (Hp) :=
  f_mGreet_says_b122_lp FU v0 v1 v2 v3 v4 0 h
def f_mGreet_says_b88 (k88 : Nat → Int → Int → Int → Int → Int → Hp → Option (Hp)) (v0 : Nat) (v1 : Int) (v2 : Int) (v3 : Int) (v4 : Int) (v6 : Int) (h : Hp) : Option (Hp) :=
  if 32 ≤ v6 then (
    f_mGreet_says_b119 v0 v1 v2 v3 v4 h
  ) else
  if 8 ≤ v1 then (
    f_mGreet_says_b119 v0 v1 v2 v3 v4 h
  ) else
  if hR h v0 3 = 0 then none else
  if ix v6 (ln h (hR h v0 3)) then
    b1 (f_mGreet_send v0 v3 (hI h (hR h v0 3) v6.toNat) h) fun h14 =>
    k88 v0 v1 v2 v3 v4 (w32 (v6 + 1)) h14
  else none
def f_mGreet_says_b88_lp : Nat → Nat → Int → Int → Int → Int → Int → Hp → Option (Hp)
  | 0, _, _, _, _, _, _, _ => none
  | n + 1, v0, v1, v2, v3, v4, v6, h => f_mGreet_says_b88 (f_mGreet_says_b88_lp n) v0 v1 v2 v3 v4 v6 h
def f_mGreet_says_b50 (v0 : Nat) (v1 : Int) (v2 : Int) (v3 : Int) (v4 : Int) (s0 : Int) (h : Hp) : Option (Hp) :=
  b1 (f_mGreet_send v0 v3 v1 h) fun h4 =>
  b1 (f_mGreet_send v0 v3 0 h4) fun h6 =>
  b1 (f_mGreet_send v0 v3 (iShr s0 8) h6) fun h8 =>
  b1 (f_mGreet_send v0 v3 (iAnd s0 255) h8) fun h10 =>
  f_mGreet_says_b88_lp FU v0 v1 v2 v3 v4 0 h10
def f_mGreet_says_b11 (v0 : Nat) (v1 : Int) (v2 : Int) (s0 : Int) (h : Hp) : Option (Hp) :=
  if hR h v0 10 = 0 then none else
  if ix s0 (ln h (hR h v0 10)) then
    lt1 (hI h (hR h v0 10) s0.toNat) fun y3 =>
    if v1 ≠ 1 then (
      if v1 ≠ 8 then (
        f_mGreet_says_b50 v0 v1 v2 s0 y3 32 h
      ) else
      f_mGreet_says_b50 v0 v1 v2 s0 y3 (hI h v0 5) h
    ) else
    f_mGreet_says_b50 v0 v1 v2 s0 y3 (w32 (32 + (hI h v0 5))) h
  else none
def f_mGreet_says (v0 : Nat) (v1 : Int) (v2 : Int) (h : Hp) : Option (Hp) :=
  if 8 ≤ v1 then (
    f_mGreet_says_b11 v0 v1 v2 1 h
  ) else
  f_mGreet_says_b11 v0 v1 v2 0 h
def f_mGreet_begin_b13 (v0 : Nat) (s0 : Nat) (s1 : Int) (h : Hp) : Option (Hp) :=
  if s0 = 0 then none else
  lt1 (sI h s0 6 s1) fun h2 =>
  if (hI h2 v0 0) ≠ 0 then (
    some h2
  ) else
  b1 (f_mGreet_says v0 1 1 h2) fun h3 =>
  some h3
def f_mGreet_begin (v0 : Nat) (h : Hp) : Option (Hp) :=
  if (hI h v0 0) ≠ 0 then (
    f_mGreet_begin_b13 v0 v0 1 h
  ) else
  f_mGreet_begin_b13 v0 v0 2 h
def f_mSide_begin_b157 (k157 : Nat → Int → Hp → Option (Hp)) (v0 : Nat) (v3 : Int) (h : Hp) : Option (Hp) :=
  if 8 ≤ v3 then (
    some h
  ) else
  if hR h v0 16 = 0 then none else
  if ix v3 (ln h (hR h v0 16)) then
    if hR h v0 13 = 0 then none else
    if ix v3 (ln h (hR h v0 13)) then
      lt1 (sI h (hR h v0 13) v3.toNat (hI h (hR h v0 16) v3.toNat)) fun h36 =>
      k157 v0 (w32 (v3 + 1)) h36
    else none
  else none
def f_mSide_begin_b157_lp : Nat → Nat → Int → Hp → Option (Hp)
  | 0, _, _, _ => none
  | n + 1, v0, v3, h => f_mSide_begin_b157 (f_mSide_begin_b157_lp n) v0 v3 h
def f_mSide_begin_b95 (v0 : Nat) (h : Hp) : Option (Hp) :=
  b1 (f_mSide_arm v0 0 h) fun h18 =>
  b1 (f_mSide_makeParameters v0 h18) fun h20 =>
  if hR h20 v0 3 = 0 then none else
  b1 (f_mGreet_begin (hR h20 v0 3) h20) fun h23 =>
  lt1 (sI h23 v0 8 1) fun h25 =>
  if hR h25 v0 4 = 0 then none else
  lt1 (sI h25 v0 40 (hI h25 (hR h25 v0 4) 0)) fun h27 =>
  lt1 (sI h27 v0 41 0) fun h28 =>
  if (hI h28 v0 0) ≠ 1 then (
    if hR h28 v0 4 = 0 then none else
    lt1 (sI h28 (hR h28 v0 4) 2 1) fun h30 =>
    lt1 (sI h30 v0 14 8) fun h31 =>
    f_mSide_begin_b157_lp FU v0 0 h31
  ) else
  some h28
def f_mSide_begin_b50 (k50 : Nat → Int → Hp → Option (Hp)) (v0 : Nat) (v3 : Int) (h : Hp) : Option (Hp) :=
  if 64 ≤ v3 then (
    if hR h v0 3 = 0 then none else
    if 0 ≤ (hI h (hR h v0 3) 18) then (
      f_mSide_begin_b95 v0 h
    ) else
    lt1 (sI h (hR h v0 3) 18 0) fun h11 =>
    f_mSide_begin_b95 v0 h11
  ) else
  if hR h v0 3 = 0 then none else
  if hR h v0 20 = 0 then none else
  if ix v3 (ln h (hR h v0 20)) then
    if hR h (hR h v0 3) 17 = 0 then none else
    if ix v3 (ln h (hR h (hR h v0 3) 17)) then
      lt1 (sI h (hR h (hR h v0 3) 17) v3.toNat (hI h (hR h v0 20) v3.toNat)) fun h17 =>
      k50 v0 (w32 (v3 + 1)) h17
    else none
  else none
def f_mSide_begin_b50_lp : Nat → Nat → Int → Hp → Option (Hp)
  | 0, _, _, _ => none
  | n + 1, v0, v3, h => f_mSide_begin_b50 (f_mSide_begin_b50_lp n) v0 v3 h
def f_mSide_begin_b2 (k2 : Nat → Nat → Int → Int → Hp → Option (Hp)) (v0 : Nat) (v1 : Nat) (v2 : Int) (v3 : Int) (h : Hp) : Option (Hp) :=
  if 8 ≤ v3 then (
    lt1 (sI h v0 17 1) fun h1 =>
    if hR h1 v0 3 = 0 then none else
    b1 (f_mGreet_firstSecrets (hR h1 v0 3) (hR h1 v0 16) 0 8 (hR h1 v0 20) h1) fun h3 =>
    f_mSide_begin_b50_lp FU v0 0 h3
  ) else
  if v1 = 0 then none else
  if ix (w32 (v2 + v3)) (ln h v1) then
    if hR h v0 16 = 0 then none else
    if ix v3 (ln h (hR h v0 16)) then
      lt1 (sI h (hR h v0 16) v3.toNat (hI h v1 ((w32 (v2 + v3)).toNat))) fun h9 =>
      k2 v0 v1 v2 (w32 (v3 + 1)) h9
    else none
  else none
def f_mSide_begin_b2_lp : Nat → Nat → Nat → Int → Int → Hp → Option (Hp)
  | 0, _, _, _, _, _ => none
  | n + 1, v0, v1, v2, v3, h => f_mSide_begin_b2 (f_mSide_begin_b2_lp n) v0 v1 v2 v3 h
def f_mSide_begin (v0 : Nat) (v1 : Nat) (v2 : Int) (h : Hp) : Option (Hp) :=
  f_mSide_begin_b2_lp FU v0 v1 v2 0 h
def f_mP_begin_b58 (k20 : Nat → Int → Int → Hp → Option (Hp)) (v0 : Nat) (v2 : Int) (s0 : Int) (h : Hp) : Option (Hp) :=
  k20 v0 s0 (w32 (v2 + 1)) h
def f_mP_begin_b75 (v0 : Nat) (s0 : Nat) (s1 : Int) (h : Hp) : Option (Hp) :=
  if s0 = 0 then none else
  b2 (f_mP_fails s0 s1 1 h) fun r11 h9 =>
  if r11 = 0 then (
    if hR h9 v0 7 = 0 then none else
    if ix 0 (ln h9 (hR h9 v0 7)) then
      if ix 0 (ln h9 (hR h9 v0 7)) then
        if hR h9 (hR h9 v0 7) (Int.toNat 0) = 0 then none else
        if hR h9 (hR h9 (hR h9 v0 7) (Int.toNat 0)) 3 = 0 then none else
        b1 (f_mSide_begin (hR h9 (hR h9 v0 7) (Int.toNat 0)) (hR h9 (hR h9 (hR h9 (hR h9 v0 7) (Int.toNat 0)) 3) 3) 8 h9) fun h17 =>
        some h17
      else none
    else none
  ) else
  some h9
def f_mP_begin_b57 (k20 : Nat → Int → Int → Hp → Option (Hp)) (v0 : Nat) (v2 : Int) (h : Hp) : Option (Hp) :=
  f_mP_begin_b58 k20 v0 v2 0 h
def f_mP_begin_b20 (k20 : Nat → Int → Int → Hp → Option (Hp)) (v0 : Nat) (v1 : Int) (v2 : Int) (h : Hp) : Option (Hp) :=
  if 2 ≤ v2 then (
    if v1 ≠ 0 then (
      f_mP_begin_b75 v0 v0 0 h
    ) else
    f_mP_begin_b75 v0 v0 1 h
  ) else
  if v1 = 0 then (
    f_mP_begin_b57 k20 v0 v2 h
  ) else
  if hR h v0 7 = 0 then none else
  if ix v2 (ln h (hR h v0 7)) then
    if hR h (hR h v0 7) v2.toNat = 0 then none else
    if (hI h (hR h (hR h v0 7) v2.toNat) 6) = 0 then (
      f_mP_begin_b57 k20 v0 v2 h
    ) else
    if ix v2 (ln h (hR h v0 7)) then
      if (hI h (hR h (hR h v0 7) v2.toNat) 7) = 0 then (
        f_mP_begin_b57 k20 v0 v2 h
      ) else
      f_mP_begin_b58 k20 v0 v2 1 h
    else none
  else none
def f_mP_begin_b20_lp : Nat → Nat → Int → Int → Hp → Option (Hp)
  | 0, _, _, _, _ => none
  | n + 1, v0, v1, v2, h => f_mP_begin_b20 (f_mP_begin_b20_lp n) v0 v1 v2 h
def f_mP_begin_b17 (v0 : Nat) (s0 : Int) (h : Hp) : Option (Hp) :=
  f_mP_begin_b20_lp FU v0 s0 0 h
def f_mP_begin (v0 : Nat) (h : Hp) : Option (Hp) :=
  if hR h v0 7 = 0 then none else
  if ix 0 (ln h (hR h v0 7)) then
    if hR h (hR h v0 7) (Int.toNat 0) = 0 then none else
    if (hI h (hR h (hR h v0 7) (Int.toNat 0)) 8) ≠ 0 then (
      f_mP_begin_b17 v0 0 h
    ) else
    f_mP_begin_b17 v0 1 h
  else none
def f_mStreams_at (v0 : Int) (v1 : Int) (h : Hp) : Option (Int × Hp) :=
  some (w32 ((w32 (256 * v0)) + v1), h)
def f_mStreams_wayOf (v0 : Int) (h : Hp) : Option (Int × Hp) :=
  some (w32 (lAnd (lShr v0 1) 1), h)
def f_mStreams_opens (v0 : Int) (v1 : Int) (h : Hp) : Option (Int × Hp) :=
  if (lAnd v1 1) ≠ v0 then (
    some (0, h)
  ) else
  some (1, h)
def f_mStreams_grantOf_b37 (v0 : Nat) (s0 : Nat) (s1 : Int) (s2 : Int) (h : Hp) : Option (Int × Hp) :=
  if s0 = 0 then none else
  if ix (w32 (s1 + s2)) (ln h s0) then
    some (hJ h s0 ((w32 (s1 + s2)).toNat), h)
  else none
def f_mStreams_grantOf (v0 : Nat) (v1 : Int) (v2 : Int) (h : Hp) : Option (Int × Hp) :=
  b2 (f_mStreams_wayOf v2 h) fun r3 h1 =>
  if r3 ≠ 1 then (
    b2 (f_mStreams_opens v1 v2 h1) fun r6 h4 =>
    if r6 = 0 then (
      f_mStreams_grantOf_b37 v0 (hR h v0 0) (w32 (16 * v1)) 6 h4
    ) else
    f_mStreams_grantOf_b37 v0 (hR h v0 0) (w32 (16 * v1)) 5 h4
  ) else
  f_mStreams_grantOf_b37 v0 (hR h v0 0) (w32 (16 * v1)) 7 h1
def f_mStreams_begin_b67 (v0 : Nat) (s0 : Nat) (s1 : Int) (s2 : Nat) (s3 : Int) (s4 : Int) (h : Hp) : Option (Hp) :=
  if s2 = 0 then none else
  if ix (w32 (s3 + s4)) (ln h s2) then
    if s0 = 0 then none else
    if ix s1 (ln h s0) then
      lt1 (sJ h s0 s1.toNat (hJ h s2 ((w32 (s3 + s4)).toNat))) fun h23 =>
      some h23
    else none
  else none
def f_mStreams_begin (v0 : Nat) (v1 : Int) (v2 : Int) (h : Hp) : Option (Hp) :=
  b2 (f_mStreams_at v1 v2 h) fun r3 h1 =>
  if hR h1 v0 12 = 0 then none else
  if ix r3 (ln h1 (hR h1 v0 12)) then
    lt1 (sI h1 (hR h1 v0 12) r3.toNat 1) fun h6 =>
    b2 (f_mStreams_grantOf v0 v1 v2 h6) fun r9 h7 =>
    if hR h6 v0 33 = 0 then none else
    if ix r3 (ln h7 (hR h6 v0 33)) then
      lt1 (sJ h7 (hR h6 v0 33) r3.toNat r9) fun h12 =>
      b2 (f_mStreams_wayOf v2 h12) fun r15 h13 =>
      if r15 ≠ 1 then (
        b2 (f_mStreams_opens v1 v2 h13) fun r18 h16 =>
        if r18 = 0 then (
          f_mStreams_begin_b67 v0 (hR h12 v0 13) r3 (hR h12 v0 1) (w32 (16 * v1)) 5 h16
        ) else
        f_mStreams_begin_b67 v0 (hR h12 v0 13) r3 (hR h12 v0 1) (w32 (16 * v1)) 6 h16
      ) else
      f_mStreams_begin_b67 v0 (hR h12 v0 13) r3 (hR h12 v0 1) (w32 (16 * v1)) 7 h13
    else none
  else none
def f_mStreams_open_b53 (v0 : Nat) (v4 : Int) (h : Hp) : Option (Int × Hp) :=
  if hR h v0 8 = 0 then none else
  if ix v4 (ln h (hR h v0 8)) then
    lt1 (sI h (hR h v0 8) v4.toNat 1) fun h20 =>
    some ((-1), h20)
  else none
def f_mStreams_open_b9 (v0 : Nat) (v1 : Int) (s0 : Int) (h : Hp) : Option (Int × Hp) :=
  lt1 (w32 ((w32 (2 * v1)) + s0)) fun y1 =>
  if hR h v0 4 = 0 then none else
  if ix y1 (ln h (hR h v0 4)) then
    if hR h v0 2 = 0 then none else
    if ix (w32 ((w32 ((w32 (3 * v1)) + 1)) + s0)) (ln h (hR h v0 2)) then
      if (hJ h (hR h v0 2) ((w32 ((w32 ((w32 (3 * v1)) + 1)) + s0)).toNat)) ≤ (hI h (hR h v0 4) y1.toNat) then (
        f_mStreams_open_b53 v0 y1 h
      ) else
      if ix y1 (ln h (hR h v0 4)) then
        if (hI h (hR h v0 4) y1.toNat) ≠ 64 then (
          if hR h v0 8 = 0 then none else
          if ix y1 (ln h (hR h v0 8)) then
            lt1 (sI h (hR h v0 8) y1.toNat 0) fun h9 =>
            if hR h9 v0 4 = 0 then none else
            if ix y1 (ln h9 (hR h9 v0 4)) then
              lt1 (w32 ((w32 ((w32 (4 * (hI h9 (hR h9 v0 4) y1.toNat))) + (w32 (2 * s0)))) + v1)) fun y12 =>
              if ix y1 (ln h9 (hR h9 v0 4)) then
                if ix y1 (ln h9 (hR h9 v0 4)) then
                  lt1 (sI h9 (hR h9 v0 4) y1.toNat (w32 ((hI h9 (hR h9 v0 4) y1.toNat) + 1))) fun h15 =>
                  b1 (f_mStreams_begin v0 v1 y12 h15) fun h16 =>
                  some (y12, h16)
                else none
              else none
            else none
          else none
        ) else
        f_mStreams_open_b53 v0 y1 h
      else none
    else none
  else none
def f_mStreams_open (v0 : Nat) (v1 : Int) (v2 : Int) (h : Hp) : Option (Int × Hp) :=
  if v2 = 0 then (
    f_mStreams_open_b9 v0 v1 1 h
  ) else
  f_mStreams_open_b9 v0 v1 0 h
def f_mP_open (v0 : Nat) (v1 : Int) (v2 : Int) (h : Hp) : Option (Int × Hp) :=
  b2 (f_mP_no v1 h) fun r3 h1 =>
  b2 (f_mP_fails v0 r3 1 h1) fun r6 h4 =>
  if r6 = 0 then (
    if hR h4 v0 6 = 0 then none else
    b2 (f_mStreams_open (hR h4 v0 6) v1 v2 h4) fun r10 h8 =>
    some (r10, h8)
  ) else
  some (0, h4)
def f_mStreams_isThere (v0 : Nat) (v1 : Int) (v2 : Int) (h : Hp) : Option (Int × Hp) :=
  if v2 < 0 then (
    some (0, h)
  ) else
  if 256 ≤ v2 then (
    some (0, h)
  ) else
  b2 (f_mStreams_at v1 v2 h) fun r3 h1 =>
  if hR h v0 12 = 0 then none else
  if ix r3 (ln h1 (hR h v0 12)) then
    if (hI h1 (hR h v0 12) r3.toNat) = 0 then (
      some (0, h1)
    ) else
    some (1, h1)
  else none
def f_mStreams_sends_b15 (h : Hp) : Option (Int × Hp) :=
  some (1, h)
def f_mStreams_sends (v0 : Int) (v1 : Int) (h : Hp) : Option (Int × Hp) :=
  b2 (f_mStreams_wayOf v1 h) fun r3 h1 =>
  if r3 = 0 then (
    f_mStreams_sends_b15  h1
  ) else
  b2 (f_mStreams_opens v0 v1 h1) fun r6 h4 =>
  if r6 = 0 then (
    some (0, h4)
  ) else
  f_mStreams_sends_b15  h4
def f_mStreams_hasSending (v0 : Nat) (v1 : Int) (v2 : Int) (h : Hp) : Option (Int × Hp) :=
  b2 (f_mStreams_isThere v0 v1 v2 h) fun r3 h1 =>
  if r3 = 0 then (
    some (0, h1)
  ) else
  b2 (f_mStreams_sends v1 v2 h1) fun r6 h4 =>
  if r6 = 0 then (
    some (0, h4)
  ) else
  some (1, h4)
def f_mStreams_sending (v0 : Nat) (v1 : Int) (h : Hp) : Option (Int × Hp) :=
  if hR h v0 16 = 0 then none else
  if ix v1 (ln h (hR h v0 16)) then
    if (hI h (hR h v0 16) v1.toNat) ≤ 0 then (
      if hR h v0 14 = 0 then none else
      if ix v1 (ln h (hR h v0 14)) then
        if (hI h (hR h v0 14) v1.toNat) ≠ 0 then (
          if hR h v0 15 = 0 then none else
          if ix v1 (ln h (hR h v0 15)) then
            if (hI h (hR h v0 15) v1.toNat) ≠ 3 then (
              some (1, h)
            ) else
            if hR h v0 25 = 0 then none else
            if ix v1 (ln h (hR h v0 25)) then
              if hR h v0 23 = 0 then none else
              if ix v1 (ln h (hR h v0 23)) then
                if (hI h (hR h v0 25) v1.toNat) ≠ (hI h (hR h v0 23) v1.toNat) then (
                  some (1, h)
                ) else
                some (2, h)
              else none
            else none
          else none
        ) else
        some (0, h)
      else none
    ) else
    if ix v1 (ln h (hR h v0 16)) then
      some (w32 (2 + (hI h (hR h v0 16) v1.toNat)), h)
    else none
  else none
def f_mStreams_write_b157 (k33 : Nat → Int → Nat → Int → Int → Int → Hp → Option (Int × Hp)) (v0 : Nat) (v1 : Int) (v3 : Nat) (v4 : Int) (v5 : Int) (v6 : Int) (h : Hp) : Option (Int × Hp) :=
  if hR h v0 40 = 0 then none else
  if ix v1 (ln h (hR h v0 40)) then
    if ix v1 (ln h (hR h v0 40)) then
      lt1 (sI h (hR h v0 40) v1.toNat (w32 ((hI h (hR h v0 40) v1.toNat) + 1))) fun h47 =>
      if hR h47 v0 23 = 0 then none else
      if ix v5 (ln h47 (hR h47 v0 23)) then
        if ix v5 (ln h47 (hR h47 v0 23)) then
          lt1 (sI h47 (hR h47 v0 23) v5.toNat (w32 ((hI h47 (hR h47 v0 23) v5.toNat) + 1))) fun h51 =>
          k33 v0 v1 v3 v4 v5 (w32 (v6 + 1)) h51
        else none
      else none
    else none
  else none
def f_mStreams_write_b128 (k33 : Nat → Int → Nat → Int → Int → Int → Hp → Option (Int × Hp)) (v0 : Nat) (v1 : Int) (v3 : Nat) (v4 : Int) (v5 : Int) (v6 : Int) (v7 : Int) (h : Hp) : Option (Int × Hp) :=
  if hR h v0 21 = 0 then none else
  if ix v5 (ln h (hR h v0 21)) then
    lt1 (sI h (hR h v0 21) v5.toNat v7) fun h39 =>
    if hR h39 v0 22 = 0 then none else
    if ix v5 (ln h39 (hR h39 v0 22)) then
      if (hI h39 (hR h39 v0 22) v5.toNat) ≠ (-1) then (
        f_mStreams_write_b157 k33 v0 v1 v3 v4 v5 v6 h39
      ) else
      if ix v5 (ln h39 (hR h39 v0 22)) then
        lt1 (sI h39 (hR h39 v0 22) v5.toNat v7) fun h43 =>
        f_mStreams_write_b157 k33 v0 v1 v3 v4 v5 v6 h43
      else none
    else none
  else none
def f_mStreams_write_b33 (k33 : Nat → Int → Nat → Int → Int → Int → Hp → Option (Int × Hp)) (v0 : Nat) (v1 : Int) (v3 : Nat) (v4 : Int) (v5 : Int) (v6 : Int) (h : Hp) : Option (Int × Hp) :=
  if v4 ≤ v6 then (
    some (v6, h)
  ) else
  if hR h v0 40 = 0 then none else
  if ix v1 (ln h (hR h v0 40)) then
    if 65536 ≤ (hI h (hR h v0 40) v1.toNat) then (
      some (v6, h)
    ) else
    if ix v1 (ln h (hR h v0 40)) then
      lt1 (w32 ((w32 (65536 * v1)) + (hI h (hR h v0 40) v1.toNat))) fun y16 =>
      if v3 = 0 then none else
      if ix v6 (ln h v3) then
        if hR h v0 41 = 0 then none else
        if ix y16 (ln h (hR h v0 41)) then
          lt1 (sI h (hR h v0 41) y16.toNat (i8 (hI h v3 v6.toNat))) fun h21 =>
          if hR h21 v0 42 = 0 then none else
          if ix y16 (ln h21 (hR h21 v0 42)) then
            lt1 (sI h21 (hR h21 v0 42) y16.toNat (i8 0)) fun h24 =>
            if hR h24 v0 43 = 0 then none else
            if ix y16 (ln h24 (hR h24 v0 43)) then
              lt1 (sI h24 (hR h24 v0 43) y16.toNat (-1)) fun h27 =>
              if hR h27 v0 21 = 0 then none else
              if ix v5 (ln h27 (hR h27 v0 21)) then
                if (hI h27 (hR h27 v0 21) v5.toNat) ≠ (-1) then (
                  if ix v5 (ln h27 (hR h27 v0 21)) then
                    if hR h27 v0 43 = 0 then none else
                    if ix (hI h27 (hR h27 v0 21) v5.toNat) (ln h27 (hR h27 v0 43)) then
                      lt1 (sI h27 (hR h27 v0 43) ((hI h27 (hR h27 v0 21) v5.toNat).toNat) y16) fun h33 =>
                      f_mStreams_write_b128 k33 v0 v1 v3 v4 v5 v6 y16 h33
                    else none
                  else none
                ) else
                if hR h27 v0 20 = 0 then none else
                if ix v5 (ln h27 (hR h27 v0 20)) then
                  lt1 (sI h27 (hR h27 v0 20) v5.toNat y16) fun h36 =>
                  f_mStreams_write_b128 k33 v0 v1 v3 v4 v5 v6 y16 h36
                else none
              else none
            else none
          else none
        else none
      else none
    else none
  else none
def f_mStreams_write_b33_lp : Nat → Nat → Int → Nat → Int → Int → Int → Hp → Option (Int × Hp)
  | 0, _, _, _, _, _, _, _ => none
  | n + 1, v0, v1, v3, v4, v5, v6, h => f_mStreams_write_b33 (f_mStreams_write_b33_lp n) v0 v1 v3 v4 v5 v6 h
def f_mStreams_write (v0 : Nat) (v1 : Int) (v2 : Int) (v3 : Nat) (v4 : Int) (h : Hp) : Option (Int × Hp) :=
  b2 (f_mStreams_hasSending v0 v1 v2 h) fun r3 h1 =>
  if r3 = 0 then (
    some ((-1), h1)
  ) else
  b2 (f_mStreams_at v1 v2 h1) fun r6 h4 =>
  b2 (f_mStreams_sending v0 r6 h4) fun r9 h7 =>
  if r9 = 0 then (
    b2 (f_mStreams_at v1 v2 h7) fun r12 h10 =>
    f_mStreams_write_b33_lp FU v0 v1 v3 v4 r12 0 h10
  ) else
  some ((-1), h7)
def f_mP_write (v0 : Nat) (v1 : Int) (v2 : Int) (h : Hp) : Option (Int × Hp) :=
  b2 (f_mP_no v1 h) fun r3 h1 =>
  b2 (f_mP_fails v0 r3 1 h1) fun r6 h4 =>
  if r6 = 0 then (
    if hR h4 v0 6 = 0 then none else
    b2 (f_mStreams_write (hR h4 v0 6) v1 v2 (hR h4 v0 1) (hI h4 v0 2) h4) fun r10 h8 =>
    lt1 (sI h8 v0 2 0) fun h11 =>
    some (r10, h11)
  ) else
  some (0, h4)
def f_mStreams_finish (v0 : Nat) (v1 : Int) (v2 : Int) (h : Hp) : Option (Int × Hp) :=
  b2 (f_mStreams_hasSending v0 v1 v2 h) fun r3 h1 =>
  if r3 = 0 then (
    some (0, h1)
  ) else
  b2 (f_mStreams_at v1 v2 h1) fun r6 h4 =>
  b2 (f_mStreams_sending v0 r6 h4) fun r9 h7 =>
  if r9 = 0 then (
    b2 (f_mStreams_at v1 v2 h7) fun r12 h10 =>
    if hR h7 v0 14 = 0 then none else
    if ix r12 (ln h10 (hR h7 v0 14)) then
      lt1 (sI h10 (hR h7 v0 14) r12.toNat 1) fun h15 =>
      b2 (f_mStreams_at v1 v2 h15) fun r18 h16 =>
      if hR h15 v0 15 = 0 then none else
      if ix r18 (ln h16 (hR h15 v0 15)) then
        lt1 (sI h16 (hR h15 v0 15) r18.toNat 0) fun h21 =>
        some (1, h21)
      else none
    else none
  ) else
  some (0, h7)
def f_mP_finish (v0 : Nat) (v1 : Int) (v2 : Int) (h : Hp) : Option (Int × Hp) :=
  b2 (f_mP_no v1 h) fun r3 h1 =>
  b2 (f_mP_fails v0 r3 1 h1) fun r6 h4 =>
  if r6 ≠ 0 then (
    some (0, h4)
  ) else
  if hR h4 v0 6 = 0 then none else
  b2 (f_mStreams_finish (hR h4 v0 6) v1 v2 h4) fun r10 h8 =>
  if r10 = 0 then (
    some (0, h8)
  ) else
  some (1, h8)
def f_mStreams_isOpenSending (v0 : Nat) (v1 : Int) (v2 : Int) (h : Hp) : Option (Int × Hp) :=
  b2 (f_mStreams_hasSending v0 v1 v2 h) fun r3 h1 =>
  if r3 = 0 then (
    some (0, h1)
  ) else
  b2 (f_mStreams_at v1 v2 h1) fun r6 h4 =>
  b2 (f_mStreams_sending v0 r6 h4) fun r9 h7 =>
  if 2 ≤ r9 then (
    some (0, h7)
  ) else
  some (1, h7)
def f_mStreams_doReset (v0 : Nat) (v1 : Int) (v2 : Int) (v3 : Int) (h : Hp) : Option (Hp) :=
  b2 (f_mStreams_at v1 v2 h) fun r3 h1 =>
  if hR h1 v0 16 = 0 then none else
  if ix r3 (ln h1 (hR h1 v0 16)) then
    lt1 (sI h1 (hR h1 v0 16) r3.toNat 1) fun h6 =>
    if hR h6 v0 18 = 0 then none else
    if ix r3 (ln h6 (hR h6 v0 18)) then
      lt1 (sJ h6 (hR h6 v0 18) r3.toNat v3) fun h9 =>
      if hR h9 v0 17 = 0 then none else
      if ix r3 (ln h9 (hR h9 v0 17)) then
        lt1 (sI h9 (hR h9 v0 17) r3.toNat 1) fun h12 =>
        some h12
      else none
    else none
  else none
def f_mStreams_reset (v0 : Nat) (v1 : Int) (v2 : Int) (v3 : Int) (h : Hp) : Option (Int × Hp) :=
  b2 (f_mStreams_isOpenSending v0 v1 v2 h) fun r3 h1 =>
  if r3 ≠ 0 then (
    b1 (f_mStreams_doReset v0 v1 v2 v3 h1) fun h4 =>
    some (1, h4)
  ) else
  some (0, h1)
def f_mP_reset_b17 (v0 : Nat) (v1 : Int) (v2 : Int) (v3 : Int) (s0 : Nat) (s1 : Int) (h : Hp) : Option (Int × Hp) :=
  if s0 = 0 then none else
  b2 (f_mP_fails s0 s1 1 h) fun r7 h5 =>
  if r7 ≠ 0 then (
    some (0, h5)
  ) else
  if hR h5 v0 6 = 0 then none else
  b2 (f_mStreams_reset (hR h5 v0 6) v1 v2 v3 h5) fun r11 h9 =>
  if r11 = 0 then (
    some (0, h9)
  ) else
  some (1, h9)
def f_mP_reset_b12 (v0 : Nat) (v1 : Int) (v2 : Int) (v3 : Int) (s0 : Nat) (h : Hp) : Option (Int × Hp) :=
  f_mP_reset_b17 v0 v1 v2 v3 s0 1 h
def f_mP_reset (v0 : Nat) (v1 : Int) (v2 : Int) (v3 : Int) (h : Hp) : Option (Int × Hp) :=
  b2 (f_mP_no v1 h) fun r3 h1 =>
  if r3 ≠ 0 then (
    f_mP_reset_b12 v0 v1 v2 v3 v0 h1
  ) else
  if 0 ≤ v3 then (
    f_mP_reset_b17 v0 v1 v2 v3 v0 0 h1
  ) else
  f_mP_reset_b12 v0 v1 v2 v3 v0 h1
def f_mStreams_receives_b15 (h : Hp) : Option (Int × Hp) :=
  some (1, h)
def f_mStreams_receives (v0 : Int) (v1 : Int) (h : Hp) : Option (Int × Hp) :=
  b2 (f_mStreams_wayOf v1 h) fun r3 h1 =>
  if r3 = 0 then (
    f_mStreams_receives_b15  h1
  ) else
  b2 (f_mStreams_opens v0 v1 h1) fun r6 h4 =>
  if r6 ≠ 0 then (
    some (0, h4)
  ) else
  f_mStreams_receives_b15  h4
def f_mStreams_hasReceiving (v0 : Nat) (v1 : Int) (v2 : Int) (h : Hp) : Option (Int × Hp) :=
  b2 (f_mStreams_isThere v0 v1 v2 h) fun r3 h1 =>
  if r3 = 0 then (
    some (0, h1)
  ) else
  b2 (f_mStreams_receives v1 v2 h1) fun r6 h4 =>
  if r6 = 0 then (
    some (0, h4)
  ) else
  some (1, h4)
def f_mStreams_receiving (v0 : Nat) (v1 : Int) (h : Hp) : Option (Int × Hp) :=
  if hR h v0 31 = 0 then none else
  if ix v1 (ln h (hR h v0 31)) then
    if (hI h (hR h v0 31) v1.toNat) = 0 then (
      if hR h v0 28 = 0 then none else
      if ix v1 (ln h (hR h v0 28)) then
        if 0 ≤ (hJ h (hR h v0 28) v1.toNat) then (
          if hR h v0 29 = 0 then none else
          if ix v1 (ln h (hR h v0 29)) then
            if ix v1 (ln h (hR h v0 28)) then
              if (hI h (hR h v0 29) v1.toNat) ≠ (hJ h (hR h v0 28) v1.toNat) then (
                if hR h v0 30 = 0 then none else
                if ix v1 (ln h (hR h v0 30)) then
                  if ix v1 (ln h (hR h v0 28)) then
                    if (hI h (hR h v0 30) v1.toNat) ≠ (hJ h (hR h v0 28) v1.toNat) then (
                      some (1, h)
                    ) else
                    some (2, h)
                  else none
                else none
              ) else
              some (3, h)
            else none
          else none
        ) else
        some (0, h)
      else none
    ) else
    some (4, h)
  else none
def f_mStreams_stop (v0 : Nat) (v1 : Int) (v2 : Int) (v3 : Int) (h : Hp) : Option (Int × Hp) :=
  b2 (f_mStreams_at v1 v2 h) fun r3 h1 =>
  b2 (f_mStreams_hasReceiving v0 v1 v2 h1) fun r6 h4 =>
  if r6 = 0 then (
    some (0, h4)
  ) else
  b2 (f_mStreams_receiving v0 r3 h4) fun r9 h7 =>
  if 1 < r9 then (
    some (0, h7)
  ) else
  if hR h7 v0 35 = 0 then none else
  if ix r3 (ln h7 (hR h7 v0 35)) then
    if (hI h7 (hR h7 v0 35) r3.toNat) = 0 then (
      if ix r3 (ln h7 (hR h7 v0 35)) then
        lt1 (sI h7 (hR h7 v0 35) r3.toNat 1) fun h13 =>
        if hR h13 v0 36 = 0 then none else
        if ix r3 (ln h13 (hR h13 v0 36)) then
          lt1 (sI h13 (hR h13 v0 36) r3.toNat 1) fun h16 =>
          if hR h16 v0 37 = 0 then none else
          if ix r3 (ln h16 (hR h16 v0 37)) then
            lt1 (sJ h16 (hR h16 v0 37) r3.toNat v3) fun h19 =>
            some (1, h19)
          else none
        else none
      else none
    ) else
    some (0, h7)
  else none
def f_mP_stop_b17 (v0 : Nat) (v1 : Int) (v2 : Int) (v3 : Int) (s0 : Nat) (s1 : Int) (h : Hp) : Option (Int × Hp) :=
  if s0 = 0 then none else
  b2 (f_mP_fails s0 s1 1 h) fun r7 h5 =>
  if r7 ≠ 0 then (
    some (0, h5)
  ) else
  if hR h5 v0 6 = 0 then none else
  b2 (f_mStreams_stop (hR h5 v0 6) v1 v2 v3 h5) fun r11 h9 =>
  if r11 = 0 then (
    some (0, h9)
  ) else
  some (1, h9)
def f_mP_stop_b12 (v0 : Nat) (v1 : Int) (v2 : Int) (v3 : Int) (s0 : Nat) (h : Hp) : Option (Int × Hp) :=
  f_mP_stop_b17 v0 v1 v2 v3 s0 1 h
def f_mP_stop (v0 : Nat) (v1 : Int) (v2 : Int) (v3 : Int) (h : Hp) : Option (Int × Hp) :=
  b2 (f_mP_no v1 h) fun r3 h1 =>
  if r3 ≠ 0 then (
    f_mP_stop_b12 v0 v1 v2 v3 v0 h1
  ) else
  if 0 ≤ v3 then (
    f_mP_stop_b17 v0 v1 v2 v3 v0 0 h1
  ) else
  f_mP_stop_b12 v0 v1 v2 v3 v0 h1
def f_mStreams_pieceAt_b7 (k7 : Nat → Int → Int → Hp → Option (Int × Hp)) (v0 : Nat) (v2 : Int) (v3 : Int) (h : Hp) : Option (Int × Hp) :=
  if v3 = (-1) then (
    some (v3, h)
  ) else
  if hR h v0 46 = 0 then none else
  if ix v3 (ln h (hR h v0 46)) then
    if (hI h (hR h v0 46) v3.toNat) = v2 then (
      some (v3, h)
    ) else
    if hR h v0 47 = 0 then none else
    if ix v3 (ln h (hR h v0 47)) then
      lt1 (hI h (hR h v0 47) v3.toNat) fun y8 =>
      k7 v0 v2 y8 h
    else none
  else none
def f_mStreams_pieceAt_b7_lp : Nat → Nat → Int → Int → Hp → Option (Int × Hp)
  | 0, _, _, _, _ => none
  | n + 1, v0, v2, v3, h => f_mStreams_pieceAt_b7 (f_mStreams_pieceAt_b7_lp n) v0 v2 v3 h
def f_mStreams_pieceAt (v0 : Nat) (v1 : Int) (v2 : Int) (h : Hp) : Option (Int × Hp) :=
  if hR h v0 39 = 0 then none else
  if ix v1 (ln h (hR h v0 39)) then
    lt1 (hI h (hR h v0 39) v1.toNat) fun y3 =>
    f_mStreams_pieceAt_b7_lp FU v0 v2 y3 h
  else none
def f_mStreams_consumed_b54 (k5 : Nat → Int → Int → Int → Hp → Option (Int × Hp)) (v0 : Nat) (v1 : Int) (v4 : Int) (s0 : Int) (s1 : Int) (h : Hp) : Option (Int × Hp) :=
  lt1 (w64 (s0 + s1)) fun y16 =>
  k5 v0 v1 y16 (w32 (v4 + 1)) h
def f_mStreams_consumed_b5 (k5 : Nat → Int → Int → Int → Hp → Option (Int × Hp)) (v0 : Nat) (v1 : Int) (v2 : Int) (v4 : Int) (h : Hp) : Option (Int × Hp) :=
  if 256 ≤ v4 then (
    some (v2, h)
  ) else
  b2 (f_mStreams_at v1 v4 h) fun r3 h1 =>
  if hR h v0 31 = 0 then none else
  if ix r3 (ln h1 (hR h v0 31)) then
    if (hI h1 (hR h v0 31) r3.toNat) = 0 then (
      b2 (f_mStreams_at v1 v4 h1) fun r8 h6 =>
      if hR h1 v0 29 = 0 then none else
      if ix r8 (ln h6 (hR h1 v0 29)) then
        f_mStreams_consumed_b54 k5 v0 v1 v4 v2 (hI h6 (hR h1 v0 29) r8.toNat) h6
      else none
    ) else
    b2 (f_mStreams_at v1 v4 h1) fun r13 h11 =>
    if hR h1 v0 28 = 0 then none else
    if ix r13 (ln h11 (hR h1 v0 28)) then
      f_mStreams_consumed_b54 k5 v0 v1 v4 v2 (hJ h11 (hR h1 v0 28) r13.toNat) h11
    else none
  else none
def f_mStreams_consumed_b5_lp : Nat → Nat → Int → Int → Int → Hp → Option (Int × Hp)
  | 0, _, _, _, _, _ => none
  | n + 1, v0, v1, v2, v4, h => f_mStreams_consumed_b5 (f_mStreams_consumed_b5_lp n) v0 v1 v2 v4 h
def f_mStreams_consumed (v0 : Nat) (v1 : Int) (h : Hp) : Option (Int × Hp) :=
  f_mStreams_consumed_b5_lp FU v0 v1 0 0 h
def f_mStreams_growData_b38 (v0 : Nat) (v1 : Int) (v2 : Int) (v4 : Int) (s0 : Int) (h : Hp) : Option (Hp) :=
  if hR h v0 9 = 0 then none else
  if ix v1 (ln h (hR h v0 9)) then
    if (w64 (2 * (w64 (v4 - (hJ h (hR h v0 9) v1.toNat))))) < v2 then (
      some h
    ) else
    if ix v1 (ln h (hR h v0 9)) then
      if (hJ h (hR h v0 9) v1.toNat) < s0 then (
        if ix v1 (ln h (hR h v0 9)) then
          lt1 (sJ h (hR h v0 9) v1.toNat s0) fun h12 =>
          if hR h12 v0 10 = 0 then none else
          if ix v1 (ln h12 (hR h12 v0 10)) then
            lt1 (sI h12 (hR h12 v0 10) v1.toNat 1) fun h15 =>
            some h15
          else none
        else none
      ) else
      some h
    else none
  else none
def f_mStreams_growData (v0 : Nat) (v1 : Int) (h : Hp) : Option (Hp) :=
  if hR h v0 0 = 0 then none else
  if ix (w32 ((w32 (16 * v1)) + 4)) (ln h (hR h v0 0)) then
    lt1 (hJ h (hR h v0 0) ((w32 ((w32 (16 * v1)) + 4)).toNat)) fun y3 =>
    b2 (f_mStreams_consumed v0 v1 h) fun r6 h4 =>
    lt1 (w64 (r6 + y3)) fun y7 =>
    if 65536 ≤ y7 then (
      f_mStreams_growData_b38 v0 v1 y3 y7 65536 h4
    ) else
    f_mStreams_growData_b38 v0 v1 y3 y7 y7 h4
  else none
def f_mStreams_growStream_b43 (v0 : Nat) (v3 : Int) (v4 : Int) (v6 : Int) (s0 : Int) (h : Hp) : Option (Hp) :=
  if hR h v0 33 = 0 then none else
  if ix v3 (ln h (hR h v0 33)) then
    if (w64 (2 * (w64 (v6 - (hJ h (hR h v0 33) v3.toNat))))) < v4 then (
      some h
    ) else
    if ix v3 (ln h (hR h v0 33)) then
      if (hJ h (hR h v0 33) v3.toNat) < s0 then (
        if ix v3 (ln h (hR h v0 33)) then
          lt1 (sJ h (hR h v0 33) v3.toNat s0) fun h14 =>
          if hR h14 v0 34 = 0 then none else
          if ix v3 (ln h14 (hR h14 v0 34)) then
            lt1 (sI h14 (hR h14 v0 34) v3.toNat 1) fun h17 =>
            some h17
          else none
        else none
      ) else
      some h
    else none
  else none
def f_mStreams_growStream (v0 : Nat) (v1 : Int) (v2 : Int) (h : Hp) : Option (Hp) :=
  b2 (f_mStreams_at v1 v2 h) fun r3 h1 =>
  b2 (f_mStreams_grantOf v0 v1 v2 h1) fun r6 h4 =>
  if hR h4 v0 29 = 0 then none else
  if ix r3 (ln h4 (hR h4 v0 29)) then
    lt1 (w64 ((hI h4 (hR h4 v0 29) r3.toNat) + r6)) fun y9 =>
    if 65536 ≤ y9 then (
      f_mStreams_growStream_b43 v0 r3 r6 y9 65536 h4
    ) else
    f_mStreams_growStream_b43 v0 r3 r6 y9 y9 h4
  else none
def f_mStreams_looksOver_b91 (v0 : Nat) (v1 : Int) (v2 : Int) (v3 : Int) (v4 : Int) (s0 : Int) (h : Hp) : Option (Hp) :=
  if v4 = 0 then (
    some h
  ) else
  if s0 ≠ 0 then (
    if hR h v0 38 = 0 then none else
    if ix v3 (ln h (hR h v0 38)) then
      lt1 (sI h (hR h v0 38) v3.toNat 1) fun h28 =>
      b2 (f_mStreams_wayOf v2 h28) fun r31 h29 =>
      lt1 (w32 ((w32 (2 * v1)) + r31)) fun y32 =>
      if hR h29 v0 6 = 0 then none else
      if ix y32 (ln h29 (hR h29 v0 6)) then
        if (hI h29 (hR h29 v0 6) y32.toNat) ≠ 64 then (
          if ix y32 (ln h29 (hR h29 v0 6)) then
            if ix y32 (ln h29 (hR h29 v0 6)) then
              lt1 (sI h29 (hR h29 v0 6) y32.toNat (w32 ((hI h29 (hR h29 v0 6) y32.toNat) + 1))) fun h37 =>
              if hR h37 v0 7 = 0 then none else
              if ix y32 (ln h37 (hR h37 v0 7)) then
                lt1 (sI h37 (hR h37 v0 7) y32.toNat 1) fun h40 =>
                some h40
              else none
            else none
          else none
        ) else
        some h29
      else none
    else none
  ) else
  some h
def f_mStreams_looksOver_b86 (v0 : Nat) (v1 : Int) (v2 : Int) (v3 : Int) (v4 : Int) (h : Hp) : Option (Hp) :=
  f_mStreams_looksOver_b91 v0 v1 v2 v3 v4 1 h
def f_mStreams_looksOver_b57 (v0 : Nat) (v1 : Int) (v2 : Int) (v3 : Int) (s0 : Int) (h : Hp) : Option (Hp) :=
  b2 (f_mStreams_sends v1 v2 h) fun r19 h17 =>
  if r19 = 0 then (
    f_mStreams_looksOver_b86 v0 v1 v2 v3 s0 h17
  ) else
  b2 (f_mStreams_sending v0 v3 h17) fun r22 h20 =>
  if r22 = 2 then (
    f_mStreams_looksOver_b86 v0 v1 v2 v3 s0 h20
  ) else
  b2 (f_mStreams_sending v0 v3 h20) fun r25 h23 =>
  if r25 ≠ 4 then (
    f_mStreams_looksOver_b91 v0 v1 v2 v3 s0 0 h23
  ) else
  f_mStreams_looksOver_b86 v0 v1 v2 v3 s0 h23
def f_mStreams_looksOver_b52 (v0 : Nat) (v1 : Int) (v2 : Int) (v3 : Int) (h : Hp) : Option (Hp) :=
  f_mStreams_looksOver_b57 v0 v1 v2 v3 1 h
def f_mStreams_looksOver (v0 : Nat) (v1 : Int) (v2 : Int) (h : Hp) : Option (Hp) :=
  b2 (f_mStreams_at v1 v2 h) fun r3 h1 =>
  b2 (f_mStreams_opens v1 v2 h1) fun r6 h4 =>
  if r6 ≠ 0 then (
    some h4
  ) else
  if hR h4 v0 38 = 0 then none else
  if ix r3 (ln h4 (hR h4 v0 38)) then
    if (hI h4 (hR h4 v0 38) r3.toNat) ≠ 0 then (
      some h4
    ) else
    if hR h4 v0 12 = 0 then none else
    if ix r3 (ln h4 (hR h4 v0 12)) then
      if (hI h4 (hR h4 v0 12) r3.toNat) ≠ 0 then (
        b2 (f_mStreams_receives v1 v2 h4) fun r13 h11 =>
        if r13 = 0 then (
          f_mStreams_looksOver_b52 v0 v1 v2 r3 h11
        ) else
        b2 (f_mStreams_receiving v0 r3 h11) fun r16 h14 =>
        if r16 ≤ 2 then (
          f_mStreams_looksOver_b57 v0 v1 v2 r3 0 h14
        ) else
        f_mStreams_looksOver_b52 v0 v1 v2 r3 h14
      ) else
      some h4
    else none
  else none
def f_mStreams_read_b106 (k52 : Nat → Int → Int → Int → Nat → Int → Int → Int → Hp → Option (Int × Hp)) (v0 : Nat) (v1 : Int) (v2 : Int) (v3 : Int) (v4 : Nat) (v5 : Int) (v6 : Int) (v7 : Int) (h : Hp) : Option (Int × Hp) :=
  if hR h v0 29 = 0 then none else
  if ix v5 (ln h (hR h v0 29)) then
    if hR h v0 49 = 0 then none else
    if ix (w32 ((w32 (64 * v7)) + (iRem (hI h (hR h v0 29) v5.toNat) 64))) (ln h (hR h v0 49)) then
      if v4 = 0 then none else
      if ix v6 (ln h v4) then
        lt1 (sI h v4 v6.toNat (iAnd (hI h (hR h v0 49) ((w32 ((w32 (64 * v7)) + (iRem (hI h (hR h v0 29) v5.toNat) 64))).toNat)) 255)) fun h38 =>
        if hR h38 v0 29 = 0 then none else
        if ix v5 (ln h38 (hR h38 v0 29)) then
          if ix v5 (ln h38 (hR h38 v0 29)) then
            lt1 (sI h38 (hR h38 v0 29) v5.toNat (w32 ((hI h38 (hR h38 v0 29) v5.toNat) + 1))) fun h42 =>
            k52 v0 v1 v2 v3 v4 v5 (w32 (v6 + 1)) v7 h42
          else none
        else none
      else none
    else none
  else none
def f_mStreams_read_b178 (v0 : Nat) (v1 : Int) (v2 : Int) (v6 : Int) (h : Hp) : Option (Int × Hp) :=
  b1 (f_mStreams_looksOver v0 v1 v2 h) fun h30 =>
  some (v6, h30)
def f_mStreams_read_b153 (v0 : Nat) (v1 : Int) (v2 : Int) (v5 : Int) (v6 : Int) (h : Hp) : Option (Int × Hp) :=
  if v6 ≤ 0 then (
    f_mStreams_read_b178 v0 v1 v2 v6 h
  ) else
  b1 (f_mStreams_growData v0 v1 h) fun h23 =>
  b2 (f_mStreams_receiving v0 v5 h23) fun r27 h25 =>
  if r27 ≠ 0 then (
    f_mStreams_read_b178 v0 v1 v2 v6 h25
  ) else
  b1 (f_mStreams_growStream v0 v1 v2 h25) fun h28 =>
  f_mStreams_read_b178 v0 v1 v2 v6 h28
def f_mStreams_read_b52 (k52 : Nat → Int → Int → Int → Nat → Int → Int → Int → Hp → Option (Int × Hp)) (v0 : Nat) (v1 : Int) (v2 : Int) (v3 : Int) (v4 : Nat) (v5 : Int) (v6 : Int) (v7 : Int) (h : Hp) : Option (Int × Hp) :=
  if v3 ≤ v6 then (
    f_mStreams_read_b153 v0 v1 v2 v5 v6 h
  ) else
  if hR h v0 29 = 0 then none else
  if ix v5 (ln h (hR h v0 29)) then
    if hR h v0 30 = 0 then none else
    if ix v5 (ln h (hR h v0 30)) then
      if (hI h (hR h v0 30) v5.toNat) ≤ (hI h (hR h v0 29) v5.toNat) then (
        f_mStreams_read_b153 v0 v1 v2 v5 v6 h
      ) else
      if ix v5 (ln h (hR h v0 29)) then
        if (iRem (hI h (hR h v0 29) v5.toNat) 64) ≠ 0 then (
          f_mStreams_read_b106 k52 v0 v1 v2 v3 v4 v5 v6 v7 h
        ) else
        if ix v5 (ln h (hR h v0 29)) then
          b2 (f_mStreams_pieceAt v0 v5 (iDiv (hI h (hR h v0 29) v5.toNat) 64) h) fun r22 h20 =>
          f_mStreams_read_b106 k52 v0 v1 v2 v3 v4 v5 v6 r22 h20
        else none
      else none
    else none
  else none
def f_mStreams_read_b52_lp : Nat → Nat → Int → Int → Int → Nat → Int → Int → Int → Hp → Option (Int × Hp)
  | 0, _, _, _, _, _, _, _, _, _ => none
  | n + 1, v0, v1, v2, v3, v4, v5, v6, v7, h => f_mStreams_read_b52 (f_mStreams_read_b52_lp n) v0 v1 v2 v3 v4 v5 v6 v7 h
def f_mStreams_read (v0 : Nat) (v1 : Int) (v2 : Int) (v3 : Int) (v4 : Nat) (h : Hp) : Option (Int × Hp) :=
  b2 (f_mStreams_hasReceiving v0 v1 v2 h) fun r3 h1 =>
  if r3 ≠ 0 then (
    b2 (f_mStreams_at v1 v2 h1) fun r6 h4 =>
    if hR h4 v0 31 = 0 then none else
    if ix r6 (ln h4 (hR h4 v0 31)) then
      if (hI h4 (hR h4 v0 31) r6.toNat) = 0 then (
        if hR h4 v0 29 = 0 then none else
        if ix r6 (ln h4 (hR h4 v0 29)) then
          b2 (f_mStreams_pieceAt v0 r6 (iDiv (hI h4 (hR h4 v0 29) r6.toNat) 64) h4) fun r13 h11 =>
          f_mStreams_read_b52_lp FU v0 v1 v2 v3 v4 r6 0 r13 h11
        else none
      ) else
      some ((-2), h4)
    else none
  ) else
  some ((-1), h1)
def f_mP_read_b61 (v0 : Nat) (v4 : Int) (s0 : Nat) (s1 : Int) (h : Hp) : Option (Int × Hp) :=
  if s0 = 0 then none else
  lt1 (sI h s0 4 s1) fun h13 =>
  some (v4, h13)
def f_mP_read_b24 (v0 : Nat) (v1 : Int) (v2 : Int) (v3 : Int) (s0 : Nat) (s1 : Int) (h : Hp) : Option (Int × Hp) :=
  if s0 = 0 then none else
  b2 (f_mP_fails s0 s1 1 h) fun r7 h5 =>
  if r7 = 0 then (
    if hR h5 v0 6 = 0 then none else
    b2 (f_mStreams_read (hR h5 v0 6) v1 v2 v3 (hR h5 v0 3) h5) fun r11 h9 =>
    if 0 ≤ r11 then (
      f_mP_read_b61 v0 r11 v0 r11 h9
    ) else
    f_mP_read_b61 v0 r11 v0 0 h9
  ) else
  some (0, h5)
def f_mP_read_b19 (v0 : Nat) (v1 : Int) (v2 : Int) (v3 : Int) (s0 : Nat) (h : Hp) : Option (Int × Hp) :=
  f_mP_read_b24 v0 v1 v2 v3 s0 1 h
def f_mP_read (v0 : Nat) (v1 : Int) (v2 : Int) (v3 : Int) (h : Hp) : Option (Int × Hp) :=
  b2 (f_mP_no v1 h) fun r3 h1 =>
  if r3 ≠ 0 then (
    f_mP_read_b19 v0 v1 v2 v3 v0 h1
  ) else
  if v3 < 0 then (
    f_mP_read_b19 v0 v1 v2 v3 v0 h1
  ) else
  if v3 ≤ 2048 then (
    f_mP_read_b24 v0 v1 v2 v3 v0 0 h1
  ) else
  f_mP_read_b19 v0 v1 v2 v3 v0 h1
def f_mP_outs_b32 (k32 : Nat → Int → Int → Int → Hp → Option (Int × Hp)) (v0 : Nat) (v1 : Int) (v2 : Int) (v4 : Int) (h : Hp) : Option (Int × Hp) :=
  if 8 ≤ v4 then (
    some (v2, h)
  ) else
  if (hI h v0 4) ≤ (w32 (v1 + v4)) then (
    some (v2, h)
  ) else
  if hR h v0 3 = 0 then none else
  if ix (w32 (v1 + v4)) (ln h (hR h v0 3)) then
    lt1 (lOr v2 (lShl (hI h (hR h v0 3) ((w32 (v1 + v4)).toNat)) (w32 (8 * v4)))) fun y7 =>
    k32 v0 v1 y7 (w32 (v4 + 1)) h
  else none
def f_mP_outs_b32_lp : Nat → Nat → Int → Int → Int → Hp → Option (Int × Hp)
  | 0, _, _, _, _, _ => none
  | n + 1, v0, v1, v2, v4, h => f_mP_outs_b32 (f_mP_outs_b32_lp n) v0 v1 v2 v4 h
def f_mP_outs_b18 (v0 : Nat) (v1 : Int) (s0 : Nat) (s1 : Int) (h : Hp) : Option (Int × Hp) :=
  if s0 = 0 then none else
  b2 (f_mP_fails s0 s1 1 h) fun r4 h2 =>
  if r4 = 0 then (
    f_mP_outs_b32_lp FU v0 v1 0 0 h2
  ) else
  some (0, h2)
def f_mP_outs_b13 (v0 : Nat) (v1 : Int) (s0 : Nat) (h : Hp) : Option (Int × Hp) :=
  f_mP_outs_b18 v0 v1 s0 1 h
def f_mP_outs (v0 : Nat) (v1 : Int) (h : Hp) : Option (Int × Hp) :=
  if v1 < 0 then (
    f_mP_outs_b13 v0 v1 v0 h
  ) else
  if v1 < (hI h v0 4) then (
    f_mP_outs_b18 v0 v1 v0 0 h
  ) else
  f_mP_outs_b13 v0 v1 v0 h
def f_mSide_isAlive_b16 (v0 : Nat) (h : Hp) : Option (Int × Hp) :=
  some (1, h)
def f_mSide_isAlive (v0 : Nat) (h : Hp) : Option (Int × Hp) :=
  if (hI h v0 8) = 1 then (
    f_mSide_isAlive_b16 v0 h
  ) else
  if (hI h v0 8) ≠ 2 then (
    some (0, h)
  ) else
  f_mSide_isAlive_b16 v0 h
def f_mBook_greater (v0 : Int) (v1 : Int) (h : Hp) : Option (Int × Hp) :=
  if v0 ≤ v1 then (
    some (v1, h)
  ) else
  some (v0, h)
def f_mBook_patience (v0 : Nat) (v1 : Int) (h : Hp) : Option (Int × Hp) :=
  b2 (f_mBook_greater (hI h v0 19) 1 h) fun r3 h1 =>
  if v1 = 0 then (
    some (w32 ((w32 ((iDiv (hI h v0 18) 8) + r3)) + 0), h1)
  ) else
  some (w32 ((w32 ((iDiv (hI h v0 18) 8) + r3)) + 25), h1)
def f_mSide_end (v0 : Nat) (v1 : Int) (h : Hp) : Option (Hp) :=
  lt1 (sI h v0 8 v1) fun h1 =>
  if hR h1 v0 4 = 0 then none else
  b2 (f_mBook_patience (hR h1 v0 4) 1 h1) fun r5 h3 =>
  lt1 (sI h3 v0 35 (w32 ((hI h1 (hR h1 v0 4) 0) + (w32 (3 * r5))))) fun h6 =>
  some h6
def f_mSide_closes_b29 (v0 : Nat) (v1 : Int) (v2 : Int) (s0 : Nat) (s1 : Int) (h : Hp) : Option (Hp) :=
  if s0 = 0 then none else
  lt1 (sI h s0 9 s1) fun h7 =>
  lt1 (sI h7 v0 36 1) fun h8 =>
  lt1 (sI h8 v0 37 v2) fun h9 =>
  lt1 (sI h9 v0 38 v1) fun h10 =>
  lt1 (sI h10 v0 39 0) fun h11 =>
  some h11
def f_mSide_closes (v0 : Nat) (v1 : Int) (v2 : Int) (h : Hp) : Option (Hp) :=
  b2 (f_mSide_isAlive v0 h) fun r3 h1 =>
  if r3 ≠ 0 then (
    b1 (f_mSide_end v0 3 h1) fun h4 =>
    if v2 ≠ 29 then (
      f_mSide_closes_b29 v0 v1 v2 v0 v1 h4
    ) else
    f_mSide_closes_b29 v0 v1 v2 v0 (w32 (30000 + v1)) h4
  ) else
  some h1
def f_mP_close_b24 (v0 : Nat) (v1 : Int) (v2 : Int) (s0 : Nat) (s1 : Int) (h : Hp) : Option (Int × Hp) :=
  if s0 = 0 then none else
  b2 (f_mP_fails s0 s1 1 h) fun r7 h5 =>
  if r7 ≠ 0 then (
    some (0, h5)
  ) else
  if hR h5 v0 7 = 0 then none else
  if ix v1 (ln h5 (hR h5 v0 7)) then
    if hR h5 (hR h5 v0 7) v1.toNat = 0 then none else
    b2 (f_mSide_isAlive (hR h5 (hR h5 v0 7) v1.toNat) h5) fun r13 h11 =>
    if r13 ≠ 0 then (
      if hR h11 v0 7 = 0 then none else
      if ix v1 (ln h11 (hR h11 v0 7)) then
        if hR h11 (hR h11 v0 7) v1.toNat = 0 then none else
        b1 (f_mSide_closes (hR h11 (hR h11 v0 7) v1.toNat) v2 29 h11) fun h17 =>
        some (1, h17)
      else none
    ) else
    some (0, h11)
  else none
def f_mP_close_b19 (v0 : Nat) (v1 : Int) (v2 : Int) (s0 : Nat) (h : Hp) : Option (Int × Hp) :=
  f_mP_close_b24 v0 v1 v2 s0 1 h
def f_mP_close (v0 : Nat) (v1 : Int) (v2 : Int) (h : Hp) : Option (Int × Hp) :=
  b2 (f_mP_no v1 h) fun r3 h1 =>
  if r3 ≠ 0 then (
    f_mP_close_b19 v0 v1 v2 v0 h1
  ) else
  if v2 < 0 then (
    f_mP_close_b19 v0 v1 v2 v0 h1
  ) else
  if v2 ≤ 9999 then (
    f_mP_close_b24 v0 v1 v2 v0 0 h1
  ) else
  f_mP_close_b19 v0 v1 v2 v0 h1
def f_mP_raw_b74 (k74 : Nat → Nat → Int → Hp → Option (Hp)) (v0 : Nat) (v2 : Nat) (v3 : Int) (h : Hp) : Option (Hp) :=
  if (hI h v0 2) ≤ v3 then (
    if v2 = 0 then none else
    lt1 (sI h v2 43 (hI h v0 2)) fun h19 =>
    lt1 (sI h19 v0 2 0) fun h20 =>
    some h20
  ) else
  if v2 = 0 then none else
  if hR h v0 1 = 0 then none else
  if ix v3 (ln h (hR h v0 1)) then
    if hR h v2 42 = 0 then none else
    if ix v3 (ln h (hR h v2 42)) then
      lt1 (sI h (hR h v2 42) v3.toNat (iAnd (hI h (hR h v0 1) v3.toNat) 255)) fun h26 =>
      k74 v0 v2 (w32 (v3 + 1)) h26
    else none
  else none
def f_mP_raw_b74_lp : Nat → Nat → Nat → Int → Hp → Option (Hp)
  | 0, _, _, _, _ => none
  | n + 1, v0, v2, v3, h => f_mP_raw_b74 (f_mP_raw_b74_lp n) v0 v2 v3 h
def f_mP_raw_b57 (v0 : Nat) (v1 : Int) (s0 : Nat) (s1 : Int) (h : Hp) : Option (Hp) :=
  if s0 = 0 then none else
  b2 (f_mP_fails s0 s1 2 h) fun r14 h12 =>
  if r14 = 0 then (
    if hR h12 v0 7 = 0 then none else
    if ix v1 (ln h12 (hR h12 v0 7)) then
      lt1 (hR h12 (hR h12 v0 7) v1.toNat) fun y17 =>
      f_mP_raw_b74_lp FU v0 y17 0 h12
    else none
  ) else
  some h12
def f_mP_raw_b31 (v0 : Nat) (v1 : Int) (s0 : Nat) (s1 : Int) (h : Hp) : Option (Hp) :=
  if s0 = 0 then none else
  b2 (f_mP_fails s0 s1 1 h) fun r7 h5 =>
  if r7 ≠ 0 then (
    some h5
  ) else
  if hR h5 v0 7 = 0 then none else
  if ix v1 (ln h5 (hR h5 v0 7)) then
    if hR h5 (hR h5 v0 7) v1.toNat = 0 then none else
    if (hI h5 (hR h5 (hR h5 v0 7) v1.toNat) 8) = 2 then (
      f_mP_raw_b57 v0 v1 v0 0 h5
    ) else
    f_mP_raw_b57 v0 v1 v0 1 h5
  else none
def f_mP_raw_b26 (v0 : Nat) (v1 : Int) (s0 : Nat) (h : Hp) : Option (Hp) :=
  f_mP_raw_b31 v0 v1 s0 1 h
def f_mP_raw (v0 : Nat) (v1 : Int) (h : Hp) : Option (Hp) :=
  b2 (f_mP_no v1 h) fun r3 h1 =>
  if r3 ≠ 0 then (
    f_mP_raw_b26 v0 v1 v0 h1
  ) else
  if (hI h1 v0 2) < 1 then (
    f_mP_raw_b26 v0 v1 v0 h1
  ) else
  if (hI h1 v0 2) ≤ 1000 then (
    f_mP_raw_b31 v0 v1 v0 0 h1
  ) else
  f_mP_raw_b26 v0 v1 v0 h1
def f_mP_place (v0 : Nat) (v1 : Int) (v2 : Int) (h : Hp) : Option (Int × Hp) :=
  if hR h v0 11 = 0 then none else
  if ix (w32 ((w32 (96 * v1)) + v2)) (ln h (hR h v0 11)) then
    some (hI h (hR h v0 11) ((w32 ((w32 (96 * v1)) + v2)).toNat), h)
  else none
def f_mP_lies_b82 (k82 : Nat → Int → Nat → Int → Int → Int → Hp → Option (Hp)) (v0 : Nat) (v1 : Int) (v2 : Nat) (v3 : Int) (v5 : Int) (v6 : Int) (h : Hp) : Option (Hp) :=
  if v3 ≤ v6 then (
    if hR h v0 10 = 0 then none else
    if ix v1 (ln h (hR h v0 10)) then
      if hR h v0 11 = 0 then none else
      if ix (w32 ((w32 (96 * v1)) + (hI h (hR h v0 10) v1.toNat))) (ln h (hR h v0 11)) then
        lt1 (sI h (hR h v0 11) ((w32 ((w32 (96 * v1)) + (hI h (hR h v0 10) v1.toNat))).toNat) v5) fun h26 =>
        if hR h26 v0 10 = 0 then none else
        if ix v1 (ln h26 (hR h26 v0 10)) then
          if ix v1 (ln h26 (hR h26 v0 10)) then
            lt1 (sI h26 (hR h26 v0 10) v1.toNat (w32 ((hI h26 (hR h26 v0 10) v1.toNat) + 1))) fun h30 =>
            some h30
          else none
        else none
      else none
    else none
  ) else
  if v2 = 0 then none else
  if ix v6 (ln h v2) then
    if hR h v0 15 = 0 then none else
    if ix (w32 ((w32 (1200 * v5)) + v6)) (ln h (hR h v0 15)) then
      lt1 (sI h (hR h v0 15) ((w32 ((w32 (1200 * v5)) + v6)).toNat) (i8 (i8 (hI h v2 v6.toNat)))) fun h35 =>
      k82 v0 v1 v2 v3 v5 (w32 (v6 + 1)) h35
    else none
  else none
def f_mP_lies_b82_lp : Nat → Nat → Int → Nat → Int → Int → Int → Hp → Option (Hp)
  | 0, _, _, _, _, _, _, _ => none
  | n + 1, v0, v1, v2, v3, v5, v6, h => f_mP_lies_b82 (f_mP_lies_b82_lp n) v0 v1 v2 v3 v5 v6 h
def f_mP_lies_b38 (k38 : Nat → Int → Nat → Int → Int → Int → Hp → Option (Hp)) (v0 : Nat) (v1 : Int) (v2 : Nat) (v3 : Int) (v4 : Int) (v5 : Int) (h : Hp) : Option (Hp) :=
  if hR h v0 12 = 0 then none else
  if ix v5 (ln h (hR h v0 12)) then
    if (hI h (hR h v0 12) v5.toNat) = 0 then (
      if ix v5 (ln h (hR h v0 12)) then
        lt1 (sI h (hR h v0 12) v5.toNat 1) fun h15 =>
        if hR h15 v0 13 = 0 then none else
        if ix v5 (ln h15 (hR h15 v0 13)) then
          lt1 (sI h15 (hR h15 v0 13) v5.toNat v3) fun h18 =>
          if hR h18 v0 14 = 0 then none else
          if ix v5 (ln h18 (hR h18 v0 14)) then
            lt1 (sI h18 (hR h18 v0 14) v5.toNat v4) fun h21 =>
            f_mP_lies_b82_lp FU v0 v1 v2 v3 v5 0 h21
          else none
        else none
      else none
    ) else
    k38 v0 v1 v2 v3 v4 (w32 (v5 + 1)) h
  else none
def f_mP_lies_b38_lp : Nat → Nat → Int → Nat → Int → Int → Int → Hp → Option (Hp)
  | 0, _, _, _, _, _, _, _ => none
  | n + 1, v0, v1, v2, v3, v4, v5, h => f_mP_lies_b38 (f_mP_lies_b38_lp n) v0 v1 v2 v3 v4 v5 h
def f_mP_lies (v0 : Nat) (v1 : Int) (v2 : Nat) (v3 : Int) (v4 : Int) (h : Hp) : Option (Hp) :=
  if hR h v0 16 = 0 then none else
  if ix v1 (ln h (hR h v0 16)) then
    if ix v1 (ln h (hR h v0 16)) then
      lt1 (sI h (hR h v0 16) v1.toNat (w32 ((hI h (hR h v0 16) v1.toNat) + 1))) fun h4 =>
      if hR h4 v0 10 = 0 then none else
      if ix v1 (ln h4 (hR h4 v0 10)) then
        if (hI h4 (hR h4 v0 10) v1.toNat) ≠ 96 then (
          lt1 (w32 (96 * v1)) fun y7 =>
          f_mP_lies_b38_lp FU v0 v1 v2 v3 v4 y7 h4
        ) else
        if hR h4 v0 17 = 0 then none else
        if ix v1 (ln h4 (hR h4 v0 17)) then
          if ix v1 (ln h4 (hR h4 v0 17)) then
            lt1 (sI h4 (hR h4 v0 17) v1.toNat (w32 ((hI h4 (hR h4 v0 17) v1.toNat) + 1))) fun h11 =>
            some h11
          else none
        else none
      else none
    else none
  else none
def f_mP_lift_b10 (k10 : Nat → Int → Int → Hp → Option (Hp)) (v0 : Nat) (v3 : Int) (v4 : Int) (h : Hp) : Option (Hp) :=
  if hR h v0 13 = 0 then none else
  if ix v3 (ln h (hR h v0 13)) then
    if (hI h (hR h v0 13) v3.toNat) ≤ v4 then (
      some h
    ) else
    if hR h v0 15 = 0 then none else
    if ix (w32 ((w32 (1200 * v3)) + v4)) (ln h (hR h v0 15)) then
      if hR h v0 18 = 0 then none else
      if ix v4 (ln h (hR h v0 18)) then
        lt1 (sI h (hR h v0 18) v4.toNat (iAnd (hI h (hR h v0 15) ((w32 ((w32 (1200 * v3)) + v4)).toNat)) 255)) fun h10 =>
        k10 v0 v3 (w32 (v4 + 1)) h10
      else none
    else none
  else none
def f_mP_lift_b10_lp : Nat → Nat → Int → Int → Hp → Option (Hp)
  | 0, _, _, _, _ => none
  | n + 1, v0, v3, v4, h => f_mP_lift_b10 (f_mP_lift_b10_lp n) v0 v3 v4 h
def f_mP_lift (v0 : Nat) (v1 : Int) (v2 : Int) (h : Hp) : Option (Hp) :=
  b2 (f_mP_place v0 v1 v2 h) fun r3 h1 =>
  f_mP_lift_b10_lp FU v0 r3 0 h1
def f_mP_remove_b27 (k27 : Nat → Int → Int → Int → Hp → Option (Int × Hp)) (v0 : Nat) (v1 : Int) (v3 : Int) (v4 : Int) (h : Hp) : Option (Int × Hp) :=
  if hR h v0 10 = 0 then none else
  if ix v1 (ln h (hR h v0 10)) then
    if (hI h (hR h v0 10) v1.toNat) ≤ v4 then (
      if hR h v0 13 = 0 then none else
      if ix v3 (ln h (hR h v0 13)) then
        some (hI h (hR h v0 13) v3.toNat, h)
      else none
    ) else
    if hR h v0 11 = 0 then none else
    if ix (w32 ((w32 ((w32 (96 * v1)) + v4)) + 1)) (ln h (hR h v0 11)) then
      if ix (w32 ((w32 (96 * v1)) + v4)) (ln h (hR h v0 11)) then
        lt1 (sI h (hR h v0 11) ((w32 ((w32 (96 * v1)) + v4)).toNat) (hI h (hR h v0 11) ((w32 ((w32 ((w32 (96 * v1)) + v4)) + 1)).toNat))) fun h18 =>
        k27 v0 v1 v3 (w32 (v4 + 1)) h18
      else none
    else none
  else none
def f_mP_remove_b27_lp : Nat → Nat → Int → Int → Int → Hp → Option (Int × Hp)
  | 0, _, _, _, _, _ => none
  | n + 1, v0, v1, v3, v4, h => f_mP_remove_b27 (f_mP_remove_b27_lp n) v0 v1 v3 v4 h
def f_mP_remove (v0 : Nat) (v1 : Int) (v2 : Int) (h : Hp) : Option (Int × Hp) :=
  b2 (f_mP_place v0 v1 v2 h) fun r3 h1 =>
  if hR h1 v0 12 = 0 then none else
  if ix r3 (ln h1 (hR h1 v0 12)) then
    lt1 (sI h1 (hR h1 v0 12) r3.toNat 0) fun h6 =>
    if hR h6 v0 10 = 0 then none else
    if ix v1 (ln h6 (hR h6 v0 10)) then
      if ix v1 (ln h6 (hR h6 v0 10)) then
        lt1 (sI h6 (hR h6 v0 10) v1.toNat (w32 ((hI h6 (hR h6 v0 10) v1.toNat) - 1))) fun h10 =>
        f_mP_remove_b27_lp FU v0 v1 r3 v2 h10
      else none
    else none
  else none
def f_mP_isNone_b14 (v0 : Nat) (h : Hp) : Option (Int × Hp) :=
  some (1, h)
def f_mP_isNone (v0 : Nat) (v1 : Int) (v2 : Int) (h : Hp) : Option (Int × Hp) :=
  if v2 < 0 then (
    f_mP_isNone_b14 v0 h
  ) else
  if hR h v0 10 = 0 then none else
  if ix v1 (ln h (hR h v0 10)) then
    if v2 < (hI h (hR h v0 10) v1.toNat) then (
      some (0, h)
    ) else
    f_mP_isNone_b14 v0 h
  else none
def f_mWire_look (v0 : Nat) (v1 : Nat) (v2 : Int) (v3 : Int) (h : Hp) : Option (Hp) :=
  lt1 (sR h v0 0 v1) fun h1 =>
  lt1 (sI h1 v0 1 v2) fun h2 =>
  lt1 (sI h2 v0 2 v3) fun h3 =>
  lt1 (sI h3 v0 3 0) fun h4 =>
  some h4
def f_mWire_take_b20 (v0 : Nat) (h : Hp) : Option (Int × Hp) :=
  lt1 (sI h v0 3 1) fun h5 =>
  some (0, h5)
def f_mWire_take_b32 (k32 : Nat → Int → Int → Int → Hp → Option (Int × Hp)) (v0 : Nat) (v1 : Int) (v2 : Int) (v4 : Int) (h : Hp) : Option (Int × Hp) :=
  if v1 ≤ v4 then (
    some (v2, h)
  ) else
  if hR h v0 0 = 0 then none else
  if ix (hI h v0 1) (ln h (hR h v0 0)) then
    lt1 (lOr (lShl v2 8) (hI h (hR h v0 0) ((hI h v0 1).toNat))) fun y3 =>
    lt1 (sI h v0 1 (w32 ((hI h v0 1) + 1))) fun h4 =>
    k32 v0 v1 y3 (w32 (v4 + 1)) h4
  else none
def f_mWire_take_b32_lp : Nat → Nat → Int → Int → Int → Hp → Option (Int × Hp)
  | 0, _, _, _, _, _ => none
  | n + 1, v0, v1, v2, v4, h => f_mWire_take_b32 (f_mWire_take_b32_lp n) v0 v1 v2 v4 h
def f_mWire_take (v0 : Nat) (v1 : Int) (h : Hp) : Option (Int × Hp) :=
  if (hI h v0 3) ≠ 0 then (
    f_mWire_take_b20 v0 h
  ) else
  if v1 ≤ (w32 ((hI h v0 2) - (hI h v0 1))) then (
    f_mWire_take_b32_lp FU v0 v1 0 0 h
  ) else
  f_mWire_take_b20 v0 h
def f_mWire_pass_b27 (v0 : Nat) (v3 : Int) (h : Hp) : Option (Int × Hp) :=
  lt1 (sI h v0 3 1) fun h3 =>
  some (v3, h3)
def f_mWire_pass (v0 : Nat) (v1 : Int) (h : Hp) : Option (Int × Hp) :=
  lt1 (hI h v0 1) fun y1 =>
  if (hI h v0 3) ≠ 0 then (
    f_mWire_pass_b27 v0 y1 h
  ) else
  if v1 ≤ (w32 ((hI h v0 2) - (hI h v0 1))) then (
    lt1 (sI h v0 1 (w32 ((hI h v0 1) + (w32 v1)))) fun h2 =>
    some (y1, h2)
  ) else
  f_mWire_pass_b27 v0 y1 h
def f_mP_readsName (v0 : Nat) (v1 : Int) (h : Hp) : Option (Int × Hp) :=
  if hR h v0 22 = 0 then none else
  b2 (f_mWire_take (hR h v0 22) 1 h) fun r4 h2 =>
  lt1 (w32 r4) fun y5 =>
  if hR h2 v0 22 = 0 then none else
  if (hI h2 (hR h2 v0 22) 3) ≠ 0 then (
    some (0, h2)
  ) else
  if y5 ≤ 20 then (
    b2 (f_mWire_pass (hR h2 v0 22) y5 h2) fun r9 h7 =>
    if hR h2 v0 19 = 0 then none else
    if ix v1 (ln h7 (hR h2 v0 19)) then
      lt1 (sI h7 (hR h2 v0 19) v1.toNat r9) fun h12 =>
      if hR h12 v0 19 = 0 then none else
      if ix (w32 (v1 + 1)) (ln h12 (hR h12 v0 19)) then
        lt1 (sI h12 (hR h12 v0 19) ((w32 (v1 + 1)).toNat) y5) fun h15 =>
        if hR h15 v0 22 = 0 then none else
        if (hI h15 (hR h15 v0 22) 3) ≠ 0 then (
          some (0, h15)
        ) else
        some (1, h15)
      else none
    else none
  ) else
  some (0, h2)
def f_mWire_takeNumber_b18 (v0 : Nat) (h : Hp) : Option (Int × Hp) :=
  lt1 (sI h v0 3 1) fun h7 =>
  some (0, h7)
def f_mWire_takeNumber_b69 (v0 : Nat) (s0 : Int) (s1 : Int) (h : Hp) : Option (Int × Hp) :=
  some (lAnd s0 s1, h)
def f_mWire_takeNumber (v0 : Nat) (h : Hp) : Option (Int × Hp) :=
  if (hI h v0 3) ≠ 0 then (
    f_mWire_takeNumber_b18 v0 h
  ) else
  if (hI h v0 1) < (hI h v0 2) then (
    if hR h v0 0 = 0 then none else
    if ix (hI h v0 1) (ln h (hR h v0 0)) then
      lt1 (iShl 1 (iShr (hI h (hR h v0 0) ((hI h v0 1).toNat)) 6)) fun y3 =>
      b2 (f_mWire_take v0 y3 h) fun r6 h4 =>
      if y3 ≠ 8 then (
        f_mWire_takeNumber_b69 v0 r6 (w64 ((lShl 1 (w32 ((w32 (8 * y3)) - 2))) - 1)) h4
      ) else
      f_mWire_takeNumber_b69 v0 r6 4611686018427387903 h4
    else none
  ) else
  f_mWire_takeNumber_b18 v0 h
def f_mP_reads_b257 (v0 : Nat) (v2 : Int) (h : Hp) : Option (Int × Hp) :=
  if hR h v0 22 = 0 then none else
  b2 (f_mWire_takeNumber (hR h v0 22) h) fun r69 h67 =>
  if hR h67 v0 22 = 0 then none else
  if (hI h67 (hR h67 v0 22) 3) ≠ 0 then (
    some ((-1), h67)
  ) else
  if r69 < 20 then (
    some ((-1), h67)
  ) else
  if r69 ≤ (w32 (v2 - (hI h67 (hR h67 v0 22) 1))) then (
    if hR h67 v0 19 = 0 then none else
    if ix 4 (ln h67 (hR h67 v0 19)) then
      lt1 (sI h67 (hR h67 v0 19) (Int.toNat 4) (hI h67 (hR h67 v0 22) 1)) fun h73 =>
      if hR h73 v0 22 = 0 then none else
      if hR h73 v0 19 = 0 then none else
      if ix 5 (ln h73 (hR h73 v0 19)) then
        lt1 (sI h73 (hR h73 v0 19) (Int.toNat 5) (w32 ((hI h73 (hR h73 v0 22) 1) + (w32 r69)))) fun h77 =>
        if hR h77 v0 19 = 0 then none else
        if ix 5 (ln h77 (hR h77 v0 19)) then
          some (hI h77 (hR h77 v0 19) (Int.toNat 5), h77)
        else none
      else none
    else none
  ) else
  some ((-1), h67)
def f_mP_reads_b15 (k15 : Nat → Int → Int → Int → Hp → Option (Int × Hp)) (v0 : Nat) (v1 : Int) (v2 : Int) (v3 : Int) (h : Hp) : Option (Int × Hp) :=
  if 10 ≤ v3 then (
    if hR h v0 22 = 0 then none else
    b2 (f_mWire_take (hR h v0 22) 1 h) fun r7 h5 =>
    lt1 (w32 r7) fun y8 =>
    if hR h5 v0 22 = 0 then none else
    if (hI h5 (hR h5 v0 22) 3) ≠ 0 then (
      some ((-1), h5)
    ) else
    if (iAnd y8 64) ≠ 0 then (
      if hR h5 v0 19 = 0 then none else
      if ix 3 (ln h5 (hR h5 v0 19)) then
        lt1 (sI h5 (hR h5 v0 19) (Int.toNat 3) v1) fun h12 =>
        if 128 ≤ y8 then (
          if hR h12 v0 19 = 0 then none else
          if ix 0 (ln h12 (hR h12 v0 19)) then
            lt1 (sI h12 (hR h12 v0 19) (Int.toNat 0) (iAnd (iShr y8 4) 3)) fun h15 =>
            if hR h15 v0 22 = 0 then none else
            b2 (f_mWire_take (hR h15 v0 22) 4 h15) fun r19 h17 =>
            if r19 ≠ 1 then (
              some ((-1), h17)
            ) else
            if hR h17 v0 22 = 0 then none else
            if (hI h17 (hR h17 v0 22) 3) ≠ 0 then (
              some ((-1), h17)
            ) else
            b2 (f_mP_readsName v0 6 h17) fun r23 h21 =>
            if r23 = 0 then (
              some ((-1), h21)
            ) else
            b2 (f_mP_readsName v0 8 h21) fun r26 h24 =>
            if r26 ≠ 0 then (
              if hR h24 v0 19 = 0 then none else
              if ix 0 (ln h24 (hR h24 v0 19)) then
                if (hI h24 (hR h24 v0 19) (Int.toNat 0)) = 1 then (
                  some ((-1), h24)
                ) else
                if ix 0 (ln h24 (hR h24 v0 19)) then
                  if (hI h24 (hR h24 v0 19) (Int.toNat 0)) ≠ 3 then (
                    if ix 0 (ln h24 (hR h24 v0 19)) then
                      if (hI h24 (hR h24 v0 19) (Int.toNat 0)) ≠ 0 then (
                        f_mP_reads_b257 v0 v2 h24
                      ) else
                      if hR h24 v0 22 = 0 then none else
                      b2 (f_mWire_takeNumber (hR h24 v0 22) h24) fun r34 h32 =>
                      b2 (f_mWire_pass (hR h24 v0 22) r34 h32) fun r37 h35 =>
                      f_mP_reads_b257 v0 v2 h35
                    else none
                  ) else
                  some ((-1), h24)
                else none
              else none
            ) else
            some ((-1), h24)
          else none
        ) else
        if hR h12 v0 19 = 0 then none else
        if ix 0 (ln h12 (hR h12 v0 19)) then
          lt1 (sI h12 (hR h12 v0 19) (Int.toNat 0) 4) fun h40 =>
          if hR h40 v0 22 = 0 then none else
          b2 (f_mWire_pass (hR h40 v0 22) 8 h40) fun r44 h42 =>
          if hR h40 v0 19 = 0 then none else
          if ix 6 (ln h42 (hR h40 v0 19)) then
            lt1 (sI h42 (hR h40 v0 19) (Int.toNat 6) r44) fun h47 =>
            if hR h47 v0 19 = 0 then none else
            if ix 7 (ln h47 (hR h47 v0 19)) then
              lt1 (sI h47 (hR h47 v0 19) (Int.toNat 7) 8) fun h50 =>
              if hR h50 v0 22 = 0 then none else
              if hR h50 v0 19 = 0 then none else
              if ix 4 (ln h50 (hR h50 v0 19)) then
                lt1 (sI h50 (hR h50 v0 19) (Int.toNat 4) (hI h50 (hR h50 v0 22) 1)) fun h54 =>
                if hR h54 v0 22 = 0 then none else
                b2 (f_mWire_pass (hR h54 v0 22) 20 h54) fun r58 h56 =>
                if hR h56 v0 19 = 0 then none else
                if ix 5 (ln h56 (hR h56 v0 19)) then
                  lt1 (sI h56 (hR h56 v0 19) (Int.toNat 5) v2) fun h61 =>
                  if hR h61 v0 22 = 0 then none else
                  if (hI h61 (hR h61 v0 22) 3) = 0 then (
                    some (v2, h61)
                  ) else
                  some ((-1), h61)
                else none
              else none
            else none
          else none
        else none
      else none
    ) else
    some ((-1), h5)
  ) else
  if hR h v0 19 = 0 then none else
  if ix v3 (ln h (hR h v0 19)) then
    lt1 (sI h (hR h v0 19) v3.toNat 0) fun h65 =>
    k15 v0 v1 v2 (w32 (v3 + 1)) h65
  else none
def f_mP_reads_b15_lp : Nat → Nat → Int → Int → Int → Hp → Option (Int × Hp)
  | 0, _, _, _, _, _ => none
  | n + 1, v0, v1, v2, v3, h => f_mP_reads_b15 (f_mP_reads_b15_lp n) v0 v1 v2 v3 h
def f_mP_reads (v0 : Nat) (v1 : Int) (v2 : Int) (h : Hp) : Option (Int × Hp) :=
  if hR h v0 22 = 0 then none else
  b1 (f_mWire_look (hR h v0 22) (hR h v0 18) v1 v2 h) fun h2 =>
  f_mP_reads_b15_lp FU v0 v1 v2 0 h2
def f_mP_isSame_b62 (k22 : Nat → Int → Int → Hp → Option (Int × Hp)) (v0 : Nat) (v2 : Int) (s0 : Int) (h : Hp) : Option (Int × Hp) :=
  k22 v0 s0 (w32 (v2 + 1)) h
def f_mP_isSame_b22 (k22 : Nat → Int → Int → Hp → Option (Int × Hp)) (v0 : Nat) (v1 : Int) (v2 : Int) (h : Hp) : Option (Int × Hp) :=
  if (hI h v0 21) ≤ v2 then (
    if v1 = 0 ∨ v1 = 1 then some (v1, h) else none
  ) else
  if v1 = 0 then (
    if v1 = 0 ∨ v1 = 1 then some (v1, h) else none
  ) else
  if hR h v0 19 = 0 then none else
  if ix 6 (ln h (hR h v0 19)) then
    if hR h v0 18 = 0 then none else
    if ix (w32 ((hI h (hR h v0 19) (Int.toNat 6)) + v2)) (ln h (hR h v0 18)) then
      if hR h v0 20 = 0 then none else
      if ix v2 (ln h (hR h v0 20)) then
        if (hI h (hR h v0 18) ((w32 ((hI h (hR h v0 19) (Int.toNat 6)) + v2)).toNat)) ≠ (hI h (hR h v0 20) v2.toNat) then (
          f_mP_isSame_b62 k22 v0 v2 0 h
        ) else
        f_mP_isSame_b62 k22 v0 v2 1 h
      else none
    else none
  else none
def f_mP_isSame_b22_lp : Nat → Nat → Int → Int → Hp → Option (Int × Hp)
  | 0, _, _, _, _ => none
  | n + 1, v0, v1, v2, h => f_mP_isSame_b22 (f_mP_isSame_b22_lp n) v0 v1 v2 h
def f_mP_isSame_b19 (v0 : Nat) (s0 : Int) (h : Hp) : Option (Int × Hp) :=
  f_mP_isSame_b22_lp FU v0 s0 0 h
def f_mP_isSame (v0 : Nat) (h : Hp) : Option (Int × Hp) :=
  if hR h v0 19 = 0 then none else
  if ix 7 (ln h (hR h v0 19)) then
    if (hI h (hR h v0 19) (Int.toNat 7)) ≠ (hI h v0 21) then (
      f_mP_isSame_b19 v0 0 h
    ) else
    f_mP_isSame_b19 v0 1 h
  else none
def f_mSeals_wordOf (v0 : Nat) (v1 : Int) (h : Hp) : Option (Int × Hp) :=
  if v0 = 0 then none else
  if ix v1 (ln h v0) then
    if ix (w32 (v1 + 1)) (ln h v0) then
      if ix (w32 (v1 + 2)) (ln h v0) then
        if ix (w32 (v1 + 3)) (ln h v0) then
          some (lOr (iOr (iOr (hI h v0 v1.toNat) (iShl (hI h v0 ((w32 (v1 + 1)).toNat)) 8)) (iShl (hI h v0 ((w32 (v1 + 2)).toNat)) 16)) (lShl (hI h v0 ((w32 (v1 + 3)).toNat)) 24), h)
        else none
      else none
    else none
  else none
def f_mSeals_left (v0 : Int) (v2 : Int) (h : Hp) : Option (Int × Hp) :=
  some (lAnd (lOr (lShl v0 v2) (lShr v0 (w32 (32 - v2)))) 4294967295, h)
def f_mSeals_half (v0 : Nat) (v1 : Int) (v2 : Int) (v3 : Int) (v4 : Int) (h : Hp) : Option (Hp) :=
  if hR h v0 17 = 0 then none else
  if ix v1 (ln h (hR h v0 17)) then
    if ix v2 (ln h (hR h v0 17)) then
      if ix v1 (ln h (hR h v0 17)) then
        lt1 (sJ h (hR h v0 17) v1.toNat (lAnd (w64 ((hJ h (hR h v0 17) v1.toNat) + (hJ h (hR h v0 17) v2.toNat))) 4294967295)) fun h5 =>
        if hR h5 v0 17 = 0 then none else
        if ix v3 (ln h5 (hR h5 v0 17)) then
          if ix v1 (ln h5 (hR h5 v0 17)) then
            b2 (f_mSeals_left (lXor (hJ h5 (hR h5 v0 17) v3.toNat) (hJ h5 (hR h5 v0 17) v1.toNat)) v4 h5) fun r11 h9 =>
            if ix v3 (ln h9 (hR h5 v0 17)) then
              lt1 (sJ h9 (hR h5 v0 17) v3.toNat r11) fun h13 =>
              some h13
            else none
          else none
        else none
      else none
    else none
  else none
def f_mSeals_mix (v0 : Nat) (v1 : Int) (v2 : Int) (v3 : Int) (v4 : Int) (h : Hp) : Option (Hp) :=
  b1 (f_mSeals_half v0 v1 v2 v4 16 h) fun h1 =>
  b1 (f_mSeals_half v0 v3 v4 v2 12 h1) fun h3 =>
  b1 (f_mSeals_half v0 v1 v2 v4 8 h3) fun h5 =>
  b1 (f_mSeals_half v0 v3 v4 v2 7 h5) fun h7 =>
  some h7
def f_mSeals_blockOf_b213 (k213 : Nat → Int → Hp → Option (Hp)) (v0 : Nat) (v3 : Int) (h : Hp) : Option (Hp) :=
  if 64 ≤ v3 then (
    some h
  ) else
  if hR h v0 17 = 0 then none else
  if ix (iDiv v3 4) (ln h (hR h v0 17)) then
    if hR h v0 18 = 0 then none else
    if ix (iDiv v3 4) (ln h (hR h v0 18)) then
      if hR h v0 19 = 0 then none else
      if ix v3 (ln h (hR h v0 19)) then
        lt1 (sI h (hR h v0 19) v3.toNat (w32 (lAnd (lShr (lAnd (w64 ((hJ h (hR h v0 17) ((iDiv v3 4).toNat)) + (hJ h (hR h v0 18) ((iDiv v3 4).toNat)))) 4294967295) (w32 (8 * (iRem v3 4)))) 255))) fun h42 =>
        k213 v0 (w32 (v3 + 1)) h42
      else none
    else none
  else none
def f_mSeals_blockOf_b213_lp : Nat → Nat → Int → Hp → Option (Hp)
  | 0, _, _, _ => none
  | n + 1, v0, v3, h => f_mSeals_blockOf_b213 (f_mSeals_blockOf_b213_lp n) v0 v3 h
def f_mSeals_blockOf_b154 (k140 : Nat → Int → Hp → Option (Hp)) (k154 : Nat → Int → Int → Int → Hp → Option (Hp)) (v0 : Nat) (v3 : Int) (v4 : Int) (v5 : Int) (h : Hp) : Option (Hp) :=
  if 4 ≤ v5 then (
    k140 v0 (w32 (v3 + 1)) h
  ) else
  b1 (f_mSeals_mix v0 v5 (w32 (4 + (iRem (w32 (v5 + v4)) 4))) (w32 (8 + (iRem (w32 (v5 + (w32 (2 * v4)))) 4))) (w32 (12 + (iRem (w32 (v5 + (w32 (3 * v4)))) 4))) h) fun h34 =>
  k154 v0 v3 v4 (w32 (v5 + 1)) h34
def f_mSeals_blockOf_b154_lp (k140 : Nat → Int → Hp → Option (Hp)) : Nat → Nat → Int → Int → Int → Hp → Option (Hp)
  | 0, _, _, _, _, _ => none
  | n + 1, v0, v3, v4, v5, h => f_mSeals_blockOf_b154 k140 (f_mSeals_blockOf_b154_lp k140 n) v0 v3 v4 v5 h
def f_mSeals_blockOf_b140 (k140 : Nat → Int → Hp → Option (Hp)) (v0 : Nat) (v3 : Int) (h : Hp) : Option (Hp) :=
  if 20 ≤ v3 then (
    f_mSeals_blockOf_b213_lp FU v0 0 h
  ) else
  lt1 (iRem v3 2) fun y33 =>
  f_mSeals_blockOf_b154_lp k140 FU v0 v3 y33 0 h
def f_mSeals_blockOf_b140_lp : Nat → Nat → Int → Hp → Option (Hp)
  | 0, _, _, _ => none
  | n + 1, v0, v3, h => f_mSeals_blockOf_b140 (f_mSeals_blockOf_b140_lp n) v0 v3 h
def f_mSeals_blockOf_b114 (k114 : Nat → Int → Hp → Option (Hp)) (v0 : Nat) (v3 : Int) (h : Hp) : Option (Hp) :=
  if 16 ≤ v3 then (
    f_mSeals_blockOf_b140_lp FU v0 0 h
  ) else
  if hR h v0 18 = 0 then none else
  if ix v3 (ln h (hR h v0 18)) then
    if hR h v0 17 = 0 then none else
    if ix v3 (ln h (hR h v0 17)) then
      lt1 (sJ h (hR h v0 17) v3.toNat (hJ h (hR h v0 18) v3.toNat)) fun h32 =>
      k114 v0 (w32 (v3 + 1)) h32
    else none
  else none
def f_mSeals_blockOf_b114_lp : Nat → Nat → Int → Hp → Option (Hp)
  | 0, _, _, _ => none
  | n + 1, v0, v3, h => f_mSeals_blockOf_b114 (f_mSeals_blockOf_b114_lp n) v0 v3 h
def f_mSeals_blockOf_b82 (k82 : Nat → Int → Hp → Option (Hp)) (v0 : Nat) (v3 : Int) (h : Hp) : Option (Hp) :=
  if 3 ≤ v3 then (
    f_mSeals_blockOf_b114_lp FU v0 0 h
  ) else
  b2 (f_mSeals_wordOf (hR h v0 16) (w32 (4 * v3)) h) fun r24 h22 =>
  if hR h v0 18 = 0 then none else
  if ix (w32 (13 + v3)) (ln h22 (hR h v0 18)) then
    lt1 (sJ h22 (hR h v0 18) ((w32 (13 + v3)).toNat) r24) fun h27 =>
    k82 v0 (w32 (v3 + 1)) h27
  else none
def f_mSeals_blockOf_b82_lp : Nat → Nat → Int → Hp → Option (Hp)
  | 0, _, _, _ => none
  | n + 1, v0, v3, h => f_mSeals_blockOf_b82 (f_mSeals_blockOf_b82_lp n) v0 v3 h
def f_mSeals_blockOf_b38 (k38 : Nat → Int → Int → Hp → Option (Hp)) (v0 : Nat) (v1 : Int) (v3 : Int) (h : Hp) : Option (Hp) :=
  if 8 ≤ v3 then (
    if hR h v0 18 = 0 then none else
    if ix 12 (ln h (hR h v0 18)) then
      lt1 (sJ h (hR h v0 18) (Int.toNat 12) (lAnd v1 4294967295)) fun h15 =>
      f_mSeals_blockOf_b82_lp FU v0 0 h15
    else none
  ) else
  b2 (f_mSeals_wordOf (hR h v0 15) (w32 (4 * v3)) h) fun r18 h16 =>
  if hR h v0 18 = 0 then none else
  if ix (w32 (4 + v3)) (ln h16 (hR h v0 18)) then
    lt1 (sJ h16 (hR h v0 18) ((w32 (4 + v3)).toNat) r18) fun h21 =>
    k38 v0 v1 (w32 (v3 + 1)) h21
  else none
def f_mSeals_blockOf_b38_lp : Nat → Nat → Int → Int → Hp → Option (Hp)
  | 0, _, _, _, _ => none
  | n + 1, v0, v1, v3, h => f_mSeals_blockOf_b38 (f_mSeals_blockOf_b38_lp n) v0 v1 v3 h
def f_mSeals_blockOf (v0 : Nat) (v1 : Int) (h : Hp) : Option (Hp) :=
  if hR h v0 18 = 0 then none else
  if ix 0 (ln h (hR h v0 18)) then
    lt1 (sJ h (hR h v0 18) (Int.toNat 0) 1634760805) fun h3 =>
    if hR h3 v0 18 = 0 then none else
    if ix 1 (ln h3 (hR h3 v0 18)) then
      lt1 (sJ h3 (hR h3 v0 18) (Int.toNat 1) 857760878) fun h6 =>
      if hR h6 v0 18 = 0 then none else
      if ix 2 (ln h6 (hR h6 v0 18)) then
        lt1 (sJ h6 (hR h6 v0 18) (Int.toNat 2) 2036477234) fun h9 =>
        if hR h9 v0 18 = 0 then none else
        if ix 3 (ln h9 (hR h9 v0 18)) then
          lt1 (sJ h9 (hR h9 v0 18) (Int.toNat 3) 1797285236) fun h12 =>
          f_mSeals_blockOf_b38_lp FU v0 v1 0 h12
        else none
      else none
    else none
  else none
def f_mSeals_shield_b130 (k130 : Nat → Nat → Int → Int → Int → Int → Int → Hp → Option (Int × Hp)) (v0 : Nat) (v3 : Nat) (v4 : Int) (v5 : Int) (v7 : Int) (v8 : Int) (v9 : Int) (h : Hp) : Option (Int × Hp) :=
  if v8 ≤ v9 then (
    if v3 = 0 then none else
    if ix v4 (ln h v3) then
      lt1 (sI h v3 v4.toNat v7) fun h27 =>
      some (v8, h27)
    else none
  ) else
  if v3 = 0 then none else
  if ix (w32 (v5 + v9)) (ln h v3) then
    if hR h v0 19 = 0 then none else
    if ix (w32 (1 + v9)) (ln h (hR h v0 19)) then
      if ix (w32 (v5 + v9)) (ln h v3) then
        lt1 (sI h v3 ((w32 (v5 + v9)).toNat) (iXor (hI h v3 ((w32 (v5 + v9)).toNat)) (hI h (hR h v0 19) ((w32 (1 + v9)).toNat)))) fun h33 =>
        k130 v0 v3 v4 v5 v7 v8 (w32 (v9 + 1)) h33
      else none
    else none
  else none
def f_mSeals_shield_b130_lp : Nat → Nat → Nat → Int → Int → Int → Int → Int → Hp → Option (Int × Hp)
  | 0, _, _, _, _, _, _, _, _ => none
  | n + 1, v0, v3, v4, v5, v7, v8, v9, h => f_mSeals_shield_b130 (f_mSeals_shield_b130_lp n) v0 v3 v4 v5 v7 v8 v9 h
def f_mSeals_shield_b121 (v0 : Nat) (v3 : Nat) (v4 : Int) (v5 : Int) (v7 : Int) (s0 : Int) (h : Hp) : Option (Int × Hp) :=
  lt1 (w32 ((iAnd s0 3) + 1)) fun y24 =>
  f_mSeals_shield_b130_lp FU v0 v3 v4 v5 v7 y24 0 h
def f_mSeals_shield_b103 (v0 : Nat) (v3 : Nat) (v4 : Int) (v5 : Int) (v6 : Int) (s0 : Int) (s1 : Int) (s2 : Int) (h : Hp) : Option (Int × Hp) :=
  lt1 (iXor s0 (iAnd s1 s2)) fun y21 =>
  if v6 = 0 then (
    f_mSeals_shield_b121 v0 v3 v4 v5 y21 y21 h
  ) else
  if v3 = 0 then none else
  if ix v4 (ln h v3) then
    f_mSeals_shield_b121 v0 v3 v4 v5 y21 (hI h v3 v4.toNat) h
  else none
def f_mSeals_shield_b35 (k35 : Nat → Nat → Int → Int → Int → Int → Hp → Option (Int × Hp)) (v0 : Nat) (v3 : Nat) (v4 : Int) (v5 : Int) (v6 : Int) (v7 : Int) (h : Hp) : Option (Int × Hp) :=
  if 12 ≤ v7 then (
    b2 (f_mSeals_wordOf v3 (w32 (v5 + 4)) h) fun r8 h6 =>
    b1 (f_mSeals_blockOf v0 r8 h6) fun h9 =>
    if v3 = 0 then none else
    if ix v4 (ln h9 v3) then
      if hR h9 v0 19 = 0 then none else
      if ix 0 (ln h9 (hR h9 v0 19)) then
        if ix v4 (ln h9 v3) then
          if (hI h9 v3 v4.toNat) ≤ 127 then (
            f_mSeals_shield_b103 v0 v3 v4 v5 v6 (hI h9 v3 v4.toNat) (hI h9 (hR h9 v0 19) (Int.toNat 0)) 31 h9
          ) else
          f_mSeals_shield_b103 v0 v3 v4 v5 v6 (hI h9 v3 v4.toNat) (hI h9 (hR h9 v0 19) (Int.toNat 0)) 15 h9
        else none
      else none
    else none
  ) else
  if v3 = 0 then none else
  if ix (w32 ((w32 (v5 + 8)) + v7)) (ln h v3) then
    if hR h v0 16 = 0 then none else
    if ix v7 (ln h (hR h v0 16)) then
      lt1 (sI h (hR h v0 16) v7.toNat (hI h v3 ((w32 ((w32 (v5 + 8)) + v7)).toNat))) fun h20 =>
      k35 v0 v3 v4 v5 v6 (w32 (v7 + 1)) h20
    else none
  else none
def f_mSeals_shield_b35_lp : Nat → Nat → Nat → Int → Int → Int → Int → Hp → Option (Int × Hp)
  | 0, _, _, _, _, _, _, _ => none
  | n + 1, v0, v3, v4, v5, v6, v7, h => f_mSeals_shield_b35 (f_mSeals_shield_b35_lp n) v0 v3 v4 v5 v6 v7 h
def f_mSeals_shield_b3 (k3 : Nat → Nat → Int → Nat → Int → Int → Int → Int → Hp → Option (Int × Hp)) (v0 : Nat) (v1 : Nat) (v2 : Int) (v3 : Nat) (v4 : Int) (v5 : Int) (v6 : Int) (v7 : Int) (h : Hp) : Option (Int × Hp) :=
  if 32 ≤ v7 then (
    f_mSeals_shield_b35_lp FU v0 v3 v4 v5 v6 0 h
  ) else
  if v1 = 0 then none else
  if ix (w32 ((w32 (v2 + 32)) + v7)) (ln h v1) then
    if hR h v0 15 = 0 then none else
    if ix v7 (ln h (hR h v0 15)) then
      lt1 (sI h (hR h v0 15) v7.toNat (hI h v1 ((w32 ((w32 (v2 + 32)) + v7)).toNat))) fun h5 =>
      k3 v0 v1 v2 v3 v4 v5 v6 (w32 (v7 + 1)) h5
    else none
  else none
def f_mSeals_shield_b3_lp : Nat → Nat → Nat → Int → Nat → Int → Int → Int → Int → Hp → Option (Int × Hp)
  | 0, _, _, _, _, _, _, _, _, _ => none
  | n + 1, v0, v1, v2, v3, v4, v5, v6, v7, h => f_mSeals_shield_b3 (f_mSeals_shield_b3_lp n) v0 v1 v2 v3 v4 v5 v6 v7 h
def f_mSeals_shield (v0 : Nat) (v1 : Nat) (v2 : Int) (v3 : Nat) (v4 : Int) (v5 : Int) (v6 : Int) (h : Hp) : Option (Int × Hp) :=
  f_mSeals_shield_b3_lp FU v0 v1 v2 v3 v4 v5 v6 0 h
def f_mSide_grown_b112 (k25 : Int → Int → Int → Int → Int → Int → Hp → Option (Int × Hp)) (v2 : Int) (v5 : Int) (v7 : Int) (v9 : Int) (v11 : Int) (v13 : Int) (h : Hp) : Option (Int × Hp) :=
  k25 v2 v5 v7 v9 v11 (w32 (v13 + 1)) h
def f_mSide_grown_b104 (k25 : Int → Int → Int → Int → Int → Int → Hp → Option (Int × Hp)) (v2 : Int) (v5 : Int) (v7 : Int) (v13 : Int) (v14 : Int) (v16 : Int) (h : Hp) : Option (Int × Hp) :=
  f_mSide_grown_b112 k25 v2 v5 v7 v14 v16 v13 h
def f_mSide_grown_b87 (k25 : Int → Int → Int → Int → Int → Int → Hp → Option (Int × Hp)) (v2 : Int) (v5 : Int) (v7 : Int) (v9 : Int) (v11 : Int) (v13 : Int) (v14 : Int) (s0 : Int) (h : Hp) : Option (Int × Hp) :=
  if v9 < 0 then (
    f_mSide_grown_b104 k25 v2 v5 v7 v13 v14 s0 h
  ) else
  if v11 < s0 then (
    f_mSide_grown_b112 k25 v2 v5 v7 v9 v11 v13 h
  ) else
  f_mSide_grown_b104 k25 v2 v5 v7 v13 v14 s0 h
def f_mSide_grown_b25 (k25 : Int → Int → Int → Int → Int → Int → Hp → Option (Int × Hp)) (v2 : Int) (v5 : Int) (v7 : Int) (v9 : Int) (v11 : Int) (v13 : Int) (h : Hp) : Option (Int × Hp) :=
  if 2 ≤ v13 then (
    some (v9, h)
  ) else
  if v5 = 0 then none else
  lt1 (w64 ((w64 ((w64 ((lDiv v7 v5) + v13)) * v5)) + v2)) fun y4 =>
  if y4 < 0 then (
    f_mSide_grown_b112 k25 v2 v5 v7 v9 v11 v13 h
  ) else
  if y4 ≤ 4611686018427387903 then (
    if v7 ≤ y4 then (
      f_mSide_grown_b87 k25 v2 v5 v7 v9 v11 v13 y4 (w64 (y4 - v7)) h
    ) else
    f_mSide_grown_b87 k25 v2 v5 v7 v9 v11 v13 y4 (w64 (v7 - y4)) h
  ) else
  f_mSide_grown_b112 k25 v2 v5 v7 v9 v11 v13 h
def f_mSide_grown_b25_lp : Nat → Int → Int → Int → Int → Int → Int → Hp → Option (Int × Hp)
  | 0, _, _, _, _, _, _, _ => none
  | n + 1, v2, v5, v7, v9, v11, v13, h => f_mSide_grown_b25 (f_mSide_grown_b25_lp n) v2 v5 v7 v9 v11 v13 h
def f_mSide_grown (v0 : Int) (v2 : Int) (v4 : Int) (h : Hp) : Option (Int × Hp) :=
  lt1 (lShl 1 (w32 (8 * v4))) fun y1 =>
  lt1 (w64 (v0 + 1)) fun y2 =>
  f_mSide_grown_b25_lp FU v2 y1 y2 (-1) 0 (-1) h
def f_mSeals_nonceOf_b79 (k32 : Nat → Nat → Int → Int → Int → Hp → Option (Hp)) (v0 : Nat) (v1 : Nat) (v2 : Int) (v3 : Int) (v5 : Int) (s0 : Nat) (s1 : Int) (s2 : Int) (s3 : Int) (h : Hp) : Option (Hp) :=
  if s0 = 0 then none else
  if ix s1 (ln h s0) then
    lt1 (sI h s0 s1.toNat (iXor s2 s3)) fun h10 =>
    k32 v0 v1 v2 v3 (w32 (v5 + 1)) h10
  else none
def f_mSeals_nonceOf_b32 (k32 : Nat → Nat → Int → Int → Int → Hp → Option (Hp)) (v0 : Nat) (v1 : Nat) (v2 : Int) (v3 : Int) (v5 : Int) (h : Hp) : Option (Hp) :=
  if 12 ≤ v5 then (
    some h
  ) else
  if v1 = 0 then none else
  if ix (w32 ((w32 (v2 + 64)) + v5)) (ln h v1) then
    if 4 ≤ v5 then (
      f_mSeals_nonceOf_b79 k32 v0 v1 v2 v3 v5 (hR h v0 16) v5 (hI h v1 ((w32 ((w32 (v2 + 64)) + v5)).toNat)) (w32 (lAnd (lShr v3 (w32 (8 * (w32 (11 - v5))))) 255)) h
    ) else
    f_mSeals_nonceOf_b79 k32 v0 v1 v2 v3 v5 (hR h v0 16) v5 (hI h v1 ((w32 ((w32 (v2 + 64)) + v5)).toNat)) 0 h
  else none
def f_mSeals_nonceOf_b32_lp : Nat → Nat → Nat → Int → Int → Int → Hp → Option (Hp)
  | 0, _, _, _, _, _, _ => none
  | n + 1, v0, v1, v2, v3, v5, h => f_mSeals_nonceOf_b32 (f_mSeals_nonceOf_b32_lp n) v0 v1 v2 v3 v5 h
def f_mSeals_nonceOf_b3 (k3 : Nat → Nat → Int → Int → Int → Hp → Option (Hp)) (v0 : Nat) (v1 : Nat) (v2 : Int) (v3 : Int) (v5 : Int) (h : Hp) : Option (Hp) :=
  if 32 ≤ v5 then (
    f_mSeals_nonceOf_b32_lp FU v0 v1 v2 v3 0 h
  ) else
  if v1 = 0 then none else
  if ix (w32 (v2 + v5)) (ln h v1) then
    if hR h v0 15 = 0 then none else
    if ix v5 (ln h (hR h v0 15)) then
      lt1 (sI h (hR h v0 15) v5.toNat (hI h v1 ((w32 (v2 + v5)).toNat))) fun h5 =>
      k3 v0 v1 v2 v3 (w32 (v5 + 1)) h5
    else none
  else none
def f_mSeals_nonceOf_b3_lp : Nat → Nat → Nat → Int → Int → Int → Hp → Option (Hp)
  | 0, _, _, _, _, _, _ => none
  | n + 1, v0, v1, v2, v3, v5, h => f_mSeals_nonceOf_b3 (f_mSeals_nonceOf_b3_lp n) v0 v1 v2 v3 v5 h
def f_mSeals_nonceOf (v0 : Nat) (v1 : Nat) (v2 : Int) (v3 : Int) (h : Hp) : Option (Hp) :=
  f_mSeals_nonceOf_b3_lp FU v0 v1 v2 v3 0 h
def f_mSeals_fill_b2 (k2 : Nat → Int → Hp → Option (Int × Hp)) (v0 : Nat) (v2 : Int) (h : Hp) : Option (Int × Hp) :=
  if (iRem v2 16) ≤ 0 then (
    some (v2, h)
  ) else
  if hR h v0 24 = 0 then none else
  if ix v2 (ln h (hR h v0 24)) then
    lt1 (sI h (hR h v0 24) v2.toNat 0) fun h3 =>
    k2 v0 (w32 (v2 + 1)) h3
  else none
def f_mSeals_fill_b2_lp : Nat → Nat → Int → Hp → Option (Int × Hp)
  | 0, _, _, _ => none
  | n + 1, v0, v2, h => f_mSeals_fill_b2 (f_mSeals_fill_b2_lp n) v0 v2 h
def f_mSeals_fill (v0 : Nat) (v1 : Int) (h : Hp) : Option (Int × Hp) :=
  f_mSeals_fill_b2_lp FU v0 v1 h
def f_mSeals_multiply_b51 (k4 : Nat → Int → Int → Hp → Option (Hp)) (k12 : Nat → Int → Int → Int → Hp → Option (Hp)) (v0 : Nat) (v2 : Int) (v3 : Int) (s0 : Int) (s1 : Int) (h : Hp) : Option (Hp) :=
  lt1 (w32 (s0 + s1)) fun y26 =>
  k12 v0 y26 v2 (w32 (v3 + 1)) h
def f_mSeals_multiply_b59 (k4 : Nat → Int → Int → Hp → Option (Hp)) (v0 : Nat) (v1 : Int) (v2 : Int) (h : Hp) : Option (Hp) :=
  if hR h v0 22 = 0 then none else
  if ix v2 (ln h (hR h v0 22)) then
    lt1 (sI h (hR h v0 22) v2.toNat (iAnd v1 255)) fun h24 =>
    lt1 (iShr v1 8) fun y25 =>
    k4 v0 y25 (w32 (v2 + 1)) h24
  else none
def f_mSeals_multiply_b12 (k4 : Nat → Int → Int → Hp → Option (Hp)) (k12 : Nat → Int → Int → Int → Hp → Option (Hp)) (v0 : Nat) (v1 : Int) (v2 : Int) (v3 : Int) (h : Hp) : Option (Hp) :=
  if 16 ≤ v3 then (
    f_mSeals_multiply_b59 k4 v0 v1 v2 h
  ) else
  if v2 < v3 then (
    f_mSeals_multiply_b59 k4 v0 v1 v2 h
  ) else
  if 18 ≤ (w32 (v2 - v3)) then (
    f_mSeals_multiply_b51 k4 k12 v0 v2 v3 v1 0 h
  ) else
  if hR h v0 21 = 0 then none else
  if ix v3 (ln h (hR h v0 21)) then
    if hR h v0 20 = 0 then none else
    if ix (w32 (v2 - v3)) (ln h (hR h v0 20)) then
      f_mSeals_multiply_b51 k4 k12 v0 v2 v3 v1 (w32 ((hI h (hR h v0 21) v3.toNat) * (hI h (hR h v0 20) ((w32 (v2 - v3)).toNat)))) h
    else none
  else none
def f_mSeals_multiply_b12_lp (k4 : Nat → Int → Int → Hp → Option (Hp)) : Nat → Nat → Int → Int → Int → Hp → Option (Hp)
  | 0, _, _, _, _, _ => none
  | n + 1, v0, v1, v2, v3, h => f_mSeals_multiply_b12 k4 (f_mSeals_multiply_b12_lp k4 n) v0 v1 v2 v3 h
def f_mSeals_multiply_b182 (k83 : Nat → Int → Hp → Option (Hp)) (k92 : Nat → Int → Int → Int → Hp → Option (Hp)) (v0 : Nat) (v1 : Int) (v2 : Int) (v3 : Int) (v4 : Int) (s0 : Int) (h : Hp) : Option (Hp) :=
  lt1 (w32 (v1 + (w32 (s0 + (w32 (5 * v4)))))) fun y8 =>
  if hR h v0 20 = 0 then none else
  if ix v3 (ln h (hR h v0 20)) then
    lt1 (sI h (hR h v0 20) v3.toNat (iAnd y8 255)) fun h11 =>
    lt1 (iShr y8 8) fun y12 =>
    k92 v0 y12 v2 (w32 (v3 + 1)) h11
  else none
def f_mSeals_multiply_b147 (k83 : Nat → Int → Hp → Option (Hp)) (k92 : Nat → Int → Int → Int → Hp → Option (Hp)) (v0 : Nat) (v1 : Int) (v2 : Int) (v3 : Int) (s0 : Int) (h : Hp) : Option (Hp) :=
  if 16 ≤ v3 then (
    if v3 ≠ 16 then (
      f_mSeals_multiply_b182 k83 k92 v0 v1 v2 v3 s0 0 h
    ) else
    if hR h v0 22 = 0 then none else
    if ix v3 (ln h (hR h v0 22)) then
      f_mSeals_multiply_b182 k83 k92 v0 v1 v2 v3 s0 (iAnd (hI h (hR h v0 22) v3.toNat) 3) h
    else none
  ) else
  if hR h v0 22 = 0 then none else
  if ix v3 (ln h (hR h v0 22)) then
    f_mSeals_multiply_b182 k83 k92 v0 v1 v2 v3 s0 (hI h (hR h v0 22) v3.toNat) h
  else none
def f_mSeals_multiply_b139 (k83 : Nat → Int → Hp → Option (Hp)) (k92 : Nat → Int → Int → Int → Hp → Option (Hp)) (v0 : Nat) (v1 : Int) (v2 : Int) (v3 : Int) (s0 : Int) (s1 : Int) (h : Hp) : Option (Hp) :=
  f_mSeals_multiply_b147 k83 k92 v0 v1 v2 v3 (iOr s0 (iShl s1 6)) h
def f_mSeals_multiply_b218 (k83 : Nat → Int → Hp → Option (Hp)) (k218 : Nat → Int → Int → Hp → Option (Hp)) (v0 : Nat) (v2 : Int) (v3 : Int) (h : Hp) : Option (Hp) :=
  if 36 ≤ v3 then (
    k83 v0 (w32 (v2 + 1)) h
  ) else
  if hR h v0 20 = 0 then none else
  if ix v3 (ln h (hR h v0 20)) then
    if hR h v0 22 = 0 then none else
    if ix v3 (ln h (hR h v0 22)) then
      lt1 (sI h (hR h v0 22) v3.toNat (hI h (hR h v0 20) v3.toNat)) fun h17 =>
      k218 v0 v2 (w32 (v3 + 1)) h17
    else none
  else none
def f_mSeals_multiply_b218_lp (k83 : Nat → Int → Hp → Option (Hp)) : Nat → Nat → Int → Int → Hp → Option (Hp)
  | 0, _, _, _, _ => none
  | n + 1, v0, v2, v3, h => f_mSeals_multiply_b218 k83 (f_mSeals_multiply_b218_lp k83 n) v0 v2 v3 h
def f_mSeals_multiply_b92 (k83 : Nat → Int → Hp → Option (Hp)) (k92 : Nat → Int → Int → Int → Hp → Option (Hp)) (v0 : Nat) (v1 : Int) (v2 : Int) (v3 : Int) (h : Hp) : Option (Hp) :=
  if 36 ≤ v3 then (
    f_mSeals_multiply_b218_lp k83 FU v0 v2 0 h
  ) else
  if 18 ≤ v3 then (
    f_mSeals_multiply_b147 k83 k92 v0 v1 v2 v3 0 h
  ) else
  if hR h v0 22 = 0 then none else
  if ix (w32 (16 + v3)) (ln h (hR h v0 22)) then
    if 36 ≤ (w32 (17 + v3)) then (
      f_mSeals_multiply_b139 k83 k92 v0 v1 v2 v3 (iShr (hI h (hR h v0 22) ((w32 (16 + v3)).toNat)) 2) 0 h
    ) else
    if ix (w32 (17 + v3)) (ln h (hR h v0 22)) then
      f_mSeals_multiply_b139 k83 k92 v0 v1 v2 v3 (iShr (hI h (hR h v0 22) ((w32 (16 + v3)).toNat)) 2) (iAnd (hI h (hR h v0 22) ((w32 (17 + v3)).toNat)) 3) h
    else none
  else none
def f_mSeals_multiply_b92_lp (k83 : Nat → Int → Hp → Option (Hp)) : Nat → Nat → Int → Int → Int → Hp → Option (Hp)
  | 0, _, _, _, _, _ => none
  | n + 1, v0, v1, v2, v3, h => f_mSeals_multiply_b92 k83 (f_mSeals_multiply_b92_lp k83 n) v0 v1 v2 v3 h
def f_mSeals_multiply_b83 (k83 : Nat → Int → Hp → Option (Hp)) (v0 : Nat) (v2 : Int) (h : Hp) : Option (Hp) :=
  if 2 ≤ v2 then (
    some h
  ) else
  f_mSeals_multiply_b92_lp k83 FU v0 0 v2 0 h
def f_mSeals_multiply_b83_lp : Nat → Nat → Int → Hp → Option (Hp)
  | 0, _, _, _ => none
  | n + 1, v0, v2, h => f_mSeals_multiply_b83 (f_mSeals_multiply_b83_lp n) v0 v2 h
def f_mSeals_multiply_b4 (k4 : Nat → Int → Int → Hp → Option (Hp)) (v0 : Nat) (v1 : Int) (v2 : Int) (h : Hp) : Option (Hp) :=
  if 36 ≤ v2 then (
    f_mSeals_multiply_b83_lp FU v0 0 h
  ) else
  f_mSeals_multiply_b12_lp k4 FU v0 v1 v2 0 h
def f_mSeals_multiply_b4_lp : Nat → Nat → Int → Int → Hp → Option (Hp)
  | 0, _, _, _, _ => none
  | n + 1, v0, v1, v2, h => f_mSeals_multiply_b4 (f_mSeals_multiply_b4_lp n) v0 v1 v2 h
def f_mSeals_multiply (v0 : Nat) (h : Hp) : Option (Hp) :=
  f_mSeals_multiply_b4_lp FU v0 0 0 h
def f_mSeals_tallyOf_b153 (k97 : Nat → Int → Int → Hp → Option (Hp)) (k107 : Nat → Int → Int → Int → Int → Hp → Option (Hp)) (v0 : Nat) (v1 : Int) (v2 : Int) (v4 : Int) (s0 : Int) (s1 : Int) (s2 : Int) (h : Hp) : Option (Hp) :=
  lt1 (w32 (s0 + (w32 (s1 + s2)))) fun y43 =>
  if hR h v0 20 = 0 then none else
  if ix v4 (ln h (hR h v0 20)) then
    lt1 (sI h (hR h v0 20) v4.toNat (iAnd y43 255)) fun h46 =>
    lt1 (iShr y43 8) fun y47 =>
    k107 v0 v1 v2 y47 (w32 (v4 + 1)) h46
  else none
def f_mSeals_tallyOf_b107 (k97 : Nat → Int → Int → Hp → Option (Hp)) (k107 : Nat → Int → Int → Int → Int → Hp → Option (Hp)) (v0 : Nat) (v1 : Int) (v2 : Int) (v3 : Int) (v4 : Int) (h : Hp) : Option (Hp) :=
  if 18 ≤ v4 then (
    b1 (f_mSeals_multiply v0 h) fun h37 =>
    k97 v0 v1 (w32 (v2 + 16)) h37
  ) else
  if hR h v0 20 = 0 then none else
  if ix v4 (ln h (hR h v0 20)) then
    if 16 ≤ v4 then (
      if v4 ≠ 16 then (
        f_mSeals_tallyOf_b153 k97 k107 v0 v1 v2 v4 v3 (hI h (hR h v0 20) v4.toNat) 0 h
      ) else
      f_mSeals_tallyOf_b153 k97 k107 v0 v1 v2 v4 v3 (hI h (hR h v0 20) v4.toNat) 1 h
    ) else
    if hR h v0 24 = 0 then none else
    if ix (w32 (v2 + v4)) (ln h (hR h v0 24)) then
      f_mSeals_tallyOf_b153 k97 k107 v0 v1 v2 v4 v3 (hI h (hR h v0 20) v4.toNat) (hI h (hR h v0 24) ((w32 (v2 + v4)).toNat)) h
    else none
  else none
def f_mSeals_tallyOf_b107_lp (k97 : Nat → Int → Int → Hp → Option (Hp)) : Nat → Nat → Int → Int → Int → Int → Hp → Option (Hp)
  | 0, _, _, _, _, _, _ => none
  | n + 1, v0, v1, v2, v3, v4, h => f_mSeals_tallyOf_b107 k97 (f_mSeals_tallyOf_b107_lp k97 n) v0 v1 v2 v3 v4 h
def f_mSeals_tallyOf_b281 (k252 : Nat → Int → Int → Int → Hp → Option (Hp)) (v0 : Nat) (v3 : Int) (v4 : Int) (s0 : Int) (s1 : Int) (h : Hp) : Option (Hp) :=
  if hR h v0 19 = 0 then none else
  if ix (w32 (16 + v4)) (ln h (hR h v0 19)) then
    lt1 (w32 (s0 + (w32 (s1 + (hI h (hR h v0 19) ((w32 (16 + v4)).toNat)))))) fun y32 =>
    if hR h v0 23 = 0 then none else
    if ix v4 (ln h (hR h v0 23)) then
      lt1 (sI h (hR h v0 23) v4.toNat (iAnd y32 255)) fun h35 =>
      lt1 (iShr y32 8) fun y36 =>
      k252 v0 y36 v3 (w32 (v4 + 1)) h35
    else none
  else none
def f_mSeals_tallyOf_b252 (k252 : Nat → Int → Int → Int → Hp → Option (Hp)) (v0 : Nat) (v2 : Int) (v3 : Int) (v4 : Int) (h : Hp) : Option (Hp) :=
  if 16 ≤ v4 then (
    some h
  ) else
  if v3 = 0 then (
    if hR h v0 20 = 0 then none else
    if ix v4 (ln h (hR h v0 20)) then
      f_mSeals_tallyOf_b281 k252 v0 v3 v4 v2 (hI h (hR h v0 20) v4.toNat) h
    else none
  ) else
  if hR h v0 22 = 0 then none else
  if ix v4 (ln h (hR h v0 22)) then
    f_mSeals_tallyOf_b281 k252 v0 v3 v4 v2 (hI h (hR h v0 22) v4.toNat) h
  else none
def f_mSeals_tallyOf_b252_lp : Nat → Nat → Int → Int → Int → Hp → Option (Hp)
  | 0, _, _, _, _, _ => none
  | n + 1, v0, v2, v3, v4, h => f_mSeals_tallyOf_b252 (f_mSeals_tallyOf_b252_lp n) v0 v2 v3 v4 h
def f_mSeals_tallyOf_b246 (v0 : Nat) (s0 : Int) (h : Hp) : Option (Hp) :=
  f_mSeals_tallyOf_b252_lp FU v0 0 s0 0 h
def f_mSeals_tallyOf_b193 (k193 : Nat → Int → Int → Hp → Option (Hp)) (v0 : Nat) (v2 : Int) (v3 : Int) (h : Hp) : Option (Hp) :=
  if 17 ≤ v3 then (
    if hR h v0 22 = 0 then none else
    if ix 16 (ln h (hR h v0 22)) then
      if (hI h (hR h v0 22) (Int.toNat 16)) < 4 then (
        f_mSeals_tallyOf_b246 v0 0 h
      ) else
      f_mSeals_tallyOf_b246 v0 1 h
    else none
  ) else
  if hR h v0 20 = 0 then none else
  if ix v3 (ln h (hR h v0 20)) then
    lt1 (w32 (v2 + (hI h (hR h v0 20) v3.toNat))) fun y21 =>
    if hR h v0 22 = 0 then none else
    if ix v3 (ln h (hR h v0 22)) then
      lt1 (sI h (hR h v0 22) v3.toNat (iAnd y21 255)) fun h24 =>
      lt1 (iShr y21 8) fun y25 =>
      k193 v0 y25 (w32 (v3 + 1)) h24
    else none
  else none
def f_mSeals_tallyOf_b193_lp : Nat → Nat → Int → Int → Hp → Option (Hp)
  | 0, _, _, _, _ => none
  | n + 1, v0, v2, v3, h => f_mSeals_tallyOf_b193 (f_mSeals_tallyOf_b193_lp n) v0 v2 v3 h
def f_mSeals_tallyOf_b97 (k97 : Nat → Int → Int → Hp → Option (Hp)) (v0 : Nat) (v1 : Int) (v2 : Int) (h : Hp) : Option (Hp) :=
  if v1 ≤ v2 then (
    f_mSeals_tallyOf_b193_lp FU v0 5 0 h
  ) else
  f_mSeals_tallyOf_b107_lp k97 FU v0 v1 v2 0 0 h
def f_mSeals_tallyOf_b97_lp : Nat → Nat → Int → Int → Hp → Option (Hp)
  | 0, _, _, _, _ => none
  | n + 1, v0, v1, v2, h => f_mSeals_tallyOf_b97 (f_mSeals_tallyOf_b97_lp n) v0 v1 v2 h
def f_mSeals_tallyOf_b76 (k76 : Nat → Int → Int → Hp → Option (Hp)) (v0 : Nat) (v1 : Int) (v2 : Int) (h : Hp) : Option (Hp) :=
  if 40 ≤ v2 then (
    f_mSeals_tallyOf_b97_lp FU v0 v1 0 h
  ) else
  if hR h v0 20 = 0 then none else
  if ix v2 (ln h (hR h v0 20)) then
    lt1 (sI h (hR h v0 20) v2.toNat 0) fun h16 =>
    k76 v0 v1 (w32 (v2 + 1)) h16
  else none
def f_mSeals_tallyOf_b76_lp : Nat → Nat → Int → Int → Hp → Option (Hp)
  | 0, _, _, _, _ => none
  | n + 1, v0, v1, v2, h => f_mSeals_tallyOf_b76 (f_mSeals_tallyOf_b76_lp n) v0 v1 v2 h
def f_mSeals_tallyOf_b68 (k2 : Nat → Int → Int → Hp → Option (Hp)) (v0 : Nat) (v1 : Int) (v2 : Int) (h : Hp) : Option (Hp) :=
  k2 v0 v1 (w32 (v2 + 1)) h
def f_mSeals_tallyOf_b42 (k2 : Nat → Int → Int → Hp → Option (Hp)) (v0 : Nat) (v1 : Int) (v2 : Int) (h : Hp) : Option (Hp) :=
  if (iRem v2 4) ≠ 0 then (
    f_mSeals_tallyOf_b68 k2 v0 v1 v2 h
  ) else
  if v2 ≤ 0 then (
    f_mSeals_tallyOf_b68 k2 v0 v1 v2 h
  ) else
  if hR h v0 21 = 0 then none else
  if ix v2 (ln h (hR h v0 21)) then
    if ix v2 (ln h (hR h v0 21)) then
      lt1 (sI h (hR h v0 21) v2.toNat (iAnd (hI h (hR h v0 21) v2.toNat) 252)) fun h13 =>
      f_mSeals_tallyOf_b68 k2 v0 v1 v2 h13
    else none
  else none
def f_mSeals_tallyOf_b2 (k2 : Nat → Int → Int → Hp → Option (Hp)) (v0 : Nat) (v1 : Int) (v2 : Int) (h : Hp) : Option (Hp) :=
  if 16 ≤ v2 then (
    f_mSeals_tallyOf_b76_lp FU v0 v1 0 h
  ) else
  if hR h v0 19 = 0 then none else
  if ix v2 (ln h (hR h v0 19)) then
    if hR h v0 21 = 0 then none else
    if ix v2 (ln h (hR h v0 21)) then
      lt1 (sI h (hR h v0 21) v2.toNat (hI h (hR h v0 19) v2.toNat)) fun h5 =>
      if (iRem v2 4) ≠ 3 then (
        f_mSeals_tallyOf_b42 k2 v0 v1 v2 h5
      ) else
      if hR h5 v0 21 = 0 then none else
      if ix v2 (ln h5 (hR h5 v0 21)) then
        if ix v2 (ln h5 (hR h5 v0 21)) then
          lt1 (sI h5 (hR h5 v0 21) v2.toNat (iAnd (hI h5 (hR h5 v0 21) v2.toNat) 15)) fun h9 =>
          f_mSeals_tallyOf_b42 k2 v0 v1 v2 h9
        else none
      else none
    else none
  else none
def f_mSeals_tallyOf_b2_lp : Nat → Nat → Int → Int → Hp → Option (Hp)
  | 0, _, _, _, _ => none
  | n + 1, v0, v1, v2, h => f_mSeals_tallyOf_b2 (f_mSeals_tallyOf_b2_lp n) v0 v1 v2 h
def f_mSeals_tallyOf (v0 : Nat) (v1 : Int) (h : Hp) : Option (Hp) :=
  f_mSeals_tallyOf_b2_lp FU v0 v1 0 h
def f_mSeals_tagOf_b148 (k93 : Nat → Int → Int → Int → Int → Hp → Option (Hp)) (v0 : Nat) (v3 : Int) (v5 : Int) (v6 : Int) (v7 : Int) (s0 : Nat) (s1 : Int) (s2 : Int) (h : Hp) : Option (Hp) :=
  if s0 = 0 then none else
  if ix s1 (ln h s0) then
    lt1 (sI h s0 s1.toNat s2) fun h25 =>
    k93 v0 v3 v5 v6 (w32 (v7 + 1)) h25
  else none
def f_mSeals_tagOf_b135 (k93 : Nat → Int → Int → Int → Int → Hp → Option (Hp)) (v0 : Nat) (v3 : Int) (v5 : Int) (v6 : Int) (v7 : Int) (s0 : Nat) (s1 : Int) (s2 : Int) (h : Hp) : Option (Hp) :=
  f_mSeals_tagOf_b148 k93 v0 v3 v5 v6 v7 s0 s1 (iAnd (iShr s2 (w32 (8 * (iRem v7 8)))) 255) h
def f_mSeals_tagOf_b93 (k93 : Nat → Int → Int → Int → Int → Hp → Option (Hp)) (v0 : Nat) (v3 : Int) (v5 : Int) (v6 : Int) (v7 : Int) (h : Hp) : Option (Hp) :=
  if 16 ≤ v7 then (
    b1 (f_mSeals_blockOf v0 0 h) fun h19 =>
    b1 (f_mSeals_tallyOf v0 (w32 (v5 + 16)) h19) fun h21 =>
    some h21
  ) else
  if (iRem v7 8) ≤ 3 then (
    if 8 ≤ v7 then (
      f_mSeals_tagOf_b135 k93 v0 v3 v5 v6 v7 (hR h v0 24) (w32 (v5 + v7)) v6 h
    ) else
    f_mSeals_tagOf_b135 k93 v0 v3 v5 v6 v7 (hR h v0 24) (w32 (v5 + v7)) v3 h
  ) else
  f_mSeals_tagOf_b148 k93 v0 v3 v5 v6 v7 (hR h v0 24) (w32 (v5 + v7)) 0 h
def f_mSeals_tagOf_b93_lp : Nat → Nat → Int → Int → Int → Int → Hp → Option (Hp)
  | 0, _, _, _, _, _, _ => none
  | n + 1, v0, v3, v5, v6, v7, h => f_mSeals_tagOf_b93 (f_mSeals_tagOf_b93_lp n) v0 v3 v5 v6 v7 h
def f_mSeals_tagOf_b47 (k47 : Nat → Nat → Int → Int → Int → Int → Int → Hp → Option (Hp)) (v0 : Nat) (v1 : Nat) (v2 : Int) (v3 : Int) (v4 : Int) (v5 : Int) (v6 : Int) (h : Hp) : Option (Hp) :=
  if v4 ≤ v6 then (
    b2 (f_mSeals_fill v0 v5 h) fun r12 h10 =>
    lt1 (w32 ((w32 (v4 - v2)) - v3)) fun y13 =>
    f_mSeals_tagOf_b93_lp FU v0 v3 r12 y13 0 h10
  ) else
  if v1 = 0 then none else
  if ix v6 (ln h v1) then
    if hR h v0 24 = 0 then none else
    if ix v5 (ln h (hR h v0 24)) then
      lt1 (sI h (hR h v0 24) v5.toNat (hI h v1 v6.toNat)) fun h18 =>
      k47 v0 v1 v2 v3 v4 (w32 (v5 + 1)) (w32 (v6 + 1)) h18
    else none
  else none
def f_mSeals_tagOf_b47_lp : Nat → Nat → Nat → Int → Int → Int → Int → Int → Hp → Option (Hp)
  | 0, _, _, _, _, _, _, _, _ => none
  | n + 1, v0, v1, v2, v3, v4, v5, v6, h => f_mSeals_tagOf_b47 (f_mSeals_tagOf_b47_lp n) v0 v1 v2 v3 v4 v5 v6 h
def f_mSeals_tagOf_b6 (k6 : Nat → Nat → Int → Int → Int → Int → Int → Hp → Option (Hp)) (v0 : Nat) (v1 : Nat) (v2 : Int) (v3 : Int) (v4 : Int) (v5 : Int) (v6 : Int) (h : Hp) : Option (Hp) :=
  if (w32 (v2 + v3)) ≤ v6 then (
    b2 (f_mSeals_fill v0 v5 h) fun r3 h1 =>
    lt1 (w32 (v2 + v3)) fun y4 =>
    f_mSeals_tagOf_b47_lp FU v0 v1 v2 v3 v4 r3 y4 h1
  ) else
  if v1 = 0 then none else
  if ix v6 (ln h v1) then
    if hR h v0 24 = 0 then none else
    if ix v5 (ln h (hR h v0 24)) then
      lt1 (sI h (hR h v0 24) v5.toNat (hI h v1 v6.toNat)) fun h9 =>
      k6 v0 v1 v2 v3 v4 (w32 (v5 + 1)) (w32 (v6 + 1)) h9
    else none
  else none
def f_mSeals_tagOf_b6_lp : Nat → Nat → Nat → Int → Int → Int → Int → Int → Hp → Option (Hp)
  | 0, _, _, _, _, _, _, _, _ => none
  | n + 1, v0, v1, v2, v3, v4, v5, v6, h => f_mSeals_tagOf_b6 (f_mSeals_tagOf_b6_lp n) v0 v1 v2 v3 v4 v5 v6 h
def f_mSeals_tagOf (v0 : Nat) (v1 : Nat) (v2 : Int) (v3 : Int) (v4 : Int) (h : Hp) : Option (Hp) :=
  f_mSeals_tagOf_b6_lp FU v0 v1 v2 v3 v4 0 v2 h
def f_mSeals_change_b33 (k3 : Nat → Nat → Int → Int → Int → Hp → Option (Hp)) (v0 : Nat) (v1 : Nat) (v2 : Int) (v3 : Int) (v4 : Int) (h : Hp) : Option (Hp) :=
  if v1 = 0 then none else
  if ix v4 (ln h v1) then
    if hR h v0 19 = 0 then none else
    if ix (iRem (w32 (v4 - v2)) 64) (ln h (hR h v0 19)) then
      if ix v4 (ln h v1) then
        lt1 (sI h v1 v4.toNat (iXor (hI h v1 v4.toNat) (hI h (hR h v0 19) ((iRem (w32 (v4 - v2)) 64).toNat)))) fun h8 =>
        k3 v0 v1 v2 v3 (w32 (v4 + 1)) h8
      else none
    else none
  else none
def f_mSeals_change_b3 (k3 : Nat → Nat → Int → Int → Int → Hp → Option (Hp)) (v0 : Nat) (v1 : Nat) (v2 : Int) (v3 : Int) (v4 : Int) (h : Hp) : Option (Hp) :=
  if v3 ≤ v4 then (
    some h
  ) else
  if (iRem (w32 (v4 - v2)) 64) ≠ 0 then (
    f_mSeals_change_b33 k3 v0 v1 v2 v3 v4 h
  ) else
  b1 (f_mSeals_blockOf v0 (w32 ((iDiv (w32 (v4 - v2)) 64) + 1)) h) fun h1 =>
  f_mSeals_change_b33 k3 v0 v1 v2 v3 v4 h1
def f_mSeals_change_b3_lp : Nat → Nat → Nat → Int → Int → Int → Hp → Option (Hp)
  | 0, _, _, _, _, _, _ => none
  | n + 1, v0, v1, v2, v3, v4, h => f_mSeals_change_b3 (f_mSeals_change_b3_lp n) v0 v1 v2 v3 v4 h
def f_mSeals_change (v0 : Nat) (v1 : Nat) (v2 : Int) (v3 : Int) (h : Hp) : Option (Hp) :=
  f_mSeals_change_b3_lp FU v0 v1 v2 v3 v2 h
def f_mSeals_open_b25 (k25 : Nat → Nat → Int → Int → Int → Int → Hp → Option (Int × Hp)) (v0 : Nat) (v5 : Nat) (v6 : Int) (v7 : Int) (v8 : Int) (v9 : Int) (h : Hp) : Option (Int × Hp) :=
  if 16 ≤ v9 then (
    b1 (f_mSeals_change v0 v5 (w32 (v6 + v7)) (w32 (v8 - 16)) h) fun h5 =>
    some (1, h5)
  ) else
  if v5 = 0 then none else
  if ix (w32 ((w32 (v8 - 16)) + v9)) (ln h v5) then
    if hR h v0 23 = 0 then none else
    if ix v9 (ln h (hR h v0 23)) then
      if (hI h v5 ((w32 ((w32 (v8 - 16)) + v9)).toNat)) = (hI h (hR h v0 23) v9.toNat) then (
        k25 v0 v5 v6 v7 v8 (w32 (v9 + 1)) h
      ) else
      some (0, h)
    else none
  else none
def f_mSeals_open_b25_lp : Nat → Nat → Nat → Int → Int → Int → Int → Hp → Option (Int × Hp)
  | 0, _, _, _, _, _, _, _ => none
  | n + 1, v0, v5, v6, v7, v8, v9, h => f_mSeals_open_b25 (f_mSeals_open_b25_lp n) v0 v5 v6 v7 v8 v9 h
def f_mSeals_open (v0 : Nat) (v1 : Nat) (v2 : Int) (v3 : Int) (v5 : Nat) (v6 : Int) (v7 : Int) (v8 : Int) (h : Hp) : Option (Int × Hp) :=
  b1 (f_mSeals_nonceOf v0 v1 v2 v3 h) fun h1 =>
  b1 (f_mSeals_tagOf v0 v5 v6 v7 (w32 (v8 - 16)) h1) fun h3 =>
  f_mSeals_open_b25_lp FU v0 v5 v6 v7 v8 0 h3
def f_mSide_tries_b120 (k120 : Nat → Nat → Int → Int → Int → Int → Hp → Option (Int × Hp)) (v0 : Nat) (v2 : Nat) (v3 : Int) (v4 : Int) (v5 : Int) (v7 : Int) (h : Hp) : Option (Int × Hp) :=
  if v4 ≤ v7 then (
    b2 (f_mSide_grown (-1) v5 v4 h) fun r31 h29 =>
    if v2 = 0 then none else
    if ix 5 (ln h29 v2) then
      if ix 3 (ln h29 v2) then
        if hR h v0 1 = 0 then none else
        b2 (f_mSeals_open (hR h v0 1) (hR h v0 18) 96 r31 (hR h29 v0 46) 0 (w32 (v3 + v4)) (w32 ((hI h29 v2 (Int.toNat 5)) - (hI h29 v2 (Int.toNat 3)))) h29) fun r38 h36 =>
        if r38 = 0 ∨ r38 = 1 then some (r38, h36) else none
      else none
    else none
  ) else
  if hR h v0 46 = 0 then none else
  if ix (w32 (v3 + v7)) (ln h (hR h v0 46)) then
    lt1 (lOr (lShl v5 8) (hI h (hR h v0 46) ((w32 (v3 + v7)).toNat))) fun y42 =>
    k120 v0 v2 v3 v4 y42 (w32 (v7 + 1)) h
  else none
def f_mSide_tries_b120_lp : Nat → Nat → Nat → Int → Int → Int → Int → Hp → Option (Int × Hp)
  | 0, _, _, _, _, _, _, _ => none
  | n + 1, v0, v2, v3, v4, v5, v7, h => f_mSide_tries_b120 (f_mSide_tries_b120_lp n) v0 v2 v3 v4 v5 v7 h
def f_mSide_tries_b58 (k58 : Nat → Nat → Nat → Int → Hp → Option (Int × Hp)) (v0 : Nat) (v1 : Nat) (v2 : Nat) (v3 : Int) (h : Hp) : Option (Int × Hp) :=
  if v2 = 0 then none else
  if ix 5 (ln h v2) then
    if (hI h v2 (Int.toNat 5)) ≤ v3 then (
      if ix 4 (ln h v2) then
        if ix 3 (ln h v2) then
          lt1 (w32 ((hI h v2 (Int.toNat 4)) - (hI h v2 (Int.toNat 3)))) fun y18 =>
          if hR h v0 1 = 0 then none else
          b2 (f_mSeals_shield (hR h v0 1) (hR h v0 18) 96 (hR h v0 46) 0 y18 0 h) fun r22 h20 =>
          f_mSide_tries_b120_lp FU v0 v2 y18 r22 0 0 h20
        else none
      else none
    ) else
    if ix 3 (ln h v2) then
      if v1 = 0 then none else
      if ix v3 (ln h v1) then
        if hR h v0 46 = 0 then none else
        if ix (w32 (v3 - (hI h v2 (Int.toNat 3)))) (ln h (hR h v0 46)) then
          lt1 (sI h (hR h v0 46) ((w32 (v3 - (hI h v2 (Int.toNat 3)))).toNat) (hI h v1 v3.toNat)) fun h28 =>
          k58 v0 v1 v2 (w32 (v3 + 1)) h28
        else none
      else none
    else none
  else none
def f_mSide_tries_b58_lp : Nat → Nat → Nat → Nat → Int → Hp → Option (Int × Hp)
  | 0, _, _, _, _, _ => none
  | n + 1, v0, v1, v2, v3, h => f_mSide_tries_b58 (f_mSide_tries_b58_lp n) v0 v1 v2 v3 h
def f_mSide_tries (v0 : Nat) (v1 : Nat) (v2 : Nat) (h : Hp) : Option (Int × Hp) :=
  if v2 = 0 then none else
  if ix 6 (ln h v2) then
    if hR h v0 3 = 0 then none else
    b1 (f_mGreet_firstSecrets (hR h v0 3) v1 (hI h v2 (Int.toNat 6)) 8 (hR h v0 20) h) fun h4 =>
    if hR h4 v0 1 = 0 then none else
    b1 (f_mSeals_arm (hR h4 v0 1) (hR h4 v0 20) 32 (hR h4 v0 18) 0 h4) fun h7 =>
    if hR h7 v0 1 = 0 then none else
    b1 (f_mSeals_arm (hR h7 v0 1) (hR h7 v0 20) 0 (hR h7 v0 18) 96 h7) fun h10 =>
    if ix 3 (ln h10 v2) then
      lt1 (hI h10 v2 (Int.toNat 3)) fun y13 =>
      f_mSide_tries_b58_lp FU v0 v1 v2 y13 h10
    else none
  else none
def f_mSide_isName_b47 (k16 : Nat → Nat → Int → Nat → Int → Int → Hp → Option (Int × Hp)) (v0 : Nat) (v1 : Nat) (v2 : Int) (v4 : Nat) (v6 : Int) (s0 : Int) (h : Hp) : Option (Int × Hp) :=
  k16 v0 v1 v2 v4 s0 (w32 (v6 + 1)) h
def f_mSide_isName_b16 (k16 : Nat → Nat → Int → Nat → Int → Int → Hp → Option (Int × Hp)) (v0 : Nat) (v1 : Nat) (v2 : Int) (v4 : Nat) (v5 : Int) (v6 : Int) (h : Hp) : Option (Int × Hp) :=
  if 8 ≤ v6 then (
    if v5 = 0 ∨ v5 = 1 then some (v5, h) else none
  ) else
  if v5 = 0 then (
    if v5 = 0 ∨ v5 = 1 then some (v5, h) else none
  ) else
  if v1 = 0 then none else
  if ix (w32 (v2 + v6)) (ln h v1) then
    if v4 = 0 then none else
    if ix v6 (ln h v4) then
      if (hI h v1 ((w32 (v2 + v6)).toNat)) ≠ (hI h v4 v6.toNat) then (
        f_mSide_isName_b47 k16 v0 v1 v2 v4 v6 0 h
      ) else
      f_mSide_isName_b47 k16 v0 v1 v2 v4 v6 1 h
    else none
  else none
def f_mSide_isName_b16_lp : Nat → Nat → Nat → Int → Nat → Int → Int → Hp → Option (Int × Hp)
  | 0, _, _, _, _, _, _, _ => none
  | n + 1, v0, v1, v2, v4, v5, v6, h => f_mSide_isName_b16 (f_mSide_isName_b16_lp n) v0 v1 v2 v4 v5 v6 h
def f_mSide_isName_b11 (v0 : Nat) (v1 : Nat) (v2 : Int) (v4 : Nat) (s0 : Int) (h : Hp) : Option (Int × Hp) :=
  f_mSide_isName_b16_lp FU v0 v1 v2 v4 s0 0 h
def f_mSide_isName (v0 : Nat) (v1 : Nat) (v2 : Int) (v3 : Int) (v4 : Nat) (h : Hp) : Option (Int × Hp) :=
  if v3 ≠ 8 then (
    f_mSide_isName_b11 v0 v1 v2 v4 0 h
  ) else
  f_mSide_isName_b11 v0 v1 v2 v4 1 h
def f_mSide_hasGuards (v0 : Nat) (v1 : Int) (h : Hp) : Option (Int × Hp) :=
  if hR h v0 19 = 0 then none else
  if ix v1 (ln h (hR h v0 19)) then
    if (hI h (hR h v0 19) v1.toNat) = 0 then (
      some (0, h)
    ) else
    if hR h v0 4 = 0 then none else
    if hR h (hR h v0 4) 11 = 0 then none else
    if ix v1 (ln h (hR h (hR h v0 4) 11)) then
      if (hI h (hR h (hR h v0 4) 11) v1.toNat) ≠ 0 then (
        some (0, h)
      ) else
      some (1, h)
    else none
  else none
def f_mBook_greatest (v0 : Nat) (v1 : Int) (h : Hp) : Option (Int × Hp) :=
  if hR h v0 30 = 0 then none else
  if ix v1 (ln h (hR h v0 30)) then
    if (hI h (hR h v0 30) v1.toNat) ≠ 0 then (
      if ix v1 (ln h (hR h v0 30)) then
        if hR h v0 32 = 0 then none else
        if ix (w32 ((w32 ((w32 (65 * v1)) + (hI h (hR h v0 30) v1.toNat))) - 1)) (ln h (hR h v0 32)) then
          some (hJ h (hR h v0 32) ((w32 ((w32 ((w32 (65 * v1)) + (hI h (hR h v0 30) v1.toNat))) - 1)).toNat), h)
        else none
      else none
    ) else
    some ((-1), h)
  else none
def f_mBook_isOld_b74 (k24 : Nat → Int → Int → Int → Int → Hp → Option (Int × Hp)) (v0 : Nat) (v1 : Int) (v2 : Int) (v5 : Int) (s0 : Int) (h : Hp) : Option (Int × Hp) :=
  k24 v0 v1 v2 s0 (w32 (v5 + 1)) h
def f_mBook_isOld_b69 (k24 : Nat → Int → Int → Int → Int → Hp → Option (Int × Hp)) (v0 : Nat) (v1 : Int) (v2 : Int) (v5 : Int) (h : Hp) : Option (Int × Hp) :=
  f_mBook_isOld_b74 k24 v0 v1 v2 v5 1 h
def f_mBook_isOld_b73 (k24 : Nat → Int → Int → Int → Int → Hp → Option (Int × Hp)) (v0 : Nat) (v1 : Int) (v2 : Int) (v5 : Int) (h : Hp) : Option (Int × Hp) :=
  f_mBook_isOld_b74 k24 v0 v1 v2 v5 0 h
def f_mBook_isOld_b24 (k24 : Nat → Int → Int → Int → Int → Hp → Option (Int × Hp)) (v0 : Nat) (v1 : Int) (v2 : Int) (v4 : Int) (v5 : Int) (h : Hp) : Option (Int × Hp) :=
  if hR h v0 30 = 0 then none else
  if ix v1 (ln h (hR h v0 30)) then
    if (w32 ((w32 (65 * v1)) + (hI h (hR h v0 30) v1.toNat))) ≤ v5 then (
      if v4 = 0 ∨ v4 = 1 then some (v4, h) else none
    ) else
    if v4 ≠ 0 then (
      f_mBook_isOld_b69 k24 v0 v1 v2 v5 h
    ) else
    if hR h v0 31 = 0 then none else
    if ix v5 (ln h (hR h v0 31)) then
      if v2 < (hJ h (hR h v0 31) v5.toNat) then (
        f_mBook_isOld_b73 k24 v0 v1 v2 v5 h
      ) else
      if hR h v0 32 = 0 then none else
      if ix v5 (ln h (hR h v0 32)) then
        if (hJ h (hR h v0 32) v5.toNat) < v2 then (
          f_mBook_isOld_b73 k24 v0 v1 v2 v5 h
        ) else
        f_mBook_isOld_b69 k24 v0 v1 v2 v5 h
      else none
    else none
  else none
def f_mBook_isOld_b24_lp : Nat → Nat → Int → Int → Int → Int → Hp → Option (Int × Hp)
  | 0, _, _, _, _, _, _ => none
  | n + 1, v0, v1, v2, v4, v5, h => f_mBook_isOld_b24 (f_mBook_isOld_b24_lp n) v0 v1 v2 v4 v5 h
def f_mBook_isOld_b16 (v0 : Nat) (v1 : Int) (v2 : Int) (s0 : Int) (h : Hp) : Option (Int × Hp) :=
  lt1 (w32 (65 * v1)) fun y3 =>
  f_mBook_isOld_b24_lp FU v0 v1 v2 s0 y3 h
def f_mBook_isOld (v0 : Nat) (v1 : Int) (v2 : Int) (h : Hp) : Option (Int × Hp) :=
  if hR h v0 33 = 0 then none else
  if ix v1 (ln h (hR h v0 33)) then
    if (hJ h (hR h v0 33) v1.toNat) ≤ v2 then (
      f_mBook_isOld_b16 v0 v1 v2 0 h
    ) else
    f_mBook_isOld_b16 v0 v1 v2 1 h
  else none
def f_mBook_discard (v0 : Nat) (v1 : Int) (h : Hp) : Option (Hp) :=
  if hR h v0 11 = 0 then none else
  if ix v1 (ln h (hR h v0 11)) then
    lt1 (sI h (hR h v0 11) v1.toNat 1) fun h3 =>
    if hR h3 v0 13 = 0 then none else
    if ix v1 (ln h3 (hR h3 v0 13)) then
      lt1 (sI h3 (hR h3 v0 13) v1.toNat (-1)) fun h6 =>
      if hR h6 v0 16 = 0 then none else
      if ix (w32 (2 * v1)) (ln h6 (hR h6 v0 16)) then
        if hR h6 v0 17 = 0 then none else
        if ix (w32 (2 * v1)) (ln h6 (hR h6 v0 17)) then
          lt1 (sI h6 (hR h6 v0 17) ((w32 (2 * v1)).toNat) (hI h6 (hR h6 v0 16) ((w32 (2 * v1)).toNat))) fun h11 =>
          if hR h11 v0 16 = 0 then none else
          if ix (w32 ((w32 (2 * v1)) + 1)) (ln h11 (hR h11 v0 16)) then
            if hR h11 v0 17 = 0 then none else
            if ix (w32 ((w32 (2 * v1)) + 1)) (ln h11 (hR h11 v0 17)) then
              lt1 (sI h11 (hR h11 v0 17) ((w32 ((w32 (2 * v1)) + 1)).toNat) (hI h11 (hR h11 v0 16) ((w32 ((w32 (2 * v1)) + 1)).toNat))) fun h16 =>
              if hR h16 v0 30 = 0 then none else
              if ix v1 (ln h16 (hR h16 v0 30)) then
                lt1 (sI h16 (hR h16 v0 30) v1.toNat 0) fun h19 =>
                if hR h19 v0 33 = 0 then none else
                if ix v1 (ln h19 (hR h19 v0 33)) then
                  lt1 (sJ h19 (hR h19 v0 33) v1.toNat 0) fun h22 =>
                  if hR h22 v0 35 = 0 then none else
                  if ix v1 (ln h22 (hR h22 v0 35)) then
                    lt1 (sI h22 (hR h22 v0 35) v1.toNat 0) fun h25 =>
                    if hR h25 v0 37 = 0 then none else
                    if ix v1 (ln h25 (hR h25 v0 37)) then
                      lt1 (sI h25 (hR h25 v0 37) v1.toNat 0) fun h28 =>
                      lt1 (sI h28 v0 23 0) fun h29 =>
                      some h29
                    else none
                  else none
                else none
              else none
            else none
          else none
        else none
      else none
    else none
  else none
def f_mSide_discard (v0 : Nat) (v1 : Int) (h : Hp) : Option (Hp) :=
  if hR h v0 4 = 0 then none else
  if hR h (hR h v0 4) 11 = 0 then none else
  if ix v1 (ln h (hR h (hR h v0 4) 11)) then
    if (hI h (hR h (hR h v0 4) 11) v1.toNat) = 0 then (
      b1 (f_mBook_discard (hR h v0 4) v1 h) fun h4 =>
      if hR h4 v0 34 = 0 then none else
      if ix v1 (ln h4 (hR h4 v0 34)) then
        lt1 (sI h4 (hR h4 v0 34) v1.toNat 0) fun h8 =>
        some h8
      else none
    ) else
    some h
  else none
def f_mSide_opened_b77 (v0 : Nat) (v3 : Int) (h : Hp) : Option (Hp) :=
  if hR h v0 4 = 0 then none else
  lt1 (sI h v0 40 (hI h (hR h v0 4) 0)) fun h11 =>
  lt1 (sI h11 v0 41 0) fun h12 =>
  if (hI h12 v0 0) = 0 then (
    some h12
  ) else
  if v3 = 1 then (
    lt1 (sI h12 v0 10 1) fun h13 =>
    b1 (f_mSide_discard v0 0 h13) fun h14 =>
    some h14
  ) else
  some h12
def f_mSide_opened_b46 (k46 : Nat → Nat → Nat → Int → Int → Hp → Option (Hp)) (v0 : Nat) (v1 : Nat) (v2 : Nat) (v3 : Int) (v4 : Int) (h : Hp) : Option (Hp) :=
  if (hI h v0 14) ≤ v4 then (
    f_mSide_opened_b77 v0 v3 h
  ) else
  if v2 = 0 then none else
  if ix 8 (ln h v2) then
    if v1 = 0 then none else
    if ix (w32 ((hI h v2 (Int.toNat 8)) + v4)) (ln h v1) then
      if hR h v0 13 = 0 then none else
      if ix v4 (ln h (hR h v0 13)) then
        lt1 (sI h (hR h v0 13) v4.toNat (hI h v1 ((w32 ((hI h v2 (Int.toNat 8)) + v4)).toNat))) fun h22 =>
        k46 v0 v1 v2 v3 (w32 (v4 + 1)) h22
      else none
    else none
  else none
def f_mSide_opened_b46_lp : Nat → Nat → Nat → Nat → Int → Int → Hp → Option (Hp)
  | 0, _, _, _, _, _, _ => none
  | n + 1, v0, v1, v2, v3, v4, h => f_mSide_opened_b46 (f_mSide_opened_b46_lp n) v0 v1 v2 v3 v4 h
def f_mSide_opened_b16 (v0 : Nat) (v1 : Nat) (v2 : Nat) (v3 : Int) (h : Hp) : Option (Hp) :=
  if (hI h v0 15) ≠ 0 then (
    f_mSide_opened_b77 v0 v3 h
  ) else
  if v2 = 0 then none else
  if ix 0 (ln h v2) then
    if (hI h v2 (Int.toNat 0)) = 4 then (
      f_mSide_opened_b77 v0 v3 h
    ) else
    lt1 (sI h v0 15 1) fun h7 =>
    if ix 9 (ln h7 v2) then
      lt1 (sI h7 v0 14 (hI h7 v2 (Int.toNat 9))) fun h9 =>
      f_mSide_opened_b46_lp FU v0 v1 v2 v3 0 h9
    else none
  else none
def f_mSide_opened (v0 : Nat) (v1 : Nat) (v2 : Nat) (v3 : Int) (h : Hp) : Option (Hp) :=
  if (hI h v0 8) ≠ 0 then (
    f_mSide_opened_b16 v0 v1 v2 v3 h
  ) else
  if v2 = 0 then none else
  if ix 6 (ln h v2) then
    b1 (f_mSide_begin v0 v1 (hI h v2 (Int.toNat 6)) h) fun h3 =>
    f_mSide_opened_b16 v0 v1 v2 v3 h3
  else none
def f_mWire_takeAck_b96 (k96 : Nat → Int → Int → Hp → Option (Hp)) (v0 : Nat) (v1 : Int) (v4 : Int) (h : Hp) : Option (Hp) :=
  if 3 ≤ v4 then (
    some h
  ) else
  if v1 ≠ 3 then (
    some h
  ) else
  b2 (f_mWire_takeNumber v0 h) fun r31 h29 =>
  k96 v0 v1 (w32 (v4 + 1)) h29
def f_mWire_takeAck_b96_lp : Nat → Nat → Int → Int → Hp → Option (Hp)
  | 0, _, _, _, _ => none
  | n + 1, v0, v1, v4, h => f_mWire_takeAck_b96 (f_mWire_takeAck_b96_lp n) v0 v1 v4 h
def f_mWire_takeAck_b90 (v0 : Nat) (v1 : Int) (s0 : Nat) (s1 : Int) (h : Hp) : Option (Hp) :=
  if s0 = 0 then none else
  lt1 (sI h s0 8 s1) fun h28 =>
  f_mWire_takeAck_b96_lp FU v0 v1 0 h28
def f_mWire_takeAck_b74 (v0 : Nat) (v1 : Int) (v2 : Int) (h : Hp) : Option (Hp) :=
  if (hI h v0 3) = 0 then (
    f_mWire_takeAck_b90 v0 v1 v0 (w32 (1 + (w32 v2))) h
  ) else
  f_mWire_takeAck_b90 v0 v1 v0 0 h
def f_mWire_takeAck_b41 (k41 : Nat → Int → Int → Int → Hp → Option (Hp)) (v0 : Nat) (v1 : Int) (v2 : Int) (v4 : Int) (h : Hp) : Option (Hp) :=
  if v2 ≤ v4 then (
    f_mWire_takeAck_b74 v0 v1 v2 h
  ) else
  if (hI h v0 3) ≠ 0 then (
    f_mWire_takeAck_b74 v0 v1 v2 h
  ) else
  b2 (f_mWire_takeNumber v0 h) fun r22 h20 =>
  b2 (f_mWire_takeNumber v0 h20) fun r25 h23 =>
  lt1 (w64 (v4 + 1)) fun y26 =>
  k41 v0 v1 v2 y26 h23
def f_mWire_takeAck_b41_lp : Nat → Nat → Int → Int → Int → Hp → Option (Hp)
  | 0, _, _, _, _, _ => none
  | n + 1, v0, v1, v2, v4, h => f_mWire_takeAck_b41 (f_mWire_takeAck_b41_lp n) v0 v1 v2 v4 h
def f_mWire_takeAck (v0 : Nat) (v1 : Int) (h : Hp) : Option (Hp) :=
  b2 (f_mWire_takeNumber v0 h) fun r3 h1 =>
  if hR h v0 5 = 0 then none else
  if ix 0 (ln h1 (hR h v0 5)) then
    lt1 (sJ h1 (hR h v0 5) (Int.toNat 0) r3) fun h6 =>
    b2 (f_mWire_takeNumber v0 h6) fun r9 h7 =>
    if hR h6 v0 5 = 0 then none else
    if ix 1 (ln h7 (hR h6 v0 5)) then
      lt1 (sJ h7 (hR h6 v0 5) (Int.toNat 1) r9) fun h12 =>
      b2 (f_mWire_takeNumber v0 h12) fun r15 h13 =>
      lt1 (sI h13 v0 9 (hI h13 v0 1)) fun h16 =>
      b2 (f_mWire_takeNumber v0 h16) fun r19 h17 =>
      f_mWire_takeAck_b41_lp FU v0 v1 r15 0 h17
    else none
  else none
def f_mWire_takeData_b23 (v0 : Nat) (s0 : Nat) (s1 : Int) (h : Hp) : Option (Hp) :=
  if s0 = 0 then none else
  lt1 (sI h s0 7 s1) fun h6 =>
  some h6
def f_mWire_takeData (v0 : Nat) (v1 : Int) (h : Hp) : Option (Hp) :=
  b2 (f_mWire_pass v0 v1 h) fun r3 h1 =>
  lt1 (sI h1 v0 6 r3) fun h4 =>
  if (hI h4 v0 3) = 0 then (
    f_mWire_takeData_b23 v0 v0 (w32 v1) h4
  ) else
  f_mWire_takeData_b23 v0 v0 0 h4
def f_mWire_takeStream_b93 (v0 : Nat) (s0 : Nat) (s1 : Int) (h : Hp) : Option (Hp) :=
  if s0 = 0 then none else
  b1 (f_mWire_takeData s0 s1 h) fun h25 =>
  some h25
def f_mWire_takeStream_b51 (v0 : Nat) (s0 : Nat) (s1 : Int) (s2 : Int) (h : Hp) : Option (Hp) :=
  if s0 = 0 then none else
  if ix s1 (ln h s0) then
    lt1 (sJ h s0 s1.toNat s2) fun h18 =>
    if hR h18 v0 5 = 0 then none else
    if ix 3 (ln h18 (hR h18 v0 5)) then
      if (hJ h18 (hR h18 v0 5) (Int.toNat 3)) ≠ 1 then (
        if (hI h18 v0 3) = 0 then (
          f_mWire_takeStream_b93 v0 v0 (w64 ((hI h18 v0 2) - (hI h18 v0 1))) h18
        ) else
        f_mWire_takeStream_b93 v0 v0 0 h18
      ) else
      b2 (f_mWire_takeNumber v0 h18) fun r23 h21 =>
      f_mWire_takeStream_b93 v0 v0 r23 h21
    else none
  else none
def f_mWire_takeStream (v0 : Nat) (v1 : Int) (h : Hp) : Option (Hp) :=
  if hR h v0 5 = 0 then none else
  if ix 2 (ln h (hR h v0 5)) then
    lt1 (sJ h (hR h v0 5) (Int.toNat 2) (iAnd v1 1)) fun h3 =>
    if hR h3 v0 5 = 0 then none else
    if ix 3 (ln h3 (hR h3 v0 5)) then
      lt1 (sJ h3 (hR h3 v0 5) (Int.toNat 3) (iAnd (iShr v1 1) 1)) fun h6 =>
      b2 (f_mWire_takeNumber v0 h6) fun r9 h7 =>
      if hR h6 v0 5 = 0 then none else
      if ix 0 (ln h7 (hR h6 v0 5)) then
        lt1 (sJ h7 (hR h6 v0 5) (Int.toNat 0) r9) fun h12 =>
        if (iAnd v1 4) ≤ 0 then (
          f_mWire_takeStream_b51 v0 (hR h12 v0 5) 1 0 h12
        ) else
        b2 (f_mWire_takeNumber v0 h12) fun r15 h13 =>
        f_mWire_takeStream_b51 v0 (hR h12 v0 5) 1 r15 h13
      else none
    else none
  else none
def f_mWire_fields_b152 (v0 : Int) (h : Hp) : Option (Int × Hp) :=
  if v0 < 16 then (
    some (0, h)
  ) else
  if 25 < v0 then (
    some (0, h)
  ) else
  some (1, h)
def f_mWire_fields (v0 : Int) (h : Hp) : Option (Int × Hp) :=
  if v0 = 4 then (
    some (321, h)
  ) else
  if v0 = 5 then (
    some (21, h)
  ) else
  if v0 = 6 then (
    some (42, h)
  ) else
  if v0 = 7 then (
    some (4, h)
  ) else
  if v0 = 8 then (
    f_mWire_fields_b152 v0 h
  ) else
  if v0 = 9 then (
    f_mWire_fields_b152 v0 h
  ) else
  if v0 = 10 then (
    f_mWire_fields_b152 v0 h
  ) else
  if v0 = 11 then (
    f_mWire_fields_b152 v0 h
  ) else
  if v0 = 12 then (
    f_mWire_fields_b152 v0 h
  ) else
  if v0 = 13 then (
    f_mWire_fields_b152 v0 h
  ) else
  if v0 = 14 then (
    f_mWire_fields_b152 v0 h
  ) else
  if v0 = 15 then (
    f_mWire_fields_b152 v0 h
  ) else
  if v0 = 16 then (
    f_mWire_fields_b152 v0 h
  ) else
  if v0 = 17 then (
    some (21, h)
  ) else
  if v0 = 18 then (
    f_mWire_fields_b152 v0 h
  ) else
  if v0 = 19 then (
    f_mWire_fields_b152 v0 h
  ) else
  if v0 = 20 then (
    f_mWire_fields_b152 v0 h
  ) else
  if v0 = 21 then (
    some (21, h)
  ) else
  if v0 = 22 then (
    f_mWire_fields_b152 v0 h
  ) else
  if v0 = 23 then (
    f_mWire_fields_b152 v0 h
  ) else
  if v0 = 24 then (
    some (21, h)
  ) else
  if v0 = 25 then (
    f_mWire_fields_b152 v0 h
  ) else
  if v0 = 26 then (
    some (5, h)
  ) else
  if v0 = 27 then (
    some (5, h)
  ) else
  if v0 = 28 then (
    some (421, h)
  ) else
  if v0 = 29 then (
    some (41, h)
  ) else
  f_mWire_fields_b152 v0 h
def f_mWire_takeFields_b62 (k5 : Nat → Int → Hp → Option (Hp)) (v0 : Nat) (v2 : Int) (h : Hp) : Option (Hp) :=
  lt1 (iDiv v2 10) fun y22 =>
  k5 v0 y22 h
def f_mWire_takeFields_b5 (k5 : Nat → Int → Hp → Option (Hp)) (v0 : Nat) (v2 : Int) (h : Hp) : Option (Hp) :=
  if v2 ≤ 0 then (
    some h
  ) else
  lt1 (iRem v2 10) fun y4 =>
  if y4 ≠ 5 then (
    if y4 ≠ 4 then (
      b2 (f_mWire_takeNumber v0 h) fun r7 h5 =>
      if hR h v0 5 = 0 then none else
      if ix (w32 (y4 - 1)) (ln h5 (hR h v0 5)) then
        lt1 (sJ h5 (hR h v0 5) ((w32 (y4 - 1)).toNat) r7) fun h10 =>
        f_mWire_takeFields_b62 k5 v0 v2 h10
      else none
    ) else
    b2 (f_mWire_takeNumber v0 h) fun r13 h11 =>
    b1 (f_mWire_takeData v0 r13 h11) fun h14 =>
    f_mWire_takeFields_b62 k5 v0 v2 h14
  ) else
  b2 (f_mWire_take v0 8 h) fun r18 h16 =>
  if hR h v0 5 = 0 then none else
  if ix 0 (ln h16 (hR h v0 5)) then
    lt1 (sJ h16 (hR h v0 5) (Int.toNat 0) r18) fun h21 =>
    f_mWire_takeFields_b62 k5 v0 v2 h21
  else none
def f_mWire_takeFields_b5_lp : Nat → Nat → Int → Hp → Option (Hp)
  | 0, _, _, _ => none
  | n + 1, v0, v2, h => f_mWire_takeFields_b5 (f_mWire_takeFields_b5_lp n) v0 v2 h
def f_mWire_takeFields (v0 : Nat) (v1 : Int) (h : Hp) : Option (Hp) :=
  b2 (f_mWire_fields v1 h) fun r3 h1 =>
  f_mWire_takeFields_b5_lp FU v0 r3 h1
def f_mWire_takeRest_b7 (k7 : Nat → Hp → Option (Hp)) (v0 : Nat) (h : Hp) : Option (Hp) :=
  if (hI h v0 2) ≤ (hI h v0 1) then (
    some h
  ) else
  if hR h v0 0 = 0 then none else
  if ix (hI h v0 1) (ln h (hR h v0 0)) then
    if (hI h (hR h v0 0) ((hI h v0 1).toNat)) ≠ 0 then (
      some h
    ) else
    lt1 (sI h v0 1 (w32 ((hI h v0 1) + 1))) fun h17 =>
    k7 v0 h17
  else none
def f_mWire_takeRest_b7_lp : Nat → Nat → Hp → Option (Hp)
  | 0, _, _ => none
  | n + 1, v0, h => f_mWire_takeRest_b7 (f_mWire_takeRest_b7_lp n) v0 h
def f_mWire_takeRest_b59 (v0 : Nat) (h : Hp) : Option (Hp) :=
  b1 (f_mWire_takeAck v0 (hI h v0 4) h) fun h13 =>
  some h13
def f_mWire_takeRest (v0 : Nat) (v1 : Int) (h : Hp) : Option (Hp) :=
  if (hI h v0 4) ≠ 0 then (
    if (hI h v0 4) = 2 then (
      f_mWire_takeRest_b59 v0 h
    ) else
    if (hI h v0 4) ≠ 3 then (
      if (hI h v0 4) ≠ 8 then (
        b1 (f_mWire_takeFields v0 (hI h v0 4) h) fun h1 =>
        if (hI h1 v0 4) = 24 then (
          b2 (f_mWire_take v0 1 h1) fun r5 h3 =>
          b1 (f_mWire_takeData v0 r5 h3) fun h6 =>
          b2 (f_mWire_pass v0 16 h6) fun r10 h8 =>
          some h8
        ) else
        some h1
      ) else
      b1 (f_mWire_takeStream v0 v1 h) fun h11 =>
      some h11
    ) else
    f_mWire_takeRest_b59 v0 h
  ) else
  f_mWire_takeRest_b7_lp FU v0 h
def f_mWire_edge_b79 (k33 : Nat → Int → Int → Int → Int → Int → Int → Hp → Option (Int × Hp)) (v0 : Nat) (v1 : Int) (v2 : Int) (v3 : Int) (v4 : Int) (v8 : Int) (s0 : Int) (h : Hp) : Option (Int × Hp) :=
  k33 v0 v1 v2 v3 v4 s0 (w32 (v8 + 1)) h
def f_mWire_edge_b87 (v0 : Nat) (v2 : Int) (v3 : Int) (v4 : Int) (v6 : Int) (h : Hp) : Option (Int × Hp) :=
  lt1 (sI h v0 1 v3) fun h17 =>
  if 0 ≤ v6 then (
    if v2 = 0 then (
      some (v6, h17)
    ) else
    some (v4, h17)
  ) else
  some ((-1), h17)
def f_mWire_edge_b33 (k33 : Nat → Int → Int → Int → Int → Int → Int → Hp → Option (Int × Hp)) (v0 : Nat) (v1 : Int) (v2 : Int) (v3 : Int) (v4 : Int) (v6 : Int) (v8 : Int) (h : Hp) : Option (Int × Hp) :=
  if v1 ≤ v8 then (
    f_mWire_edge_b87 v0 v2 v3 v4 v6 h
  ) else
  if v6 < 0 then (
    f_mWire_edge_b87 v0 v2 v3 v4 v6 h
  ) else
  b2 (f_mWire_takeNumber v0 h) fun r12 h10 =>
  lt1 (w64 ((w64 (v6 - r12)) - 2)) fun y13 =>
  if 0 ≤ y13 then (
    b2 (f_mWire_takeNumber v0 h10) fun r16 h14 =>
    f_mWire_edge_b79 k33 v0 v1 v2 v3 y13 v8 (w64 (y13 - r16)) h14
  ) else
  f_mWire_edge_b79 k33 v0 v1 v2 v3 y13 v8 (-1) h10
def f_mWire_edge_b33_lp : Nat → Nat → Int → Int → Int → Int → Int → Int → Hp → Option (Int × Hp)
  | 0, _, _, _, _, _, _, _, _ => none
  | n + 1, v0, v1, v2, v3, v4, v6, v8, h => f_mWire_edge_b33 (f_mWire_edge_b33_lp n) v0 v1 v2 v3 v4 v6 v8 h
def f_mWire_edge (v0 : Nat) (v1 : Int) (v2 : Int) (h : Hp) : Option (Int × Hp) :=
  lt1 (hI h v0 1) fun y1 =>
  lt1 (sI h v0 1 (hI h v0 9)) fun h2 =>
  if hR h2 v0 5 = 0 then none else
  if ix 0 (ln h2 (hR h2 v0 5)) then
    lt1 (hJ h2 (hR h2 v0 5) (Int.toNat 0)) fun y5 =>
    b2 (f_mWire_takeNumber v0 h2) fun r8 h6 =>
    lt1 (w64 (y5 - r8)) fun y9 =>
    f_mWire_edge_b33_lp FU v0 v1 v2 y1 y5 y9 0 h6
  else none
def f_mWire_isRight_b16 (v0 : Nat) (h : Hp) : Option (Int × Hp) :=
  b2 (f_mWire_edge v0 (w32 ((hI h v0 8) - 1)) 0 h) fun r10 h8 =>
  if r10 < 0 then (
    some (0, h8)
  ) else
  some (1, h8)
def f_mWire_isRight_b199 (v0 : Nat) (h : Hp) : Option (Int × Hp) :=
  some (1, h)
def f_mWire_isRight_b180 (v0 : Nat) (h : Hp) : Option (Int × Hp) :=
  if hR h v0 5 = 0 then none else
  if ix 1 (ln h (hR h v0 5)) then
    if 4611686018427387903 < (w64 ((hJ h (hR h v0 5) (Int.toNat 1)) + (hI h v0 7))) then (
      some (0, h)
    ) else
    f_mWire_isRight_b199 v0 h
  else none
def f_mWire_isRight_b74 (v0 : Nat) (h : Hp) : Option (Int × Hp) :=
  if hR h v0 5 = 0 then none else
  if ix 0 (ln h (hR h v0 5)) then
    if 1152921504606846976 < (hJ h (hR h v0 5) (Int.toNat 0)) then (
      some (0, h)
    ) else
    some (1, h)
  else none
def f_mWire_isRight (v0 : Nat) (h : Hp) : Option (Int × Hp) :=
  if (hI h v0 4) = 2 then (
    f_mWire_isRight_b16 v0 h
  ) else
  if (hI h v0 4) ≠ 3 then (
    if (hI h v0 4) = 18 then (
      f_mWire_isRight_b74 v0 h
    ) else
    if (hI h v0 4) = 19 then (
      f_mWire_isRight_b74 v0 h
    ) else
    if (hI h v0 4) = 22 then (
      f_mWire_isRight_b74 v0 h
    ) else
    if (hI h v0 4) ≠ 23 then (
      if (hI h v0 4) ≠ 7 then (
        if (hI h v0 4) ≠ 24 then (
          if (hI h v0 4) = 6 then (
            f_mWire_isRight_b180 v0 h
          ) else
          if (hI h v0 4) ≠ 8 then (
            f_mWire_isRight_b199 v0 h
          ) else
          f_mWire_isRight_b180 v0 h
        ) else
        if hR h v0 5 = 0 then none else
        if ix 1 (ln h (hR h v0 5)) then
          if ix 0 (ln h (hR h v0 5)) then
            if (hJ h (hR h v0 5) (Int.toNat 0)) < (hJ h (hR h v0 5) (Int.toNat 1)) then (
              some (0, h)
            ) else
            if (hI h v0 7) ≤ 0 then (
              some (0, h)
            ) else
            if 20 < (hI h v0 7) then (
              some (0, h)
            ) else
            some (1, h)
          else none
        else none
      ) else
      if (hI h v0 7) ≤ 0 then (
        some (0, h)
      ) else
      some (1, h)
    ) else
    f_mWire_isRight_b74 v0 h
  ) else
  f_mWire_isRight_b16 v0 h
def f_mWire_read_b105 (v0 : Nat) (v2 : Int) (h : Hp) : Option (Int × Hp) :=
  b1 (f_mWire_takeRest v0 v2 h) fun h13 =>
  if (hI h13 v0 3) = 0 then (
    b2 (f_mWire_isRight v0 h13) fun r17 h15 =>
    if r17 = 0 then (
      some (3, h15)
    ) else
    some (0, h15)
  ) else
  some (1, h13)
def f_mWire_read_b69 (v0 : Nat) (v1 : Int) (v2 : Int) (s0 : Nat) (s1 : Int) (h : Hp) : Option (Int × Hp) :=
  if s0 = 0 then none else
  lt1 (sI h s0 4 s1) fun h12 =>
  if 2 ≤ v1 then (
    f_mWire_read_b105 v0 v2 h12
  ) else
  if (hI h12 v0 4) ≤ 3 then (
    f_mWire_read_b105 v0 v2 h12
  ) else
  if (hI h12 v0 4) = 6 then (
    f_mWire_read_b105 v0 v2 h12
  ) else
  if (hI h12 v0 4) = 28 then (
    f_mWire_read_b105 v0 v2 h12
  ) else
  some (4, h12)
def f_mWire_read_b68 (v0 : Nat) (v1 : Int) (v2 : Int) (s0 : Nat) (h : Hp) : Option (Int × Hp) :=
  f_mWire_read_b69 v0 v1 v2 s0 v2 h
def f_mWire_read_b9 (k9 : Nat → Int → Int → Int → Hp → Option (Int × Hp)) (v0 : Nat) (v1 : Int) (v2 : Int) (v3 : Int) (h : Hp) : Option (Int × Hp) :=
  if 4 ≤ v3 then (
    lt1 (sI h v0 6 0) fun h5 =>
    lt1 (sI h5 v0 7 0) fun h6 =>
    lt1 (sI h6 v0 8 0) fun h7 =>
    if v2 ≤ 30 then (
      if v2 < 8 then (
        f_mWire_read_b68 v0 v1 v2 v0 h7
      ) else
      if 16 ≤ v2 then (
        f_mWire_read_b68 v0 v1 v2 v0 h7
      ) else
      f_mWire_read_b69 v0 v1 v2 v0 8 h7
    ) else
    some (2, h7)
  ) else
  if hR h v0 5 = 0 then none else
  if ix v3 (ln h (hR h v0 5)) then
    lt1 (sJ h (hR h v0 5) v3.toNat 0) fun h10 =>
    k9 v0 v1 v2 (w32 (v3 + 1)) h10
  else none
def f_mWire_read_b9_lp : Nat → Nat → Int → Int → Int → Hp → Option (Int × Hp)
  | 0, _, _, _, _, _ => none
  | n + 1, v0, v1, v2, v3, h => f_mWire_read_b9 (f_mWire_read_b9_lp n) v0 v1 v2 v3 h
def f_mWire_read (v0 : Nat) (v1 : Int) (h : Hp) : Option (Int × Hp) :=
  b2 (f_mWire_take v0 1 h) fun r3 h1 =>
  lt1 (w32 r3) fun y4 =>
  f_mWire_read_b9_lp FU v0 v1 y4 0 h1
def f_mBook_isOut (v0 : Nat) (v1 : Int) (v2 : Int) (h : Hp) : Option (Int × Hp) :=
  if hR h v0 11 = 0 then none else
  if ix v1 (ln h (hR h v0 11)) then
    if (hI h (hR h v0 11) v1.toNat) ≠ 0 then (
      some (0, h)
    ) else
    if hR h v0 6 = 0 then none else
    if ix (w32 ((w32 (4096 * v1)) + v2)) (ln h (hR h v0 6)) then
      if (hI h (hR h v0 6) ((w32 ((w32 (4096 * v1)) + v2)).toNat)) ≠ 0 then (
        some (0, h)
      ) else
      some (1, h)
    else none
  else none
def f_mBook_isNew_b49 (k5 : Nat → Int → Int → Int → Int → Hp → Option (Int × Hp)) (v0 : Nat) (v1 : Int) (v2 : Int) (v4 : Int) (s0 : Int) (h : Hp) : Option (Int × Hp) :=
  k5 v0 v1 v2 s0 (w32 (v4 + 1)) h
def f_mBook_isNew_b44 (k5 : Nat → Int → Int → Int → Int → Hp → Option (Int × Hp)) (v0 : Nat) (v1 : Int) (v2 : Int) (v4 : Int) (h : Hp) : Option (Int × Hp) :=
  f_mBook_isNew_b49 k5 v0 v1 v2 v4 1 h
def f_mBook_isNew_b48 (k5 : Nat → Int → Int → Int → Int → Hp → Option (Int × Hp)) (v0 : Nat) (v1 : Int) (v2 : Int) (v4 : Int) (h : Hp) : Option (Int × Hp) :=
  f_mBook_isNew_b49 k5 v0 v1 v2 v4 0 h
def f_mBook_isNew_b5 (k5 : Nat → Int → Int → Int → Int → Hp → Option (Int × Hp)) (v0 : Nat) (v1 : Int) (v2 : Int) (v3 : Int) (v4 : Int) (h : Hp) : Option (Int × Hp) :=
  if (hI h v0 27) ≤ v4 then (
    if v3 = 0 then (
      some (0, h)
    ) else
    b2 (f_mBook_isOut v0 v1 v2 h) fun r3 h1 =>
    if r3 = 0 then (
      some (0, h1)
    ) else
    some (1, h1)
  ) else
  if v3 ≠ 0 then (
    f_mBook_isNew_b44 k5 v0 v1 v2 v4 h
  ) else
  if hR h v0 28 = 0 then none else
  if ix v4 (ln h (hR h v0 28)) then
    if v2 < (hJ h (hR h v0 28) v4.toNat) then (
      f_mBook_isNew_b48 k5 v0 v1 v2 v4 h
    ) else
    if hR h v0 29 = 0 then none else
    if ix v4 (ln h (hR h v0 29)) then
      if (hJ h (hR h v0 29) v4.toNat) < v2 then (
        f_mBook_isNew_b48 k5 v0 v1 v2 v4 h
      ) else
      f_mBook_isNew_b44 k5 v0 v1 v2 v4 h
    else none
  else none
def f_mBook_isNew_b5_lp : Nat → Nat → Int → Int → Int → Int → Hp → Option (Int × Hp)
  | 0, _, _, _, _, _, _ => none
  | n + 1, v0, v1, v2, v3, v4, h => f_mBook_isNew_b5 (f_mBook_isNew_b5_lp n) v0 v1 v2 v3 v4 h
def f_mBook_isNew (v0 : Nat) (v1 : Int) (v2 : Int) (h : Hp) : Option (Int × Hp) :=
  f_mBook_isNew_b5_lp FU v0 v1 v2 0 0 h
def f_mBook_sample_b110 (v0 : Nat) (v3 : Int) (s0 : Nat) (s1 : Int) (s2 : Int) (h : Hp) : Option (Hp) :=
  if s0 = 0 then none else
  lt1 (sI h s0 19 (w32 (s1 + (w32 (s2 - (iDiv (hI h v0 19) 4)))))) fun h9 =>
  lt1 (sI h9 v0 18 (w32 ((hI h9 v0 18) + (w32 (v3 - (iDiv (hI h9 v0 18) 8)))))) fun h10 =>
  some h10
def f_mBook_sample_b80 (v0 : Nat) (s0 : Int) (h : Hp) : Option (Hp) :=
  lt1 (w32 ((iDiv (hI h v0 18) 8) - s0)) fun y7 =>
  if 0 ≤ y7 then (
    f_mBook_sample_b110 v0 s0 v0 (hI h v0 19) y7 h
  ) else
  f_mBook_sample_b110 v0 s0 v0 (hI h v0 19) (w32 (-y7)) h
def f_mBook_sample_b29 (v0 : Nat) (v1 : Int) (v2 : Int) (s0 : Nat) (s1 : Int) (h : Hp) : Option (Hp) :=
  if s0 = 0 then none else
  lt1 (sI h s0 21 s1) fun h3 =>
  if 0 ≤ (hI h3 v0 22) then (
    if v1 < (w32 ((hI h3 v0 21) + v2)) then (
      f_mBook_sample_b80 v0 v1 h3
    ) else
    f_mBook_sample_b80 v0 (w32 (v1 - v2)) h3
  ) else
  lt1 (sI h3 v0 22 (hI h3 v0 0)) fun h4 =>
  lt1 (sI h4 v0 18 (w32 (8 * v1))) fun h5 =>
  lt1 (sI h5 v0 19 (w32 (2 * v1))) fun h6 =>
  some h6
def f_mBook_sample_b21 (v0 : Nat) (v1 : Int) (v2 : Int) (s0 : Nat) (h : Hp) : Option (Hp) :=
  f_mBook_sample_b29 v0 v1 v2 s0 v1 h
def f_mBook_sample (v0 : Nat) (v1 : Int) (v2 : Int) (h : Hp) : Option (Hp) :=
  lt1 (sI h v0 20 v1) fun h1 =>
  if (hI h1 v0 21) < 0 then (
    f_mBook_sample_b21 v0 v1 v2 v0 h1
  ) else
  if (hI h1 v0 21) ≤ v1 then (
    f_mBook_sample_b29 v0 v1 v2 v0 (hI h1 v0 21) h1
  ) else
  f_mBook_sample_b21 v0 v1 v2 v0 h1
def f_mBook_find_b55 (k55 : Nat → Int → Hp → Option (Hp)) (v0 : Nat) (v1 : Int) (h : Hp) : Option (Hp) :=
  if hR h v0 10 = 0 then none else
  if ix v1 (ln h (hR h v0 10)) then
    if hR h v0 3 = 0 then none else
    if ix v1 (ln h (hR h v0 3)) then
      if (hI h (hR h v0 3) v1.toNat) ≤ (hI h (hR h v0 10) v1.toNat) then (
        some h
      ) else
      if ix v1 (ln h (hR h v0 10)) then
        if hR h v0 6 = 0 then none else
        if ix (w32 ((w32 (4096 * v1)) + (hI h (hR h v0 10) v1.toNat))) (ln h (hR h v0 6)) then
          if (hI h (hR h v0 6) ((w32 ((w32 (4096 * v1)) + (hI h (hR h v0 10) v1.toNat))).toNat)) = 0 then (
            some h
          ) else
          if ix v1 (ln h (hR h v0 10)) then
            if ix v1 (ln h (hR h v0 10)) then
              lt1 (sI h (hR h v0 10) v1.toNat (w32 ((hI h (hR h v0 10) v1.toNat) + 1))) fun h23 =>
              k55 v0 v1 h23
            else none
          else none
        else none
      else none
    else none
  else none
def f_mBook_find_b55_lp : Nat → Nat → Int → Hp → Option (Hp)
  | 0, _, _, _ => none
  | n + 1, v0, v1, h => f_mBook_find_b55 (f_mBook_find_b55_lp n) v0 v1 h
def f_mBook_find (v0 : Nat) (v1 : Int) (v2 : Int) (v3 : Int) (h : Hp) : Option (Hp) :=
  lt1 (w32 ((w32 ((w32 (2 * v1)) + v3)) - 1)) fun y1 =>
  if hR h v0 6 = 0 then none else
  if ix (w32 ((w32 (4096 * v1)) + v2)) (ln h (hR h v0 6)) then
    lt1 (sI h (hR h v0 6) ((w32 ((w32 (4096 * v1)) + v2)).toNat) (i8 (i8 v3))) fun h4 =>
    if hR h4 v0 16 = 0 then none else
    if ix y1 (ln h4 (hR h4 v0 16)) then
      if hR h4 v0 15 = 0 then none else
      if ix (w32 ((w32 (4096 * y1)) + (hI h4 (hR h4 v0 16) y1.toNat))) (ln h4 (hR h4 v0 15)) then
        lt1 (sI h4 (hR h4 v0 15) ((w32 ((w32 (4096 * y1)) + (hI h4 (hR h4 v0 16) y1.toNat))).toNat) (i16 (i16 v2))) fun h9 =>
        if hR h9 v0 16 = 0 then none else
        if ix y1 (ln h9 (hR h9 v0 16)) then
          if ix y1 (ln h9 (hR h9 v0 16)) then
            lt1 (sI h9 (hR h9 v0 16) y1.toNat (w32 ((hI h9 (hR h9 v0 16) y1.toNat) + 1))) fun h13 =>
            f_mBook_find_b55_lp FU v0 v1 h13
          else none
        else none
      else none
    else none
  else none
def f_mBook_isBehindRecovery_b20 (v0 : Nat) (h : Hp) : Option (Int × Hp) :=
  some (1, h)
def f_mBook_isBehindRecovery (v0 : Nat) (v1 : Int) (h : Hp) : Option (Int × Hp) :=
  if (hI h v0 26) < 0 then (
    f_mBook_isBehindRecovery_b20 v0 h
  ) else
  if hR h v0 5 = 0 then none else
  if ix v1 (ln h (hR h v0 5)) then
    if (hI h (hR h v0 5) v1.toNat) ≤ (hI h v0 26) then (
      some (0, h)
    ) else
    f_mBook_isBehindRecovery_b20 v0 h
  else none
def f_mBook_grow_b74 (v0 : Nat) (s0 : Nat) (s1 : Int) (s2 : Int) (h : Hp) : Option (Hp) :=
  if s0 = 0 then none else
  lt1 (sI h s0 24 (w32 (s1 + s2))) fun h14 =>
  some h14
def f_mBook_grow_b50 (v0 : Nat) (v1 : Int) (s0 : Nat) (s1 : Int) (h : Hp) : Option (Hp) :=
  if hR h v0 4 = 0 then none else
  if ix v1 (ln h (hR h v0 4)) then
    f_mBook_grow_b74 v0 s0 s1 (hI h (hR h v0 4) v1.toNat) h
  else none
def f_mBook_grow (v0 : Nat) (v1 : Int) (h : Hp) : Option (Hp) :=
  if hR h v0 8 = 0 then none else
  if ix v1 (ln h (hR h v0 8)) then
    if (hI h (hR h v0 8) v1.toNat) = 0 then (
      some h
    ) else
    if hR h v0 9 = 0 then none else
    if ix v1 (ln h (hR h v0 9)) then
      if (hI h (hR h v0 9) v1.toNat) = 0 then (
        some h
      ) else
      b2 (f_mBook_isBehindRecovery v0 v1 h) fun r7 h5 =>
      if r7 ≠ 0 then (
        if (hI h5 v0 25) < 0 then (
          f_mBook_grow_b50 v0 v1 v0 (hI h5 v0 24) h5
        ) else
        if (hI h5 v0 25) ≤ (hI h5 v0 24) then (
          if hR h5 v0 4 = 0 then none else
          if ix v1 (ln h5 (hR h5 v0 4)) then
            if hI h5 v0 24 = 0 then none else
            f_mBook_grow_b74 v0 v0 (hI h5 v0 24) (iDiv (w32 (1200 * (hI h5 (hR h5 v0 4) v1.toNat))) (hI h5 v0 24)) h5
          else none
        ) else
        f_mBook_grow_b50 v0 v1 v0 (hI h5 v0 24) h5
      ) else
      some h5
    else none
  else none
def f_mBook_limit (v0 : Nat) (h : Hp) : Option (Int × Hp) :=
  b2 (f_mBook_greater (iDiv (hI h v0 18) 8) (hI h v0 20) h) fun r3 h1 =>
  b2 (f_mBook_greater (iDiv (w32 (9 * r3)) 8) 1 h1) fun r6 h4 =>
  some (r6, h4)
def f_mBook_persists_b103 (k8 : Nat → Int → Int → Int → Int → Hp → Option (Hp)) (v0 : Nat) (v1 : Int) (v3 : Int) (v4 : Int) (v5 : Int) (h : Hp) : Option (Hp) :=
  k8 v0 v1 v3 v4 (w32 (v5 + 1)) h
def f_mBook_persists_b98 (k8 : Nat → Int → Int → Int → Int → Hp → Option (Hp)) (v0 : Nat) (v1 : Int) (v5 : Int) (v6 : Int) (s0 : Int) (h : Hp) : Option (Hp) :=
  f_mBook_persists_b103 k8 v0 v1 s0 v6 v5 h
def f_mBook_persists_b154 (k120 : Nat → Int → Int → Int → Int → Int → Hp → Option (Hp)) (v0 : Nat) (v1 : Int) (v3 : Int) (v4 : Int) (v6 : Int) (s0 : Int) (h : Hp) : Option (Hp) :=
  k120 v0 v1 v3 v4 s0 (w32 (v6 + 1)) h
def f_mBook_persists_b149 (k120 : Nat → Int → Int → Int → Int → Int → Hp → Option (Hp)) (v0 : Nat) (v1 : Int) (v3 : Int) (v4 : Int) (v6 : Int) (h : Hp) : Option (Hp) :=
  f_mBook_persists_b154 k120 v0 v1 v3 v4 v6 1 h
def f_mBook_persists_b120 (k120 : Nat → Int → Int → Int → Int → Int → Hp → Option (Hp)) (v0 : Nat) (v1 : Int) (v3 : Int) (v4 : Int) (v5 : Int) (v6 : Int) (h : Hp) : Option (Hp) :=
  if v4 ≤ v6 then (
    if v5 ≠ 0 then (
      some h
    ) else
    if hR h v0 5 = 0 then none else
    if ix (w32 ((w32 (4096 * v1)) + v4)) (ln h (hR h v0 5)) then
      if ix (w32 ((w32 (4096 * v1)) + v3)) (ln h (hR h v0 5)) then
        b2 (f_mBook_patience v0 1 h) fun r15 h13 =>
        if (w32 (3 * r15)) < (w32 ((hI h (hR h v0 5) ((w32 ((w32 (4096 * v1)) + v4)).toNat)) - (hI h (hR h v0 5) ((w32 ((w32 (4096 * v1)) + v3)).toNat)))) then (
          lt1 (sI h13 v0 24 2400) fun h16 =>
          lt1 (sI h16 v0 26 (-1)) fun h17 =>
          some h17
        ) else
        some h13
      else none
    else none
  ) else
  if v5 ≠ 0 then (
    f_mBook_persists_b149 k120 v0 v1 v3 v4 v6 h
  ) else
  if hR h v0 6 = 0 then none else
  if ix (w32 ((w32 (4096 * v1)) + v6)) (ln h (hR h v0 6)) then
    if (hI h (hR h v0 6) ((w32 ((w32 (4096 * v1)) + v6)).toNat)) ≠ 1 then (
      f_mBook_persists_b154 k120 v0 v1 v3 v4 v6 0 h
    ) else
    f_mBook_persists_b149 k120 v0 v1 v3 v4 v6 h
  else none
def f_mBook_persists_b120_lp : Nat → Nat → Int → Int → Int → Int → Int → Hp → Option (Hp)
  | 0, _, _, _, _, _, _, _ => none
  | n + 1, v0, v1, v3, v4, v5, v6, h => f_mBook_persists_b120 (f_mBook_persists_b120_lp n) v0 v1 v3 v4 v5 v6 h
def f_mBook_persists_b8 (k8 : Nat → Int → Int → Int → Int → Hp → Option (Hp)) (v0 : Nat) (v1 : Int) (v3 : Int) (v4 : Int) (v5 : Int) (h : Hp) : Option (Hp) :=
  if hR h v0 16 = 0 then none else
  if ix (w32 ((w32 (2 * v1)) + 1)) (ln h (hR h v0 16)) then
    if (hI h (hR h v0 16) ((w32 ((w32 (2 * v1)) + 1)).toNat)) ≤ v5 then (
      if 0 ≤ v3 then (
        f_mBook_persists_b120_lp FU v0 v1 v3 v4 0 v3 h
      ) else
      some h
    ) else
    if hR h v0 15 = 0 then none else
    if ix (w32 ((w32 (4096 * (w32 ((w32 (2 * v1)) + 1)))) + v5)) (ln h (hR h v0 15)) then
      lt1 (hI h (hR h v0 15) ((w32 ((w32 (4096 * (w32 ((w32 (2 * v1)) + 1)))) + v5)).toNat)) fun y5 =>
      if (hI h v0 22) < 0 then (
        f_mBook_persists_b103 k8 v0 v1 v3 v4 v5 h
      ) else
      if hR h v0 7 = 0 then none else
      if ix (w32 ((w32 (4096 * v1)) + y5)) (ln h (hR h v0 7)) then
        if (hI h (hR h v0 7) ((w32 ((w32 (4096 * v1)) + y5)).toNat)) = 0 then (
          f_mBook_persists_b103 k8 v0 v1 v3 v4 v5 h
        ) else
        if hR h v0 5 = 0 then none else
        if ix (w32 ((w32 (4096 * v1)) + y5)) (ln h (hR h v0 5)) then
          if (hI h v0 22) < (hI h (hR h v0 5) ((w32 ((w32 (4096 * v1)) + y5)).toNat)) then (
            if 0 ≤ v3 then (
              f_mBook_persists_b98 k8 v0 v1 v5 y5 v3 h
            ) else
            f_mBook_persists_b98 k8 v0 v1 v5 y5 y5 h
          ) else
          f_mBook_persists_b103 k8 v0 v1 v3 v4 v5 h
        else none
      else none
    else none
  else none
def f_mBook_persists_b8_lp : Nat → Nat → Int → Int → Int → Int → Hp → Option (Hp)
  | 0, _, _, _, _, _, _ => none
  | n + 1, v0, v1, v3, v4, v5, h => f_mBook_persists_b8 (f_mBook_persists_b8_lp n) v0 v1 v3 v4 v5 h
def f_mBook_persists (v0 : Nat) (v1 : Int) (v2 : Int) (h : Hp) : Option (Hp) :=
  f_mBook_persists_b8_lp FU v0 v1 (-1) (-1) v2 h
def f_mBook_losses_b142 (k31 : Nat → Int → Int → Int → Int → Hp → Option (Hp)) (v0 : Nat) (v1 : Int) (v2 : Int) (v3 : Int) (v4 : Int) (h : Hp) : Option (Hp) :=
  k31 v0 v1 v2 v3 (w32 (v4 + 1)) h
def f_mBook_losses_b141 (k31 : Nat → Int → Int → Int → Int → Hp → Option (Hp)) (v0 : Nat) (v1 : Int) (v2 : Int) (v3 : Int) (v4 : Int) (s0 : Nat) (s1 : Int) (s2 : Int) (h : Hp) : Option (Hp) :=
  if s0 = 0 then none else
  if ix s1 (ln h s0) then
    lt1 (sI h s0 s1.toNat s2) fun h29 =>
    f_mBook_losses_b142 k31 v0 v1 v2 v3 v4 h29
  else none
def f_mBook_losses_b94 (k31 : Nat → Int → Int → Int → Int → Hp → Option (Hp)) (v0 : Nat) (v1 : Int) (v2 : Int) (v3 : Int) (v4 : Int) (h : Hp) : Option (Hp) :=
  b1 (f_mBook_find v0 v1 v4 2 h) fun h48 =>
  f_mBook_losses_b142 k31 v0 v1 v2 v3 v4 h48
def f_mBook_losses_b268 (v0 : Nat) (v1 : Int) (v2 : Int) (h : Hp) : Option (Hp) :=
  b1 (f_mBook_persists v0 v1 v2 h) fun h46 =>
  some h46
def f_mBook_losses_b223 (k154 : Nat → Int → Int → Int → Int → Hp → Option (Hp)) (v0 : Nat) (v1 : Int) (v2 : Int) (v5 : Int) (s0 : Int) (h : Hp) : Option (Hp) :=
  k154 v0 v1 v2 s0 (w32 (v5 + 1)) h
def f_mBook_losses_b222 (k154 : Nat → Int → Int → Int → Int → Hp → Option (Hp)) (v0 : Nat) (v1 : Int) (v2 : Int) (v5 : Int) (h : Hp) : Option (Hp) :=
  f_mBook_losses_b223 k154 v0 v1 v2 v5 0 h
def f_mBook_losses_b218 (k154 : Nat → Int → Int → Int → Int → Hp → Option (Hp)) (v0 : Nat) (v1 : Int) (v2 : Int) (v5 : Int) (h : Hp) : Option (Hp) :=
  f_mBook_losses_b223 k154 v0 v1 v2 v5 1 h
def f_mBook_losses_b154 (k154 : Nat → Int → Int → Int → Int → Hp → Option (Hp)) (v0 : Nat) (v1 : Int) (v2 : Int) (v4 : Int) (v5 : Int) (h : Hp) : Option (Hp) :=
  if hR h v0 16 = 0 then none else
  if ix (w32 ((w32 (2 * v1)) + 1)) (ln h (hR h v0 16)) then
    if (hI h (hR h v0 16) ((w32 ((w32 (2 * v1)) + 1)).toNat)) ≤ v5 then (
      if v4 = 0 then (
        f_mBook_losses_b268 v0 v1 v2 h
      ) else
      lt1 (sI h v0 26 (hI h v0 0)) fun h32 =>
      lt1 (sI h32 v0 25 (iDiv (hI h32 v0 24) 2)) fun h33 =>
      b2 (f_mBook_greater (hI h33 v0 25) 2400 h33) fun r36 h34 =>
      lt1 (sI h34 v0 24 r36) fun h37 =>
      f_mBook_losses_b268 v0 v1 v2 h37
    ) else
    if hR h v0 15 = 0 then none else
    if ix (w32 ((w32 (4096 * (w32 ((w32 (2 * v1)) + 1)))) + v5)) (ln h (hR h v0 15)) then
      lt1 (w32 ((w32 (4096 * v1)) + (hI h (hR h v0 15) ((w32 ((w32 (4096 * (w32 ((w32 (2 * v1)) + 1)))) + v5)).toNat)))) fun y40 =>
      if v4 ≠ 0 then (
        f_mBook_losses_b218 k154 v0 v1 v2 v5 h
      ) else
      if hR h v0 8 = 0 then none else
      if ix y40 (ln h (hR h v0 8)) then
        if (hI h (hR h v0 8) y40.toNat) = 0 then (
          f_mBook_losses_b222 k154 v0 v1 v2 v5 h
        ) else
        b2 (f_mBook_isBehindRecovery v0 y40 h) fun r45 h43 =>
        if r45 = 0 then (
          f_mBook_losses_b222 k154 v0 v1 v2 v5 h43
        ) else
        f_mBook_losses_b218 k154 v0 v1 v2 v5 h43
      else none
    else none
  else none
def f_mBook_losses_b154_lp : Nat → Nat → Int → Int → Int → Int → Hp → Option (Hp)
  | 0, _, _, _, _, _, _ => none
  | n + 1, v0, v1, v2, v4, v5, h => f_mBook_losses_b154 (f_mBook_losses_b154_lp n) v0 v1 v2 v4 v5 h
def f_mBook_losses_b130 (k31 : Nat → Int → Int → Int → Int → Hp → Option (Hp)) (v0 : Nat) (v1 : Int) (v2 : Int) (v3 : Int) (v4 : Int) (v5 : Int) (s0 : Nat) (s1 : Int) (h : Hp) : Option (Hp) :=
  f_mBook_losses_b141 k31 v0 v1 v2 v3 v4 s0 s1 v5 h
def f_mBook_losses_b31 (k31 : Nat → Int → Int → Int → Int → Hp → Option (Hp)) (v0 : Nat) (v1 : Int) (v2 : Int) (v3 : Int) (v4 : Int) (h : Hp) : Option (Hp) :=
  if hR h v0 12 = 0 then none else
  if ix v1 (ln h (hR h v0 12)) then
    if (hI h (hR h v0 12) v1.toNat) ≤ v4 then (
      f_mBook_losses_b154_lp FU v0 v1 v2 0 v2 h
    ) else
    b2 (f_mBook_isOut v0 v1 v4 h) fun r17 h15 =>
    if r17 ≠ 0 then (
      if hR h15 v0 5 = 0 then none else
      if ix (w32 ((w32 (4096 * v1)) + v4)) (ln h15 (hR h15 v0 5)) then
        lt1 (w32 ((hI h15 (hR h15 v0 5) ((w32 ((w32 (4096 * v1)) + v4)).toNat)) + v3)) fun y20 =>
        if hR h15 v0 12 = 0 then none else
        if ix v1 (ln h15 (hR h15 v0 12)) then
          if v4 ≤ (w32 ((hI h15 (hR h15 v0 12) v1.toNat) - 3)) then (
            f_mBook_losses_b94 k31 v0 v1 v2 v3 v4 h15
          ) else
          if (hI h15 v0 0) < y20 then (
            if hR h15 v0 13 = 0 then none else
            if ix v1 (ln h15 (hR h15 v0 13)) then
              if (hI h15 (hR h15 v0 13) v1.toNat) < 0 then (
                f_mBook_losses_b130 k31 v0 v1 v2 v3 v4 y20 (hR h15 v0 13) v1 h15
              ) else
              if ix v1 (ln h15 (hR h15 v0 13)) then
                if (hI h15 (hR h15 v0 13) v1.toNat) ≤ y20 then (
                  if ix v1 (ln h15 (hR h15 v0 13)) then
                    f_mBook_losses_b141 k31 v0 v1 v2 v3 v4 (hR h15 v0 13) v1 (hI h15 (hR h15 v0 13) v1.toNat) h15
                  else none
                ) else
                f_mBook_losses_b130 k31 v0 v1 v2 v3 v4 y20 (hR h15 v0 13) v1 h15
              else none
            else none
          ) else
          f_mBook_losses_b94 k31 v0 v1 v2 v3 v4 h15
        else none
      else none
    ) else
    f_mBook_losses_b142 k31 v0 v1 v2 v3 v4 h15
  else none
def f_mBook_losses_b31_lp : Nat → Nat → Int → Int → Int → Int → Hp → Option (Hp)
  | 0, _, _, _, _, _, _ => none
  | n + 1, v0, v1, v2, v3, v4, h => f_mBook_losses_b31 (f_mBook_losses_b31_lp n) v0 v1 v2 v3 v4 h
def f_mBook_losses (v0 : Nat) (v1 : Int) (h : Hp) : Option (Hp) :=
  if hR h v0 16 = 0 then none else
  if ix (w32 ((w32 (2 * v1)) + 1)) (ln h (hR h v0 16)) then
    lt1 (hI h (hR h v0 16) ((w32 ((w32 (2 * v1)) + 1)).toNat)) fun y3 =>
    b2 (f_mBook_limit v0 h) fun r6 h4 =>
    if hR h4 v0 13 = 0 then none else
    if ix v1 (ln h4 (hR h4 v0 13)) then
      lt1 (sI h4 (hR h4 v0 13) v1.toNat (-1)) fun h9 =>
      if hR h9 v0 10 = 0 then none else
      if ix v1 (ln h9 (hR h9 v0 10)) then
        lt1 (hI h9 (hR h9 v0 10) v1.toNat) fun y12 =>
        f_mBook_losses_b31_lp FU v0 v1 y3 r6 y12 h9
      else none
    else none
  else none
def f_mBook_acknowledge_b116 (k61 : Nat → Int → Int → Int → Int → Int → Int → Int → Hp → Option (Int × Hp)) (v0 : Nat) (v1 : Int) (v2 : Int) (v3 : Int) (v4 : Int) (v5 : Int) (v6 : Int) (v7 : Int) (h : Hp) : Option (Int × Hp) :=
  k61 v0 v1 v2 v3 v4 v5 v6 (w32 (v7 + 1)) h
def f_mBook_acknowledge_b114 (k61 : Nat → Int → Int → Int → Int → Int → Int → Int → Hp → Option (Int × Hp)) (v0 : Nat) (v1 : Int) (v2 : Int) (v3 : Int) (v4 : Int) (v5 : Int) (v7 : Int) (s0 : Int) (h : Hp) : Option (Int × Hp) :=
  f_mBook_acknowledge_b116 k61 v0 v1 v2 v3 v4 v5 s0 v7 h
def f_mBook_acknowledge_b109 (k61 : Nat → Int → Int → Int → Int → Int → Int → Int → Hp → Option (Int × Hp)) (v0 : Nat) (v1 : Int) (v2 : Int) (v3 : Int) (v4 : Int) (v5 : Int) (v7 : Int) (h : Hp) : Option (Int × Hp) :=
  f_mBook_acknowledge_b114 k61 v0 v1 v2 v3 v4 v5 v7 1 h
def f_mBook_acknowledge_b233 (k189 : Nat → Int → Int → Hp → Option (Int × Hp)) (v0 : Nat) (v1 : Int) (v7 : Int) (h : Hp) : Option (Int × Hp) :=
  k189 v0 v1 (w32 (v7 + 1)) h
def f_mBook_acknowledge_b189 (k189 : Nat → Int → Int → Hp → Option (Int × Hp)) (v0 : Nat) (v1 : Int) (v7 : Int) (h : Hp) : Option (Int × Hp) :=
  if hR h v0 3 = 0 then none else
  if ix v1 (ln h (hR h v0 3)) then
    if (hI h (hR h v0 3) v1.toNat) ≤ v7 then (
      b1 (f_mBook_losses v0 v1 h) fun h31 =>
      lt1 (sI h31 v0 23 0) fun h33 =>
      some (1, h33)
    ) else
    b2 (f_mBook_isNew v0 v1 v7 h) fun r36 h34 =>
    if r36 ≠ 0 then (
      b1 (f_mBook_find v0 v1 v7 1 h34) fun h37 =>
      b1 (f_mBook_grow v0 (w32 ((w32 (4096 * v1)) + v7)) h37) fun h39 =>
      f_mBook_acknowledge_b233 k189 v0 v1 v7 h39
    ) else
    f_mBook_acknowledge_b233 k189 v0 v1 v7 h34
  else none
def f_mBook_acknowledge_b189_lp : Nat → Nat → Int → Int → Hp → Option (Int × Hp)
  | 0, _, _, _, _ => none
  | n + 1, v0, v1, v7, h => f_mBook_acknowledge_b189 (f_mBook_acknowledge_b189_lp n) v0 v1 v7 h
def f_mBook_acknowledge_b185 (v0 : Nat) (v1 : Int) (v4 : Int) (h : Hp) : Option (Int × Hp) :=
  f_mBook_acknowledge_b189_lp FU v0 v1 v4 h
def f_mBook_acknowledge_b182 (v0 : Nat) (v1 : Int) (v4 : Int) (s0 : Nat) (s1 : Int) (s2 : Int) (h : Hp) : Option (Int × Hp) :=
  if s0 = 0 then none else
  b1 (f_mBook_sample s0 s1 s2 h) fun h42 =>
  f_mBook_acknowledge_b185 v0 v1 v4 h42
def f_mBook_acknowledge_b61 (k61 : Nat → Int → Int → Int → Int → Int → Int → Int → Hp → Option (Int × Hp)) (v0 : Nat) (v1 : Int) (v2 : Int) (v3 : Int) (v4 : Int) (v5 : Int) (v6 : Int) (v7 : Int) (h : Hp) : Option (Int × Hp) :=
  if hR h v0 3 = 0 then none else
  if ix v1 (ln h (hR h v0 3)) then
    if (hI h (hR h v0 3) v1.toNat) ≤ v7 then (
      if v5 ≠ 0 then (
        if v6 = 0 then (
          f_mBook_acknowledge_b185 v0 v1 v4 h
        ) else
        b2 (f_mBook_isNew v0 v1 v3 h) fun r21 h19 =>
        if r21 = 0 then (
          f_mBook_acknowledge_b185 v0 v1 v4 h19
        ) else
        if hR h19 v0 5 = 0 then none else
        if ix (w32 ((w32 (4096 * v1)) + v3)) (ln h19 (hR h19 v0 5)) then
          if 2 ≤ v1 then (
            if v2 ≤ 25 then (
              f_mBook_acknowledge_b182 v0 v1 v4 v0 (w32 ((hI h19 v0 0) - (hI h19 (hR h19 v0 5) ((w32 ((w32 (4096 * v1)) + v3)).toNat)))) v2 h19
            ) else
            f_mBook_acknowledge_b182 v0 v1 v4 v0 (w32 ((hI h19 v0 0) - (hI h19 (hR h19 v0 5) ((w32 ((w32 (4096 * v1)) + v3)).toNat)))) 25 h19
          ) else
          f_mBook_acknowledge_b182 v0 v1 v4 v0 (w32 ((hI h19 v0 0) - (hI h19 (hR h19 v0 5) ((w32 ((w32 (4096 * v1)) + v3)).toNat)))) 0 h19
        else none
      ) else
      some (1, h)
    ) else
    b2 (f_mBook_isNew v0 v1 v7 h) fun r26 h24 =>
    if r26 ≠ 0 then (
      if v6 ≠ 0 then (
        f_mBook_acknowledge_b109 k61 v0 v1 v2 v3 v4 (w32 (v5 + 1)) v7 h24
      ) else
      if hR h24 v0 7 = 0 then none else
      if ix (w32 ((w32 (4096 * v1)) + v7)) (ln h24 (hR h24 v0 7)) then
        if (hI h24 (hR h24 v0 7) ((w32 ((w32 (4096 * v1)) + v7)).toNat)) = 0 then (
          f_mBook_acknowledge_b114 k61 v0 v1 v2 v3 v4 (w32 (v5 + 1)) v7 0 h24
        ) else
        f_mBook_acknowledge_b109 k61 v0 v1 v2 v3 v4 (w32 (v5 + 1)) v7 h24
      else none
    ) else
    f_mBook_acknowledge_b116 k61 v0 v1 v2 v3 v4 v5 v6 v7 h24
  else none
def f_mBook_acknowledge_b61_lp : Nat → Nat → Int → Int → Int → Int → Int → Int → Int → Hp → Option (Int × Hp)
  | 0, _, _, _, _, _, _, _, _, _ => none
  | n + 1, v0, v1, v2, v3, v4, v5, v6, v7, h => f_mBook_acknowledge_b61 (f_mBook_acknowledge_b61_lp n) v0 v1 v2 v3 v4 v5 v6 v7 h
def f_mBook_acknowledge (v0 : Nat) (v1 : Int) (v2 : Int) (h : Hp) : Option (Int × Hp) :=
  if hR h v0 29 = 0 then none else
  if ix 0 (ln h (hR h v0 29)) then
    if hR h v0 3 = 0 then none else
    if ix v1 (ln h (hR h v0 3)) then
      if (hJ h (hR h v0 29) (Int.toNat 0)) < (hI h (hR h v0 3) v1.toNat) then (
        if ix 0 (ln h (hR h v0 29)) then
          lt1 (w32 (hJ h (hR h v0 29) (Int.toNat 0))) fun y6 =>
          if hR h v0 12 = 0 then none else
          if ix v1 (ln h (hR h v0 12)) then
            b2 (f_mBook_greater (hI h (hR h v0 12) v1.toNat) y6 h) fun r11 h9 =>
            if ix v1 (ln h9 (hR h v0 12)) then
              lt1 (sI h9 (hR h v0 12) v1.toNat r11) fun h13 =>
              if hR h13 v0 10 = 0 then none else
              if ix v1 (ln h13 (hR h13 v0 10)) then
                lt1 (hI h13 (hR h13 v0 10) v1.toNat) fun y16 =>
                f_mBook_acknowledge_b61_lp FU v0 v1 v2 y6 y16 0 0 y16 h13
              else none
            else none
          else none
        else none
      ) else
      some (0, h)
    else none
  else none
def f_mBook_next_b12 (v0 : Nat) (s0 : Int) (s1 : Int) (h : Hp) : Option (Int × Hp) :=
  lt1 (w32 (s0 + s1)) fun y1 =>
  if hR h v0 17 = 0 then none else
  if ix y1 (ln h (hR h v0 17)) then
    if hR h v0 16 = 0 then none else
    if ix y1 (ln h (hR h v0 16)) then
      if (hI h (hR h v0 17) y1.toNat) ≠ (hI h (hR h v0 16) y1.toNat) then (
        if ix y1 (ln h (hR h v0 17)) then
          if ix y1 (ln h (hR h v0 17)) then
            lt1 (sI h (hR h v0 17) y1.toNat (w32 ((hI h (hR h v0 17) y1.toNat) + 1))) fun h8 =>
            if hR h8 v0 17 = 0 then none else
            if ix y1 (ln h8 (hR h8 v0 17)) then
              if hR h8 v0 15 = 0 then none else
              if ix (w32 ((w32 ((w32 (4096 * y1)) + (hI h8 (hR h8 v0 17) y1.toNat))) - 1)) (ln h8 (hR h8 v0 15)) then
                some (hI h8 (hR h8 v0 15) ((w32 ((w32 ((w32 (4096 * y1)) + (hI h8 (hR h8 v0 17) y1.toNat))) - 1)).toNat), h8)
              else none
            else none
          else none
        else none
      ) else
      some ((-1), h)
    else none
  else none
def f_mBook_next (v0 : Nat) (v1 : Int) (v2 : Int) (h : Hp) : Option (Int × Hp) :=
  if v2 = 0 then (
    f_mBook_next_b12 v0 (w32 (2 * v1)) 0 h
  ) else
  f_mBook_next_b12 v0 (w32 (2 * v1)) 1 h
def f_mSide_tellCrypto_b58 (k9 : Nat → Int → Int → Int → Int → Int → Hp → Option (Hp)) (v0 : Nat) (v1 : Int) (v2 : Int) (v3 : Int) (v4 : Int) (v5 : Int) (h : Hp) : Option (Hp) :=
  k9 v0 v1 v2 v3 v4 (w32 (v5 + 1)) h
def f_mSide_tellCrypto_b9 (k9 : Nat → Int → Int → Int → Int → Int → Hp → Option (Hp)) (v0 : Nat) (v1 : Int) (v2 : Int) (v3 : Int) (v4 : Int) (v5 : Int) (h : Hp) : Option (Hp) :=
  if (w32 ((w32 ((w32 (1024 * v1)) + v2)) + v3)) ≤ v5 then (
    some h
  ) else
  if v4 = 0 then (
    if hR h v0 28 = 0 then none else
    if ix v5 (ln h (hR h v0 28)) then
      if (hI h (hR h v0 28) v5.toNat) = 3 then (
        f_mSide_tellCrypto_b58 k9 v0 v1 v2 v3 v4 v5 h
      ) else
      if ix v5 (ln h (hR h v0 28)) then
        lt1 (sI h (hR h v0 28) v5.toNat (i8 2)) fun h5 =>
        f_mSide_tellCrypto_b58 k9 v0 v1 v2 v3 v4 v5 h5
      else none
    else none
  ) else
  if hR h v0 28 = 0 then none else
  if ix v5 (ln h (hR h v0 28)) then
    lt1 (sI h (hR h v0 28) v5.toNat (i8 3)) fun h8 =>
    f_mSide_tellCrypto_b58 k9 v0 v1 v2 v3 v4 v5 h8
  else none
def f_mSide_tellCrypto_b9_lp : Nat → Nat → Int → Int → Int → Int → Int → Hp → Option (Hp)
  | 0, _, _, _, _, _, _, _ => none
  | n + 1, v0, v1, v2, v3, v4, v5, h => f_mSide_tellCrypto_b9 (f_mSide_tellCrypto_b9_lp n) v0 v1 v2 v3 v4 v5 h
def f_mSide_tellCrypto (v0 : Nat) (v1 : Int) (v2 : Int) (v3 : Int) (v4 : Int) (h : Hp) : Option (Hp) :=
  lt1 (w32 ((w32 (1024 * v1)) + v2)) fun y1 =>
  f_mSide_tellCrypto_b9_lp FU v0 v1 v2 v3 v4 y1 h
def f_mSide_tellDone_b44 (v0 : Nat) (s0 : Nat) (s1 : Int) (h : Hp) : Option (Hp) :=
  if s0 = 0 then none else
  if ¬ (s1 = 0 ∨ s1 = 1) then none else
  lt1 (sI h s0 30 s1) fun h5 =>
  some h5
def f_mSide_tellDone_b39 (v0 : Nat) (s0 : Nat) (h : Hp) : Option (Hp) :=
  f_mSide_tellDone_b44 v0 s0 1 h
def f_mSide_tellDone_b43 (v0 : Nat) (s0 : Nat) (h : Hp) : Option (Hp) :=
  f_mSide_tellDone_b44 v0 s0 0 h
def f_mSide_tellDone_b17 (v0 : Nat) (v1 : Int) (s0 : Nat) (s1 : Int) (h : Hp) : Option (Hp) :=
  if s0 = 0 then none else
  if ¬ (s1 = 0 ∨ s1 = 1) then none else
  lt1 (sI h s0 31 s1) fun h2 =>
  if (hI h2 v0 31) ≠ 0 then (
    f_mSide_tellDone_b43 v0 v0 h2
  ) else
  if (hI h2 v0 30) ≠ 0 then (
    f_mSide_tellDone_b39 v0 v0 h2
  ) else
  if v1 ≠ 0 then (
    f_mSide_tellDone_b43 v0 v0 h2
  ) else
  f_mSide_tellDone_b39 v0 v0 h2
def f_mSide_tellDone_b12 (v0 : Nat) (v1 : Int) (s0 : Nat) (h : Hp) : Option (Hp) :=
  f_mSide_tellDone_b17 v0 v1 s0 1 h
def f_mSide_tellDone (v0 : Nat) (v1 : Int) (h : Hp) : Option (Hp) :=
  if (hI h v0 31) ≠ 0 then (
    f_mSide_tellDone_b12 v0 v1 v0 h
  ) else
  if v1 = 0 then (
    f_mSide_tellDone_b17 v0 v1 v0 0 h
  ) else
  f_mSide_tellDone_b12 v0 v1 v0 h
def f_mStreams_remark_b84 (v0 : Nat) (v2 : Int) (v3 : Int) (s0 : Nat) (s1 : Int) (s2 : Int) (s3 : Int) (h : Hp) : Option (Hp) :=
  if s0 = 0 then none else
  if ix s1 (ln h s0) then
    lt1 (sI h s0 s1.toNat (w32 (s2 + s3))) fun h23 =>
    if hR h23 v0 42 = 0 then none else
    if ix v2 (ln h23 (hR h23 v0 42)) then
      lt1 (sI h23 (hR h23 v0 42) v2.toNat (i8 (i8 v3))) fun h26 =>
      some h26
    else none
  else none
def f_mStreams_remark_b65 (v0 : Nat) (v1 : Int) (v2 : Int) (v3 : Int) (s0 : Nat) (s1 : Int) (s2 : Int) (s3 : Int) (h : Hp) : Option (Hp) :=
  if s0 = 0 then none else
  if ix s1 (ln h s0) then
    lt1 (sI h s0 s1.toNat (w32 (s2 + s3))) fun h18 =>
    if hR h18 v0 25 = 0 then none else
    if ix v1 (ln h18 (hR h18 v0 25)) then
      if v3 ≠ 3 then (
        f_mStreams_remark_b84 v0 v2 v3 (hR h18 v0 25) v1 (hI h18 (hR h18 v0 25) v1.toNat) 0 h18
      ) else
      f_mStreams_remark_b84 v0 v2 v3 (hR h18 v0 25) v1 (hI h18 (hR h18 v0 25) v1.toNat) 1 h18
    else none
  else none
def f_mStreams_remark_b46 (v0 : Nat) (v1 : Int) (v2 : Int) (v3 : Int) (s0 : Nat) (s1 : Int) (s2 : Int) (s3 : Int) (h : Hp) : Option (Hp) :=
  if s0 = 0 then none else
  if ix s1 (ln h s0) then
    lt1 (sI h s0 s1.toNat (w32 (s2 - s3))) fun h13 =>
    if hR h13 v0 26 = 0 then none else
    if ix v1 (ln h13 (hR h13 v0 26)) then
      if v3 ≠ 2 then (
        f_mStreams_remark_b65 v0 v1 v2 v3 (hR h13 v0 26) v1 (hI h13 (hR h13 v0 26) v1.toNat) 0 h13
      ) else
      f_mStreams_remark_b65 v0 v1 v2 v3 (hR h13 v0 26) v1 (hI h13 (hR h13 v0 26) v1.toNat) 1 h13
    else none
  else none
def f_mStreams_remark_b26 (v0 : Nat) (v1 : Int) (v2 : Int) (v3 : Int) (v4 : Int) (s0 : Nat) (s1 : Int) (s2 : Int) (s3 : Int) (h : Hp) : Option (Hp) :=
  if s0 = 0 then none else
  if ix s1 (ln h s0) then
    lt1 (sI h s0 s1.toNat (w32 (s2 - s3))) fun h8 =>
    if hR h8 v0 25 = 0 then none else
    if ix v1 (ln h8 (hR h8 v0 25)) then
      if v4 ≠ 3 then (
        f_mStreams_remark_b46 v0 v1 v2 v3 (hR h8 v0 25) v1 (hI h8 (hR h8 v0 25) v1.toNat) 0 h8
      ) else
      f_mStreams_remark_b46 v0 v1 v2 v3 (hR h8 v0 25) v1 (hI h8 (hR h8 v0 25) v1.toNat) 1 h8
    else none
  else none
def f_mStreams_remark (v0 : Nat) (v1 : Int) (v2 : Int) (v3 : Int) (h : Hp) : Option (Hp) :=
  if hR h v0 42 = 0 then none else
  if ix v2 (ln h (hR h v0 42)) then
    lt1 (hI h (hR h v0 42) v2.toNat) fun y3 =>
    if hR h v0 26 = 0 then none else
    if ix v1 (ln h (hR h v0 26)) then
      if y3 ≠ 2 then (
        f_mStreams_remark_b26 v0 v1 v2 v3 y3 (hR h v0 26) v1 (hI h (hR h v0 26) v1.toNat) 0 h
      ) else
      f_mStreams_remark_b26 v0 v1 v2 v3 y3 (hR h v0 26) v1 (hI h (hR h v0 26) v1.toNat) 1 h
    else none
  else none
def f_mStreams_goneStream_b84 (k48 : Nat → Int → Int → Int → Int → Int → Int → Int → Int → Hp → Option (Hp)) (v0 : Nat) (v1 : Int) (v2 : Int) (v4 : Int) (v5 : Int) (v7 : Int) (v8 : Int) (v9 : Int) (v10 : Int) (h : Hp) : Option (Hp) :=
  if hR h v0 43 = 0 then none else
  if ix v9 (ln h (hR h v0 43)) then
    lt1 (hI h (hR h v0 43) v9.toNat) fun y21 =>
    k48 v0 v1 v2 v4 v5 v7 v8 y21 (w32 (v10 + 1)) h
  else none
def f_mStreams_goneStream_b81 (k48 : Nat → Int → Int → Int → Int → Int → Int → Int → Int → Hp → Option (Hp)) (v0 : Nat) (v1 : Int) (v2 : Int) (v4 : Int) (v5 : Int) (v7 : Int) (v8 : Int) (v9 : Int) (v10 : Int) (s0 : Nat) (s1 : Int) (s2 : Int) (s3 : Int) (h : Hp) : Option (Hp) :=
  if s0 = 0 then none else
  b1 (f_mStreams_remark s0 s1 s2 s3 h) fun h23 =>
  f_mStreams_goneStream_b84 k48 v0 v1 v2 v4 v5 v7 v8 v9 v10 h23
def f_mStreams_goneStream_b134 (v0 : Nat) (v1 : Int) (v2 : Int) (h : Hp) : Option (Hp) :=
  b1 (f_mStreams_looksOver v0 v1 v2 h) fun h14 =>
  some h14
def f_mStreams_goneStream_b133 (v0 : Nat) (v1 : Int) (v2 : Int) (s0 : Nat) (s1 : Int) (s2 : Int) (h : Hp) : Option (Hp) :=
  if s0 = 0 then none else
  if ix s1 (ln h s0) then
    lt1 (sI h s0 s1.toNat s2) fun h18 =>
    f_mStreams_goneStream_b134 v0 v1 v2 h18
  else none
def f_mStreams_goneStream_b48 (k48 : Nat → Int → Int → Int → Int → Int → Int → Int → Int → Hp → Option (Hp)) (v0 : Nat) (v1 : Int) (v2 : Int) (v4 : Int) (v5 : Int) (v7 : Int) (v8 : Int) (v9 : Int) (v10 : Int) (h : Hp) : Option (Hp) :=
  if v4 ≤ v10 then (
    if v5 ≠ 1 then (
      f_mStreams_goneStream_b134 v0 v1 v2 h
    ) else
    if hR h v0 15 = 0 then none else
    if ix v8 (ln h (hR h v0 15)) then
      if (hI h (hR h v0 15) v8.toNat) = 3 then (
        f_mStreams_goneStream_b134 v0 v1 v2 h
      ) else
      if v7 = 0 then (
        f_mStreams_goneStream_b133 v0 v1 v2 (hR h v0 15) v8 2 h
      ) else
      f_mStreams_goneStream_b133 v0 v1 v2 (hR h v0 15) v8 3 h
    else none
  ) else
  if hR h v0 42 = 0 then none else
  if ix v9 (ln h (hR h v0 42)) then
    if (hI h (hR h v0 42) v9.toNat) = 3 then (
      f_mStreams_goneStream_b84 k48 v0 v1 v2 v4 v5 v7 v8 v9 v10 h
    ) else
    if v7 = 0 then (
      f_mStreams_goneStream_b81 k48 v0 v1 v2 v4 v5 v7 v8 v9 v10 v0 v8 v9 2 h
    ) else
    f_mStreams_goneStream_b81 k48 v0 v1 v2 v4 v5 v7 v8 v9 v10 v0 v8 v9 3 h
  else none
def f_mStreams_goneStream_b48_lp : Nat → Nat → Int → Int → Int → Int → Int → Int → Int → Int → Hp → Option (Hp)
  | 0, _, _, _, _, _, _, _, _, _, _ => none
  | n + 1, v0, v1, v2, v4, v5, v7, v8, v9, v10, h => f_mStreams_goneStream_b48 (f_mStreams_goneStream_b48_lp n) v0 v1 v2 v4 v5 v7 v8 v9 v10 h
def f_mStreams_goneStream_b45 (v0 : Nat) (v1 : Int) (v2 : Int) (v4 : Int) (v5 : Int) (v7 : Int) (v8 : Int) (v9 : Int) (h : Hp) : Option (Hp) :=
  f_mStreams_goneStream_b48_lp FU v0 v1 v2 v4 v5 v7 v8 v9 0 h
def f_mStreams_goneStream_b19 (k19 : Nat → Int → Int → Int → Int → Int → Int → Int → Int → Int → Hp → Option (Hp)) (v0 : Nat) (v1 : Int) (v2 : Int) (v3 : Int) (v4 : Int) (v5 : Int) (v7 : Int) (v8 : Int) (v9 : Int) (v10 : Int) (h : Hp) : Option (Hp) :=
  if v3 ≤ v10 then (
    f_mStreams_goneStream_b45 v0 v1 v2 v4 v5 v7 v8 v9 h
  ) else
  if v4 ≤ 0 then (
    f_mStreams_goneStream_b45 v0 v1 v2 v4 v5 v7 v8 v9 h
  ) else
  if hR h v0 43 = 0 then none else
  if ix v9 (ln h (hR h v0 43)) then
    lt1 (hI h (hR h v0 43) v9.toNat) fun y9 =>
    k19 v0 v1 v2 v3 v4 v5 v7 v8 y9 (w32 (v10 + 1)) h
  else none
def f_mStreams_goneStream_b19_lp : Nat → Nat → Int → Int → Int → Int → Int → Int → Int → Int → Int → Hp → Option (Hp)
  | 0, _, _, _, _, _, _, _, _, _, _, _ => none
  | n + 1, v0, v1, v2, v3, v4, v5, v7, v8, v9, v10, h => f_mStreams_goneStream_b19 (f_mStreams_goneStream_b19_lp n) v0 v1 v2 v3 v4 v5 v7 v8 v9 v10 h
def f_mStreams_goneStream (v0 : Nat) (v1 : Int) (v2 : Int) (v3 : Int) (v4 : Int) (v5 : Int) (v7 : Int) (h : Hp) : Option (Hp) :=
  b2 (f_mStreams_at v1 v2 h) fun r3 h1 =>
  if hR h1 v0 20 = 0 then none else
  if ix r3 (ln h1 (hR h1 v0 20)) then
    lt1 (hI h1 (hR h1 v0 20) r3.toNat) fun y6 =>
    f_mStreams_goneStream_b19_lp FU v0 v1 v2 v3 v4 v5 v7 r3 y6 0 h1
  else none
def f_mStreams_gone_b361 (v0 : Nat) (v1 : Int) (v2 : Int) (v3 : Int) (v10 : Int) (h : Hp) : Option (Hp) :=
  lt1 (w32 ((w32 ((w32 ((w32 (3 * v1)) + 1)) + v2)) - 22)) fun y80 =>
  if v10 ≠ 0 then (
    some h
  ) else
  if hR h v0 3 = 0 then none else
  if ix y80 (ln h (hR h v0 3)) then
    if (hJ h (hR h v0 3) y80.toNat) ≠ v3 then (
      some h
    ) else
    if ix y80 (ln h (hR h v0 3)) then
      lt1 (sJ h (hR h v0 3) y80.toNat (-1)) fun h84 =>
      some h84
    else none
  else none
def f_mStreams_gone_b178 (v0 : Nat) (v1 : Int) (v3 : Int) (h : Hp) : Option (Hp) :=
  b1 (f_mStreams_looksOver v0 v1 (w32 v3) h) fun h78 =>
  some h78
def f_mStreams_gone_b154 (v0 : Nat) (v1 : Int) (v3 : Int) (v10 : Int) (v11 : Int) (h : Hp) : Option (Hp) :=
  if v10 ≠ 0 then (
    f_mStreams_gone_b178 v0 v1 v3 h
  ) else
  if hR h v0 16 = 0 then none else
  if ix v11 (ln h (hR h v0 16)) then
    if (hI h (hR h v0 16) v11.toNat) ≠ 1 then (
      f_mStreams_gone_b178 v0 v1 v3 h
    ) else
    if hR h v0 17 = 0 then none else
    if ix v11 (ln h (hR h v0 17)) then
      lt1 (sI h (hR h v0 17) v11.toNat 1) fun h77 =>
      f_mStreams_gone_b178 v0 v1 v3 h77
    else none
  else none
def f_mStreams_gone_b259 (v0 : Nat) (v1 : Int) (v2 : Int) (v3 : Int) (v10 : Int) (h : Hp) : Option (Hp) :=
  lt1 (w32 ((w32 ((w32 (2 * v1)) + v2)) - 18)) fun y67 =>
  if v10 ≠ 0 then (
    some h
  ) else
  if hR h v0 6 = 0 then none else
  if ix y67 (ln h (hR h v0 6)) then
    if v3 ≠ (hI h (hR h v0 6) y67.toNat) then (
      some h
    ) else
    if hR h v0 7 = 0 then none else
    if ix y67 (ln h (hR h v0 7)) then
      lt1 (sI h (hR h v0 7) y67.toNat 1) fun h72 =>
      some h72
    else none
  else none
def f_mStreams_gone_b15 (v0 : Nat) (v1 : Int) (v2 : Int) (v3 : Int) (v5 : Int) (v7 : Int) (v8 : Int) (v10 : Int) (s0 : Int) (s1 : Int) (h : Hp) : Option (Hp) :=
  b2 (f_mStreams_at s0 s1 h) fun r3 h1 =>
  if v2 = 4 then (
    if v10 = 0 then (
      f_mStreams_gone_b154 v0 v1 v3 v10 r3 h1
    ) else
    if hR h1 v0 16 = 0 then none else
    if ix r3 (ln h1 (hR h1 v0 16)) then
      if (hI h1 (hR h1 v0 16) r3.toNat) ≠ 1 then (
        f_mStreams_gone_b154 v0 v1 v3 v10 r3 h1
      ) else
      if ix r3 (ln h1 (hR h1 v0 16)) then
        lt1 (sI h1 (hR h1 v0 16) r3.toNat 2) fun h9 =>
        f_mStreams_gone_b178 v0 v1 v3 h9
      else none
    else none
  ) else
  if v2 = 5 then (
    if v10 ≠ 0 then (
      some h1
    ) else
    if hR h1 v0 36 = 0 then none else
    if ix r3 (ln h1 (hR h1 v0 36)) then
      lt1 (sI h1 (hR h1 v0 36) r3.toNat 1) fun h14 =>
      some h14
    else none
  ) else
  if v2 = 6 then (
    f_mStreams_gone_b361 v0 v1 v2 v3 v10 h1
  ) else
  if v2 = 7 then (
    f_mStreams_gone_b361 v0 v1 v2 v3 v10 h1
  ) else
  if v2 = 8 then (
    b1 (f_mStreams_goneStream v0 v1 (w32 v3) (w32 v5) v7 v8 v10 h1) fun h21 =>
    some h21
  ) else
  if v2 = 9 then (
    f_mStreams_gone_b361 v0 v1 v2 v3 v10 h1
  ) else
  if v2 = 10 then (
    f_mStreams_gone_b361 v0 v1 v2 v3 v10 h1
  ) else
  if v2 = 11 then (
    f_mStreams_gone_b361 v0 v1 v2 v3 v10 h1
  ) else
  if v2 = 12 then (
    f_mStreams_gone_b361 v0 v1 v2 v3 v10 h1
  ) else
  if v2 = 13 then (
    f_mStreams_gone_b361 v0 v1 v2 v3 v10 h1
  ) else
  if v2 = 14 then (
    f_mStreams_gone_b361 v0 v1 v2 v3 v10 h1
  ) else
  if v2 = 15 then (
    f_mStreams_gone_b361 v0 v1 v2 v3 v10 h1
  ) else
  if v2 = 16 then (
    if v10 ≠ 0 then (
      some h1
    ) else
    if hR h1 v0 9 = 0 then none else
    if ix v1 (ln h1 (hR h1 v0 9)) then
      if v3 ≠ (hJ h1 (hR h1 v0 9) v1.toNat) then (
        some h1
      ) else
      if hR h1 v0 10 = 0 then none else
      if ix v1 (ln h1 (hR h1 v0 10)) then
        lt1 (sI h1 (hR h1 v0 10) v1.toNat 1) fun h43 =>
        some h43
      else none
    else none
  ) else
  if v2 = 17 then (
    if v10 ≠ 0 then (
      some h1
    ) else
    if hR h1 v0 33 = 0 then none else
    if ix r3 (ln h1 (hR h1 v0 33)) then
      if v5 ≠ (hJ h1 (hR h1 v0 33) r3.toNat) then (
        some h1
      ) else
      if hR h1 v0 34 = 0 then none else
      if ix r3 (ln h1 (hR h1 v0 34)) then
        lt1 (sI h1 (hR h1 v0 34) r3.toNat 1) fun h50 =>
        some h50
      else none
    else none
  ) else
  if v2 = 18 then (
    f_mStreams_gone_b259 v0 v1 v2 v3 v10 h1
  ) else
  if v2 = 19 then (
    f_mStreams_gone_b259 v0 v1 v2 v3 v10 h1
  ) else
  if v2 = 20 then (
    if v10 ≠ 0 then (
      some h1
    ) else
    if hR h1 v0 3 = 0 then none else
    if ix (w32 (3 * v1)) (ln h1 (hR h1 v0 3)) then
      if (hJ h1 (hR h1 v0 3) ((w32 (3 * v1)).toNat)) ≠ v3 then (
        some h1
      ) else
      if ix (w32 (3 * v1)) (ln h1 (hR h1 v0 3)) then
        lt1 (sJ h1 (hR h1 v0 3) ((w32 (3 * v1)).toNat) (-1)) fun h60 =>
        some h60
      else none
    else none
  ) else
  if v2 = 21 then (
    if v10 ≠ 0 then (
      some h1
    ) else
    if hR h1 v0 19 = 0 then none else
    if ix r3 (ln h1 (hR h1 v0 19)) then
      if (hJ h1 (hR h1 v0 19) r3.toNat) ≠ v5 then (
        some h1
      ) else
      if ix r3 (ln h1 (hR h1 v0 19)) then
        lt1 (sJ h1 (hR h1 v0 19) r3.toNat (-1)) fun h66 =>
        some h66
      else none
    else none
  ) else
  f_mStreams_gone_b361 v0 v1 v2 v3 v10 h1
def f_mStreams_gone (v0 : Nat) (v1 : Int) (v2 : Int) (v3 : Int) (v5 : Int) (v7 : Int) (v8 : Int) (v10 : Int) (h : Hp) : Option (Hp) :=
  if 256 ≤ v3 then (
    f_mStreams_gone_b15 v0 v1 v2 v3 v5 v7 v8 v10 v1 0 h
  ) else
  f_mStreams_gone_b15 v0 v1 v2 v3 v5 v7 v8 v10 v1 (w32 v3) h
def f_mSide_tellPacket_b194 (k61 : Nat → Int → Int → Nat → Int → Int → Hp → Option (Hp)) (v0 : Nat) (v1 : Int) (v3 : Int) (v4 : Nat) (v5 : Int) (v6 : Int) (h : Hp) : Option (Hp) :=
  k61 v0 v1 v3 v4 v5 (w32 (v6 + 1)) h
def f_mSide_tellPacket_b61 (k61 : Nat → Int → Int → Nat → Int → Int → Hp → Option (Hp)) (v0 : Nat) (v1 : Int) (v3 : Int) (v4 : Nat) (v5 : Int) (v6 : Int) (h : Hp) : Option (Hp) :=
  if v5 ≤ v6 then (
    some h
  ) else
  if v4 = 0 then none else
  if hR h v4 1 = 0 then none else
  if ix v6 (ln h (hR h v4 1)) then
    if (hI h (hR h v4 1) v6.toNat) ≠ 6 then (
      if ix v6 (ln h (hR h v4 1)) then
        if (hI h (hR h v4 1) v6.toNat) ≠ 30 then (
          if ix v6 (ln h (hR h v4 1)) then
            if (hI h (hR h v4 1) v6.toNat) = 27 then (
              f_mSide_tellPacket_b194 k61 v0 v1 v3 v4 v5 v6 h
            ) else
            if ix v6 (ln h (hR h v4 1)) then
              if hR h v4 3 = 0 then none else
              if ix v6 (ln h (hR h v4 3)) then
                if hR h v4 4 = 0 then none else
                if ix v6 (ln h (hR h v4 4)) then
                  if hR h v4 2 = 0 then none else
                  if ix v6 (ln h (hR h v4 2)) then
                    if hR h v4 5 = 0 then none else
                    if ix v6 (ln h (hR h v4 5)) then
                      if hR h v0 2 = 0 then none else
                      b1 (f_mStreams_gone (hR h v0 2) (hI h v0 0) (hI h (hR h v4 1) v6.toNat) (hJ h (hR h v4 3) v6.toNat) (hJ h (hR h v4 4) v6.toNat) (hI h (hR h v4 2) v6.toNat) (hI h (hR h v4 5) v6.toNat) v3 h) fun h28 =>
                      f_mSide_tellPacket_b194 k61 v0 v1 v3 v4 v5 v6 h28
                    else none
                  else none
                else none
              else none
            else none
          else none
        ) else
        b1 (f_mSide_tellDone v0 v3 h) fun h30 =>
        f_mSide_tellPacket_b194 k61 v0 v1 v3 v4 v5 v6 h30
      else none
    ) else
    if hR h v4 4 = 0 then none else
    if ix v6 (ln h (hR h v4 4)) then
      if hR h v4 2 = 0 then none else
      if ix v6 (ln h (hR h v4 2)) then
        b1 (f_mSide_tellCrypto v0 v1 (w32 (hJ h (hR h v4 4) v6.toNat)) (hI h (hR h v4 2) v6.toNat) v3 h) fun h36 =>
        f_mSide_tellPacket_b194 k61 v0 v1 v3 v4 v5 v6 h36
      else none
    else none
  else none
def f_mSide_tellPacket_b61_lp : Nat → Nat → Int → Int → Nat → Int → Int → Hp → Option (Hp)
  | 0, _, _, _, _, _, _, _ => none
  | n + 1, v0, v1, v3, v4, v5, v6, h => f_mSide_tellPacket_b61 (f_mSide_tellPacket_b61_lp n) v0 v1 v3 v4 v5 v6 h
def f_mSide_tellPacket_b45 (v0 : Nat) (v1 : Int) (v2 : Int) (v3 : Int) (v4 : Nat) (s0 : Int) (h : Hp) : Option (Hp) :=
  if hR h v0 44 = 0 then none else
  if ix (w32 ((w32 (4097 * v1)) + v2)) (ln h (hR h v0 44)) then
    lt1 (hI h (hR h v0 44) ((w32 ((w32 (4097 * v1)) + v2)).toNat)) fun y12 =>
    f_mSide_tellPacket_b61_lp FU v0 v1 v3 v4 s0 y12 h
  else none
def f_mSide_tellPacket (v0 : Nat) (v1 : Int) (v2 : Int) (v3 : Int) (h : Hp) : Option (Hp) :=
  if hR h v0 45 = 0 then none else
  if ix v1 (ln h (hR h v0 45)) then
    lt1 (hR h (hR h v0 45) v1.toNat) fun y3 =>
    if hR h v0 4 = 0 then none else
    if hR h (hR h v0 4) 3 = 0 then none else
    if ix v1 (ln h (hR h (hR h v0 4) 3)) then
      if (hI h (hR h (hR h v0 4) 3) v1.toNat) ≤ (w32 (v2 + 1)) then (
        if y3 = 0 then none else
        f_mSide_tellPacket_b45 v0 v1 v2 v3 y3 (hI h y3 0) h
      ) else
      if hR h v0 44 = 0 then none else
      if ix (w32 ((w32 ((w32 (4097 * v1)) + v2)) + 1)) (ln h (hR h v0 44)) then
        f_mSide_tellPacket_b45 v0 v1 v2 v3 y3 (hI h (hR h v0 44) ((w32 ((w32 ((w32 (4097 * v1)) + v2)) + 1)).toNat)) h
      else none
    else none
  else none
def f_mSide_tellFound_b44 (k44 : Nat → Int → Int → Hp → Option (Hp)) (v0 : Nat) (v1 : Int) (v2 : Int) (h : Hp) : Option (Hp) :=
  if v2 < 0 then (
    some h
  ) else
  b1 (f_mSide_tellPacket v0 v1 v2 0 h) fun h15 =>
  if hR h15 v0 4 = 0 then none else
  b2 (f_mBook_next (hR h15 v0 4) v1 1 h15) fun r20 h18 =>
  k44 v0 v1 r20 h18
def f_mSide_tellFound_b44_lp : Nat → Nat → Int → Int → Hp → Option (Hp)
  | 0, _, _, _, _ => none
  | n + 1, v0, v1, v2, h => f_mSide_tellFound_b44 (f_mSide_tellFound_b44_lp n) v0 v1 v2 h
def f_mSide_tellFound_b10 (k10 : Nat → Int → Int → Hp → Option (Hp)) (v0 : Nat) (v1 : Int) (v2 : Int) (h : Hp) : Option (Hp) :=
  if v2 < 0 then (
    if hR h v0 4 = 0 then none else
    b2 (f_mBook_next (hR h v0 4) v1 1 h) fun r8 h6 =>
    f_mSide_tellFound_b44_lp FU v0 v1 r8 h6
  ) else
  b1 (f_mSide_tellPacket v0 v1 v2 1 h) fun h9 =>
  if hR h9 v0 4 = 0 then none else
  b2 (f_mBook_next (hR h9 v0 4) v1 0 h9) fun r14 h12 =>
  k10 v0 v1 r14 h12
def f_mSide_tellFound_b10_lp : Nat → Nat → Int → Int → Hp → Option (Hp)
  | 0, _, _, _, _ => none
  | n + 1, v0, v1, v2, h => f_mSide_tellFound_b10 (f_mSide_tellFound_b10_lp n) v0 v1 v2 h
def f_mSide_tellFound (v0 : Nat) (v1 : Int) (h : Hp) : Option (Hp) :=
  if hR h v0 4 = 0 then none else
  b2 (f_mBook_next (hR h v0 4) v1 0 h) fun r4 h2 =>
  f_mSide_tellFound_b10_lp FU v0 v1 r4 h2
def f_mSide_acknowledged_b132 (v0 : Nat) (v1 : Int) (s0 : Nat) (s1 : Int) (s2 : Int) (h : Hp) : Option (Int × Hp) :=
  if s0 = 0 then none else
  b2 (f_mBook_acknowledge s0 s1 (w32 s2) h) fun r30 h28 =>
  if r30 ≠ 0 then (
    b1 (f_mSide_tellFound v0 v1 h28) fun h31 =>
    some (0, h31)
  ) else
  some (10, h28)
def f_mSide_acknowledged_b41 (k41 : Nat → Int → Int → Int → Hp → Option (Int × Hp)) (v0 : Nat) (v1 : Int) (v2 : Int) (v3 : Int) (h : Hp) : Option (Int × Hp) :=
  if v2 ≤ v3 then (
    if hR h v0 4 = 0 then none else
    lt1 (sI h (hR h v0 4) 27 v2) fun h6 =>
    if hR h6 v0 21 = 0 then none else
    if hR h6 (hR h6 v0 21) 5 = 0 then none else
    if ix 1 (ln h6 (hR h6 (hR h6 v0 21) 5)) then
      if (hJ h6 (hR h6 (hR h6 v0 21) 5) (Int.toNat 1)) ≤ 100000 then (
        if ix 1 (ln h6 (hR h6 (hR h6 v0 21) 5)) then
          f_mSide_acknowledged_b132 v0 v1 (hR h6 v0 4) v1 (hJ h6 (hR h6 (hR h6 v0 21) 5) (Int.toNat 1)) h6
        else none
      ) else
      f_mSide_acknowledged_b132 v0 v1 (hR h6 v0 4) v1 100000 h6
    else none
  ) else
  if hR h v0 4 = 0 then none else
  if hR h v0 21 = 0 then none else
  b2 (f_mWire_edge (hR h v0 21) v3 0 h) fun r15 h13 =>
  if hR h (hR h v0 4) 28 = 0 then none else
  if ix v3 (ln h13 (hR h (hR h v0 4) 28)) then
    lt1 (sJ h13 (hR h (hR h v0 4) 28) v3.toNat r15) fun h18 =>
    if hR h18 v0 4 = 0 then none else
    if hR h18 v0 21 = 0 then none else
    b2 (f_mWire_edge (hR h18 v0 21) v3 1 h18) fun r23 h21 =>
    if hR h18 (hR h18 v0 4) 29 = 0 then none else
    if ix v3 (ln h21 (hR h18 (hR h18 v0 4) 29)) then
      lt1 (sJ h21 (hR h18 (hR h18 v0 4) 29) v3.toNat r23) fun h26 =>
      k41 v0 v1 v2 (w32 (v3 + 1)) h26
    else none
  else none
def f_mSide_acknowledged_b41_lp : Nat → Nat → Int → Int → Int → Hp → Option (Int × Hp)
  | 0, _, _, _, _, _ => none
  | n + 1, v0, v1, v2, v3, h => f_mSide_acknowledged_b41 (f_mSide_acknowledged_b41_lp n) v0 v1 v2 v3 h
def f_mSide_acknowledged_b38 (v0 : Nat) (v1 : Int) (s0 : Int) (h : Hp) : Option (Int × Hp) :=
  f_mSide_acknowledged_b41_lp FU v0 v1 s0 0 h
def f_mSide_acknowledged (v0 : Nat) (v1 : Int) (h : Hp) : Option (Int × Hp) :=
  if hR h v0 4 = 0 then none else
  if hR h (hR h v0 4) 11 = 0 then none else
  if ix v1 (ln h (hR h (hR h v0 4) 11)) then
    if (hI h (hR h (hR h v0 4) 11) v1.toNat) = 0 then (
      if hR h v0 21 = 0 then none else
      if 64 ≤ (hI h (hR h v0 21) 8) then (
        f_mSide_acknowledged_b38 v0 v1 64 h
      ) else
      f_mSide_acknowledged_b38 v0 v1 (hI h (hR h v0 21) 8) h
    ) else
    some (0, h)
  else none
def f_mGreet_isSize_b22 (h : Hp) : Option (Int × Hp) :=
  some (0, h)
def f_mGreet_isSize (v0 : Int) (v1 : Int) (h : Hp) : Option (Int × Hp) :=
  if v0 ≠ 1 then (
    if v0 ≠ 8 then (
      if v1 ≠ 32 then (
        some (0, h)
      ) else
      some (1, h)
    ) else
    if 300 < v1 then (
      some (0, h)
    ) else
    some (1, h)
  ) else
  if v1 < 32 then (
    f_mGreet_isSize_b22  h
  ) else
  if 332 < v1 then (
    f_mGreet_isSize_b22  h
  ) else
  some (1, h)
def f_mGreet_lookAt_b38 (v0 : Nat) (v1 : Int) (v2 : Int) (s0 : Int) (h : Hp) : Option (Int × Hp) :=
  if s0 ≠ v1 then (
    some ((-266), h)
  ) else
  if hR h v0 11 = 0 then none else
  if ix v2 (ln h (hR h v0 11)) then
    if (hI h (hR h v0 11) v2.toNat) = (hI h v0 6) then (
      if hR h v0 12 = 0 then none else
      if ix v1 (ln h (hR h v0 12)) then
        if 4 ≤ (hI h (hR h v0 12) v1.toNat) then (
          if ix (w32 (v2 + 1)) (ln h (hR h v0 11)) then
            if ix (w32 (v2 + 2)) (ln h (hR h v0 11)) then
              if ix (w32 (v2 + 3)) (ln h (hR h v0 11)) then
                lt1 (iOr (iOr (iShl (hI h (hR h v0 11) ((w32 (v2 + 1)).toNat)) 16) (iShl (hI h (hR h v0 11) ((w32 (v2 + 2)).toNat)) 8)) (hI h (hR h v0 11) ((w32 (v2 + 3)).toNat))) fun y11 =>
                b2 (f_mGreet_isSize (hI h v0 6) y11 h) fun r14 h12 =>
                if r14 ≠ 0 then (
                  if hR h12 v0 12 = 0 then none else
                  if ix v1 (ln h12 (hR h12 v0 12)) then
                    if (w32 (4 + y11)) ≤ (hI h12 (hR h12 v0 12) v1.toNat) then (
                      some (w32 (4 + y11), h12)
                    ) else
                    some (0, h12)
                  else none
                ) else
                some ((-306), h12)
              else none
            else none
          else none
        ) else
        some (0, h)
      else none
    ) else
    some ((-266), h)
  else none
def f_mGreet_lookAt (v0 : Nat) (v1 : Int) (h : Hp) : Option (Int × Hp) :=
  lt1 (w32 (1024 * v1)) fun y1 =>
  if hR h v0 12 = 0 then none else
  if ix v1 (ln h (hR h v0 12)) then
    if (hI h (hR h v0 12) v1.toNat) ≠ 0 then (
      if (hI h v0 6) = 0 then (
        some ((-266), h)
      ) else
      if 8 ≤ (hI h v0 6) then (
        f_mGreet_lookAt_b38 v0 v1 y1 1 h
      ) else
      f_mGreet_lookAt_b38 v0 v1 y1 0 h
    ) else
    some (0, h)
  else none
def f_mSeals_digest_b34 (k34 : Nat → Nat → Int → Hp → Option (Hp)) (v0 : Nat) (v3 : Nat) (v4 : Int) (h : Hp) : Option (Hp) :=
  if 32 ≤ v4 then (
    some h
  ) else
  if hR h v0 8 = 0 then none else
  if ix v4 (ln h (hR h v0 8)) then
    if v3 = 0 then none else
    if ix v4 (ln h v3) then
      lt1 (sI h v3 v4.toNat (hI h (hR h v0 8) v4.toNat)) fun h12 =>
      k34 v0 v3 (w32 (v4 + 1)) h12
    else none
  else none
def f_mSeals_digest_b34_lp : Nat → Nat → Nat → Int → Hp → Option (Hp)
  | 0, _, _, _, _ => none
  | n + 1, v0, v3, v4, h => f_mSeals_digest_b34 (f_mSeals_digest_b34_lp n) v0 v3 v4 h
def f_mSeals_digest_b3 (k3 : Nat → Nat → Int → Nat → Int → Hp → Option (Hp)) (v0 : Nat) (v1 : Nat) (v2 : Int) (v3 : Nat) (v4 : Int) (h : Hp) : Option (Hp) :=
  if v2 ≤ v4 then (
    b1 (f_mSeals_digestWork v0 v2 h) fun h1 =>
    f_mSeals_digest_b34_lp FU v0 v3 0 h1
  ) else
  if v1 = 0 then none else
  if ix v4 (ln h v1) then
    if hR h v0 4 = 0 then none else
    if ix v4 (ln h (hR h v0 4)) then
      lt1 (sI h (hR h v0 4) v4.toNat (hI h v1 v4.toNat)) fun h7 =>
      k3 v0 v1 v2 v3 (w32 (v4 + 1)) h7
    else none
  else none
def f_mSeals_digest_b3_lp : Nat → Nat → Nat → Int → Nat → Int → Hp → Option (Hp)
  | 0, _, _, _, _, _, _ => none
  | n + 1, v0, v1, v2, v3, v4, h => f_mSeals_digest_b3 (f_mSeals_digest_b3_lp n) v0 v1 v2 v3 v4 h
def f_mSeals_digest (v0 : Nat) (v1 : Nat) (v2 : Int) (v3 : Nat) (h : Hp) : Option (Hp) :=
  f_mSeals_digest_b3_lp FU v0 v1 v2 v3 0 h
def f_mGreet_prove (v0 : Nat) (v1 : Int) (h : Hp) : Option (Hp) :=
  if hR h v0 1 = 0 then none else
  b1 (f_mSeals_digest (hR h v0 1) (hR h v0 15) (hI h v0 16) (hR h v0 20) h) fun h2 =>
  if hR h2 v0 1 = 0 then none else
  b1 (f_mSeals_label (hR h2 v0 1) (hR h2 v0 17) (w32 (64 + (w32 (32 * v1)))) 10 0 0 32 (hR h2 v0 22) 0 h2) fun h5 =>
  if hR h5 v0 1 = 0 then none else
  b1 (f_mSeals_mac (hR h5 v0 1) (hR h5 v0 22) 0 32 (hR h5 v0 20) 0 32 (hR h5 v0 21) h5) fun h8 =>
  some h8
def f_mGreet_keepTheirs_b7 (k7 : Nat → Int → Int → Int → Hp → Option (Hp)) (v0 : Nat) (v1 : Int) (v2 : Int) (v3 : Int) (h : Hp) : Option (Hp) :=
  if v2 ≤ v3 then (
    some h
  ) else
  if hR h v0 11 = 0 then none else
  if ix (w32 (v1 + v3)) (ln h (hR h v0 11)) then
    if hR h v0 13 = 0 then none else
    if ix v3 (ln h (hR h v0 13)) then
      lt1 (sI h (hR h v0 13) v3.toNat (hI h (hR h v0 11) ((w32 (v1 + v3)).toNat))) fun h6 =>
      k7 v0 v1 v2 (w32 (v3 + 1)) h6
    else none
  else none
def f_mGreet_keepTheirs_b7_lp : Nat → Nat → Int → Int → Int → Hp → Option (Hp)
  | 0, _, _, _, _, _ => none
  | n + 1, v0, v1, v2, v3, h => f_mGreet_keepTheirs_b7 (f_mGreet_keepTheirs_b7_lp n) v0 v1 v2 v3 h
def f_mGreet_keepTheirs (v0 : Nat) (v1 : Int) (v2 : Int) (h : Hp) : Option (Hp) :=
  lt1 (sI h v0 14 v2) fun h1 =>
  f_mGreet_keepTheirs_b7_lp FU v0 v1 v2 0 h1
def f_mGreet_greets_b46 (k46 : Nat → Int → Hp → Option (Hp)) (v0 : Nat) (v1 : Int) (h : Hp) : Option (Hp) :=
  if 2 ≤ v1 then (
    lt1 (sI h v0 18 1) fun h7 =>
    some h7
  ) else
  if hR h v0 1 = 0 then none else
  b1 (f_mSeals_label (hR h v0 1) (hR h v0 19) 0 (w32 (6 + v1)) (hR h v0 20) 32 32 (hR h v0 17) (w32 (64 + (w32 (32 * v1)))) h) fun h9 =>
  k46 v0 (w32 (v1 + 1)) h9
def f_mGreet_greets_b46_lp : Nat → Nat → Int → Hp → Option (Hp)
  | 0, _, _, _ => none
  | n + 1, v0, v1, h => f_mGreet_greets_b46 (f_mGreet_greets_b46_lp n) v0 v1 h
def f_mGreet_greets (v0 : Nat) (h : Hp) : Option (Hp) :=
  if hR h v0 1 = 0 then none else
  b1 (f_mSeals_digest (hR h v0 1) (hR h v0 15) (hI h v0 16) (hR h v0 20) h) fun h2 =>
  if hR h2 v0 1 = 0 then none else
  b1 (f_mSeals_mac (hR h2 v0 1) (hR h2 v0 2) 0 32 (hR h2 v0 20) 0 32 (hR h2 v0 19) h2) fun h5 =>
  f_mGreet_greets_b46_lp FU v0 0 h5
def f_mGreet_talks_b46 (k46 : Nat → Int → Hp → Option (Hp)) (v0 : Nat) (v1 : Int) (h : Hp) : Option (Hp) :=
  if 2 ≤ v1 then (
    lt1 (sI h v0 18 2) fun h7 =>
    some h7
  ) else
  if hR h v0 1 = 0 then none else
  b1 (f_mSeals_label (hR h v0 1) (hR h v0 22) 0 (w32 (8 + v1)) (hR h v0 20) 32 32 (hR h v0 17) (w32 (128 + (w32 (32 * v1)))) h) fun h9 =>
  k46 v0 (w32 (v1 + 1)) h9
def f_mGreet_talks_b46_lp : Nat → Nat → Int → Hp → Option (Hp)
  | 0, _, _, _ => none
  | n + 1, v0, v1, h => f_mGreet_talks_b46 (f_mGreet_talks_b46_lp n) v0 v1 h
def f_mGreet_talks (v0 : Nat) (h : Hp) : Option (Hp) :=
  if hR h v0 1 = 0 then none else
  b1 (f_mSeals_digest (hR h v0 1) (hR h v0 15) (hI h v0 16) (hR h v0 20) h) fun h2 =>
  if hR h2 v0 1 = 0 then none else
  b1 (f_mSeals_mac (hR h2 v0 1) (hR h2 v0 19) 0 32 (hR h2 v0 20) 0 32 (hR h2 v0 22) h2) fun h5 =>
  f_mGreet_talks_b46_lp FU v0 0 h5
def f_mGreet_done_b93 (k73 : Nat → Int → Int → Int → Int → Hp → Option (Int × Hp)) (v0 : Nat) (v2 : Int) (v3 : Int) (v4 : Int) (v5 : Int) (h : Hp) : Option (Int × Hp) :=
  if hR h v0 11 = 0 then none else
  if ix (w32 (v3 + v5)) (ln h (hR h v0 11)) then
    b1 (f_mGreet_note v0 (hI h (hR h v0 11) ((w32 (v3 + v5)).toNat)) h) fun h36 =>
    k73 v0 v2 v3 v4 (w32 (v5 + 1)) h36
  else none
def f_mGreet_done_b112 (v0 : Nat) (v2 : Int) (v3 : Int) (v4 : Int) (h : Hp) : Option (Int × Hp) :=
  if v4 ≠ 1 then (
    if v4 ≠ 2 then (
      if v4 ≠ 8 then (
        lt1 (sI h v0 6 0) fun h5 =>
        lt1 (sI h5 v0 7 1) fun h6 =>
        if (hI h6 v0 0) ≠ 0 then (
          some (0, h6)
        ) else
        b1 (f_mGreet_prove v0 0 h6) fun h7 =>
        b1 (f_mGreet_says v0 20 0 h7) fun h9 =>
        b1 (f_mGreet_talks v0 h9) fun h11 =>
        some (0, h11)
      ) else
      b1 (f_mGreet_keepTheirs v0 (w32 (v3 + 4)) (w32 (v2 - 4)) h) fun h13 =>
      lt1 (sI h13 v0 6 20) fun h15 =>
      some (0, h15)
    ) else
    b1 (f_mGreet_greets v0 h) fun h16 =>
    lt1 (sI h16 v0 6 8) fun h18 =>
    some (0, h18)
  ) else
  b1 (f_mGreet_keepTheirs v0 (w32 (v3 + 36)) (w32 (v2 - 36)) h) fun h19 =>
  b1 (f_mGreet_says v0 2 1 h19) fun h21 =>
  b1 (f_mGreet_greets v0 h21) fun h23 =>
  b1 (f_mGreet_says v0 8 1 h23) fun h25 =>
  b1 (f_mGreet_prove v0 1 h25) fun h27 =>
  b1 (f_mGreet_says v0 20 1 h27) fun h29 =>
  b1 (f_mGreet_talks v0 h29) fun h31 =>
  lt1 (sI h31 v0 6 20) fun h33 =>
  some (0, h33)
def f_mGreet_done_b73 (k73 : Nat → Int → Int → Int → Int → Hp → Option (Int × Hp)) (v0 : Nat) (v2 : Int) (v3 : Int) (v4 : Int) (v5 : Int) (h : Hp) : Option (Int × Hp) :=
  if v2 ≤ v5 then (
    f_mGreet_done_b112 v0 v2 v3 v4 h
  ) else
  if v4 ≠ 20 then (
    f_mGreet_done_b93 k73 v0 v2 v3 v4 v5 h
  ) else
  if (hI h v0 0) ≠ 0 then (
    f_mGreet_done_b112 v0 v2 v3 v4 h
  ) else
  f_mGreet_done_b93 k73 v0 v2 v3 v4 v5 h
def f_mGreet_done_b73_lp : Nat → Nat → Int → Int → Int → Int → Hp → Option (Int × Hp)
  | 0, _, _, _, _, _, _ => none
  | n + 1, v0, v2, v3, v4, v5, h => f_mGreet_done_b73 (f_mGreet_done_b73_lp n) v0 v2 v3 v4 v5 h
def f_mGreet_done_b70 (v0 : Nat) (v2 : Int) (v3 : Int) (v4 : Int) (h : Hp) : Option (Int × Hp) :=
  f_mGreet_done_b73_lp FU v0 v2 v3 v4 0 h
def f_mGreet_done_b32 (k32 : Nat → Int → Int → Int → Int → Hp → Option (Int × Hp)) (v0 : Nat) (v2 : Int) (v3 : Int) (v4 : Int) (v5 : Int) (h : Hp) : Option (Int × Hp) :=
  if 32 ≤ v5 then (
    f_mGreet_done_b70 v0 v2 v3 v4 h
  ) else
  if hR h v0 11 = 0 then none else
  if ix (w32 ((w32 (v3 + 4)) + v5)) (ln h (hR h v0 11)) then
    if hR h v0 21 = 0 then none else
    if ix v5 (ln h (hR h v0 21)) then
      if (hI h (hR h v0 11) ((w32 ((w32 (v3 + 4)) + v5)).toNat)) = (hI h (hR h v0 21) v5.toNat) then (
        k32 v0 v2 v3 v4 (w32 (v5 + 1)) h
      ) else
      some (307, h)
    else none
  else none
def f_mGreet_done_b32_lp : Nat → Nat → Int → Int → Int → Int → Hp → Option (Int × Hp)
  | 0, _, _, _, _, _, _ => none
  | n + 1, v0, v2, v3, v4, v5, h => f_mGreet_done_b32 (f_mGreet_done_b32_lp n) v0 v2 v3 v4 v5 h
def f_mGreet_done (v0 : Nat) (v1 : Int) (v2 : Int) (h : Hp) : Option (Int × Hp) :=
  lt1 (w32 (1024 * v1)) fun y1 =>
  lt1 (hI h v0 6) fun y2 =>
  if y2 ≠ 20 then (
    f_mGreet_done_b70 v0 v2 y1 y2 h
  ) else
  b1 (f_mGreet_prove v0 (w32 (1 - (hI h v0 0))) h) fun h3 =>
  f_mGreet_done_b32_lp FU v0 v2 y1 y2 0 h3
def f_mGreet_works_b40 (k6 : Nat → Int → Int → Hp → Option (Int × Hp)) (k40 : Nat → Int → Int → Int → Hp → Option (Int × Hp)) (v0 : Nat) (v1 : Int) (v2 : Int) (v4 : Int) (h : Hp) : Option (Int × Hp) :=
  if hR h v0 12 = 0 then none else
  if ix v1 (ln h (hR h v0 12)) then
    if (hI h (hR h v0 12) v1.toNat) ≤ v4 then (
      b2 (f_mGreet_lookAt v0 v1 h) fun r24 h22 =>
      k6 v0 v1 r24 h22
    ) else
    if hR h v0 11 = 0 then none else
    if ix (w32 ((w32 ((w32 (1024 * v1)) + v2)) + v4)) (ln h (hR h v0 11)) then
      if ix (w32 ((w32 (1024 * v1)) + v4)) (ln h (hR h v0 11)) then
        lt1 (sI h (hR h v0 11) ((w32 ((w32 (1024 * v1)) + v4)).toNat) (hI h (hR h v0 11) ((w32 ((w32 ((w32 (1024 * v1)) + v2)) + v4)).toNat))) fun h28 =>
        k40 v0 v1 v2 (w32 (v4 + 1)) h28
      else none
    else none
  else none
def f_mGreet_works_b40_lp (k6 : Nat → Int → Int → Hp → Option (Int × Hp)) : Nat → Nat → Int → Int → Int → Hp → Option (Int × Hp)
  | 0, _, _, _, _, _ => none
  | n + 1, v0, v1, v2, v4, h => f_mGreet_works_b40 k6 (f_mGreet_works_b40_lp k6 n) v0 v1 v2 v4 h
def f_mGreet_works_b123 (v0 : Nat) (v2 : Int) (h : Hp) : Option (Int × Hp) :=
  some (w32 (-v2), h)
def f_mGreet_works_b6 (k6 : Nat → Int → Int → Hp → Option (Int × Hp)) (v0 : Nat) (v1 : Int) (v2 : Int) (h : Hp) : Option (Int × Hp) :=
  if v2 ≤ 0 then (
    if 0 ≤ v2 then (
      f_mGreet_works_b123 v0 v2 h
    ) else
    lt1 (sI h v0 8 (w32 (-v2))) fun h4 =>
    lt1 (sI h4 v0 6 0) fun h5 =>
    if hR h5 v0 12 = 0 then none else
    if ix 0 (ln h5 (hR h5 v0 12)) then
      lt1 (sI h5 (hR h5 v0 12) (Int.toNat 0) 0) fun h8 =>
      if hR h8 v0 12 = 0 then none else
      if ix 1 (ln h8 (hR h8 v0 12)) then
        lt1 (sI h8 (hR h8 v0 12) (Int.toNat 1) 0) fun h11 =>
        f_mGreet_works_b123 v0 v2 h11
      else none
    else none
  ) else
  b2 (f_mGreet_done v0 v1 v2 h) fun r14 h12 =>
  if r14 ≤ 0 then (
    if hR h12 v0 12 = 0 then none else
    if ix v1 (ln h12 (hR h12 v0 12)) then
      if ix v1 (ln h12 (hR h12 v0 12)) then
        lt1 (sI h12 (hR h12 v0 12) v1.toNat (w32 ((hI h12 (hR h12 v0 12) v1.toNat) - v2))) fun h18 =>
        f_mGreet_works_b40_lp k6 FU v0 v1 v2 0 h18
      else none
    else none
  ) else
  lt1 (w32 (-r14)) fun y19 =>
  k6 v0 v1 y19 h12
def f_mGreet_works_b6_lp : Nat → Nat → Int → Int → Hp → Option (Int × Hp)
  | 0, _, _, _, _ => none
  | n + 1, v0, v1, v2, h => f_mGreet_works_b6 (f_mGreet_works_b6_lp n) v0 v1 v2 h
def f_mGreet_works (v0 : Nat) (v1 : Int) (h : Hp) : Option (Int × Hp) :=
  b2 (f_mGreet_lookAt v0 v1 h) fun r3 h1 =>
  f_mGreet_works_b6_lp FU v0 v1 r3 h1
def f_mGreet_take_b6 (k6 : Nat → Int → Nat → Int → Int → Int → Int → Hp → Option (Int × Hp)) (v0 : Nat) (v1 : Int) (v2 : Nat) (v3 : Int) (v4 : Int) (v5 : Int) (v6 : Int) (h : Hp) : Option (Int × Hp) :=
  if v4 ≤ v6 then (
    some (v5, h)
  ) else
  if v5 ≠ 0 then (
    some (v5, h)
  ) else
  if hR h v0 12 = 0 then none else
  if ix v1 (ln h (hR h v0 12)) then
    if v2 = 0 then none else
    if ix (w32 (v3 + v6)) (ln h v2) then
      if hR h v0 11 = 0 then none else
      if ix (w32 ((w32 (1024 * v1)) + (hI h (hR h v0 12) v1.toNat))) (ln h (hR h v0 11)) then
        lt1 (sI h (hR h v0 11) ((w32 ((w32 (1024 * v1)) + (hI h (hR h v0 12) v1.toNat))).toNat) (hI h v2 ((w32 (v3 + v6)).toNat))) fun h7 =>
        if hR h7 v0 12 = 0 then none else
        if ix v1 (ln h7 (hR h7 v0 12)) then
          if ix v1 (ln h7 (hR h7 v0 12)) then
            lt1 (sI h7 (hR h7 v0 12) v1.toNat (w32 ((hI h7 (hR h7 v0 12) v1.toNat) + 1))) fun h11 =>
            b2 (f_mGreet_works v0 v1 h11) fun r14 h12 =>
            k6 v0 v1 v2 v3 v4 r14 (w32 (v6 + 1)) h12
          else none
        else none
      else none
    else none
  else none
def f_mGreet_take_b6_lp : Nat → Nat → Int → Nat → Int → Int → Int → Int → Hp → Option (Int × Hp)
  | 0, _, _, _, _, _, _, _, _ => none
  | n + 1, v0, v1, v2, v3, v4, v5, v6, h => f_mGreet_take_b6 (f_mGreet_take_b6_lp n) v0 v1 v2 v3 v4 v5 v6 h
def f_mGreet_take (v0 : Nat) (v1 : Int) (v2 : Nat) (v3 : Int) (v4 : Int) (h : Hp) : Option (Int × Hp) :=
  f_mGreet_take_b6_lp FU v0 v1 v2 v3 v4 0 0 h
def f_mSide_hasBytes_b27 (h : Hp) : Option (Int × Hp) :=
  some (1, h)
def f_mSide_hasBytes (v0 : Int) (h : Hp) : Option (Int × Hp) :=
  if v0 = 0 then (
    f_mSide_hasBytes_b27  h
  ) else
  if v0 = 2 then (
    f_mSide_hasBytes_b27  h
  ) else
  if v0 = 13 then (
    f_mSide_hasBytes_b27  h
  ) else
  if v0 = 15 then (
    f_mSide_hasBytes_b27  h
  ) else
  if v0 ≠ 16 then (
    some (0, h)
  ) else
  f_mSide_hasBytes_b27  h
def f_mSide_suits_b223 (v0 : Nat) (v7 : Int) (s0 : Int) (h : Hp) : Option (Int × Hp) :=
  if v7 ≠ 0 then (
    some (0, h)
  ) else
  if s0 ≠ 0 then (
    some (0, h)
  ) else
  some (1, h)
def f_mSide_suits_b218 (v0 : Nat) (v7 : Int) (h : Hp) : Option (Int × Hp) :=
  f_mSide_suits_b223 v0 v7 1 h
def f_mSide_suits_b222 (v0 : Nat) (v7 : Int) (h : Hp) : Option (Int × Hp) :=
  f_mSide_suits_b223 v0 v7 0 h
def f_mSide_suits_b203 (v0 : Nat) (v2 : Int) (v5 : Int) (v7 : Int) (h : Hp) : Option (Int × Hp) :=
  if v2 ≠ 11 then (
    f_mSide_suits_b222 v0 v7 h
  ) else
  if v5 ≤ 16383 then (
    f_mSide_suits_b222 v0 v7 h
  ) else
  f_mSide_suits_b218 v0 v7 h
def f_mSide_suits_b188 (v0 : Nat) (v2 : Int) (v5 : Int) (v7 : Int) (h : Hp) : Option (Int × Hp) :=
  if v2 ≠ 10 then (
    f_mSide_suits_b203 v0 v2 v5 v7 h
  ) else
  if 20 < v5 then (
    f_mSide_suits_b218 v0 v7 h
  ) else
  f_mSide_suits_b203 v0 v2 v5 v7 h
def f_mSide_suits_b179 (v0 : Nat) (v2 : Int) (v5 : Int) (v7 : Int) (h : Hp) : Option (Int × Hp) :=
  if 1152921504606846976 < v5 then (
    f_mSide_suits_b218 v0 v7 h
  ) else
  f_mSide_suits_b188 v0 v2 v5 v7 h
def f_mSide_suits_b165 (v0 : Nat) (v2 : Int) (v5 : Int) (s0 : Int) (h : Hp) : Option (Int × Hp) :=
  if v2 = 8 then (
    f_mSide_suits_b179 v0 v2 v5 s0 h
  ) else
  if v2 ≠ 9 then (
    f_mSide_suits_b188 v0 v2 v5 s0 h
  ) else
  f_mSide_suits_b179 v0 v2 v5 s0 h
def f_mSide_suits_b160 (v0 : Nat) (v2 : Int) (v5 : Int) (h : Hp) : Option (Int × Hp) :=
  f_mSide_suits_b165 v0 v2 v5 1 h
def f_mSide_suits_b164 (v0 : Nat) (v2 : Int) (v5 : Int) (h : Hp) : Option (Int × Hp) :=
  f_mSide_suits_b165 v0 v2 v5 0 h
def f_mSide_suits_b145 (v0 : Nat) (v2 : Int) (v5 : Int) (h : Hp) : Option (Int × Hp) :=
  if v2 ≠ 14 then (
    f_mSide_suits_b164 v0 v2 v5 h
  ) else
  if 2 ≤ v5 then (
    f_mSide_suits_b164 v0 v2 v5 h
  ) else
  f_mSide_suits_b160 v0 v2 v5 h
def f_mSide_suits (v0 : Nat) (v1 : Nat) (v2 : Int) (v3 : Int) (v4 : Int) (h : Hp) : Option (Int × Hp) :=
  if v2 ≠ 12 then (
    if v2 ≠ 2 then (
      if v2 ≠ 13 then (
        b2 (f_mSide_hasBytes v2 h) fun r3 h1 =>
        if r3 = 0 then (
          if hR h1 v0 3 = 0 then none else
          if v1 = 0 then none else
          b1 (f_mWire_look v1 (hR h1 (hR h1 v0 3) 13) v3 (w32 (v3 + v4)) h1) fun h6 =>
          b2 (f_mWire_takeNumber v1 h6) fun r10 h8 =>
          if hR h8 v0 22 = 0 then none else
          if ix v2 (ln h8 (hR h8 v0 22)) then
            lt1 (sJ h8 (hR h8 v0 22) v2.toNat r10) fun h13 =>
            if (hI h13 v1 3) ≠ 0 then (
              some (0, h13)
            ) else
            if (hI h13 v1 1) = (w32 (v3 + v4)) then (
              if v2 ≠ 3 then (
                f_mSide_suits_b145 v0 v2 r10 h13
              ) else
              if r10 < 1200 then (
                f_mSide_suits_b160 v0 v2 r10 h13
              ) else
              f_mSide_suits_b145 v0 v2 r10 h13
            ) else
            some (0, h13)
          else none
        ) else
        if 20 < v4 then (
          some (0, h1)
        ) else
        some (1, h1)
      ) else
      if v4 < 41 then (
        some (0, h)
      ) else
      if 61 < v4 then (
        some (0, h)
      ) else
      some (1, h)
    ) else
    if v4 ≠ 16 then (
      some (0, h)
    ) else
    some (1, h)
  ) else
  if v4 ≠ 0 then (
    some (0, h)
  ) else
  some (1, h)
def f_mSide_readsParameters_b209 (k4 : Nat → Nat → Int → Int → Hp → Option (Int × Hp)) (v0 : Nat) (v1 : Nat) (v2 : Int) (v3 : Int) (h : Hp) : Option (Int × Hp) :=
  k4 v0 v1 v2 v3 h
def f_mSide_readsParameters_b194 (k4 : Nat → Nat → Int → Int → Hp → Option (Int × Hp)) (v0 : Nat) (v1 : Nat) (v2 : Int) (v3 : Int) (v8 : Int) (v9 : Int) (h : Hp) : Option (Int × Hp) :=
  if v9 ≠ 15 then (
    f_mSide_readsParameters_b209 k4 v0 v1 v2 v3 h
  ) else
  if hR h v0 23 = 0 then none else
  if ix 1 (ln h (hR h v0 23)) then
    lt1 (sI h (hR h v0 23) (Int.toNat 1) v8) fun h31 =>
    f_mSide_readsParameters_b209 k4 v0 v1 v2 v3 h31
  else none
def f_mSide_readsParameters_b181 (k4 : Nat → Nat → Int → Int → Hp → Option (Int × Hp)) (v0 : Nat) (v1 : Nat) (v2 : Int) (v3 : Int) (v8 : Int) (v9 : Int) (h : Hp) : Option (Int × Hp) :=
  if v9 ≠ 0 then (
    f_mSide_readsParameters_b194 k4 v0 v1 v2 v3 v8 v9 h
  ) else
  if hR h v0 23 = 0 then none else
  if ix 0 (ln h (hR h v0 23)) then
    lt1 (sI h (hR h v0 23) (Int.toNat 0) v8) fun h28 =>
    f_mSide_readsParameters_b194 k4 v0 v1 v2 v3 v8 v9 h28
  else none
def f_mSide_readsParameters_b140 (k4 : Nat → Nat → Int → Int → Hp → Option (Int × Hp)) (v0 : Nat) (v1 : Nat) (v2 : Int) (v3 : Int) (v6 : Int) (v8 : Int) (v9 : Int) (h : Hp) : Option (Int × Hp) :=
  b2 (f_mSide_suits v0 v1 v9 v8 (w32 v6) h) fun r18 h16 =>
  if r18 ≠ 0 then (
    lt1 (iOr v2 (iShl 1 v9)) fun y19 =>
    b2 (f_mSide_hasBytes v9 h16) fun r22 h20 =>
    if r22 = 0 then (
      f_mSide_readsParameters_b181 k4 v0 v1 y19 v3 v8 v9 h20
    ) else
    if hR h20 v0 22 = 0 then none else
    if ix v9 (ln h20 (hR h20 v0 22)) then
      lt1 (sJ h20 (hR h20 v0 22) v9.toNat v6) fun h25 =>
      f_mSide_readsParameters_b181 k4 v0 v1 y19 v3 v8 v9 h25
    else none
  ) else
  some (0, h16)
def f_mSide_readsParameters_b115 (k4 : Nat → Nat → Int → Int → Hp → Option (Int × Hp)) (v0 : Nat) (v1 : Nat) (v2 : Int) (v3 : Int) (v6 : Int) (v8 : Int) (v9 : Int) (s0 : Int) (h : Hp) : Option (Int × Hp) :=
  if (iAnd (iShr v2 v9) 1) = 1 then (
    some (0, h)
  ) else
  if s0 = 0 then (
    f_mSide_readsParameters_b140 k4 v0 v1 v2 v3 v6 v8 v9 h
  ) else
  if (hI h v0 0) = 1 then (
    some (0, h)
  ) else
  f_mSide_readsParameters_b140 k4 v0 v1 v2 v3 v6 v8 v9 h
def f_mSide_readsParameters_b110 (k4 : Nat → Nat → Int → Int → Hp → Option (Int × Hp)) (v0 : Nat) (v1 : Nat) (v2 : Int) (v3 : Int) (v6 : Int) (v8 : Int) (v9 : Int) (h : Hp) : Option (Int × Hp) :=
  f_mSide_readsParameters_b115 k4 v0 v1 v2 v3 v6 v8 v9 1 h
def f_mSide_readsParameters_b4 (k4 : Nat → Nat → Int → Int → Hp → Option (Int × Hp)) (v0 : Nat) (v1 : Nat) (v2 : Int) (v3 : Int) (h : Hp) : Option (Int × Hp) :=
  if hR h v0 3 = 0 then none else
  if (hI h (hR h v0 3) 14) ≤ v3 then (
    some (1, h)
  ) else
  if v1 = 0 then none else
  b1 (f_mWire_look v1 (hR h (hR h v0 3) 13) v3 (hI h (hR h v0 3) 14) h) fun h3 =>
  b2 (f_mWire_takeNumber v1 h3) fun r7 h5 =>
  b2 (f_mWire_takeNumber v1 h5) fun r10 h8 =>
  b2 (f_mWire_pass v1 r10 h8) fun r13 h11 =>
  if (hI h11 v1 3) = 0 then (
    lt1 (hI h11 v1 1) fun y14 =>
    if r7 ≤ 16 then (
      lt1 (w32 r7) fun y15 =>
      if y15 = 0 then (
        f_mSide_readsParameters_b110 k4 v0 v1 v2 y14 r10 r13 y15 h11
      ) else
      if y15 = 2 then (
        f_mSide_readsParameters_b110 k4 v0 v1 v2 y14 r10 r13 y15 h11
      ) else
      if y15 = 13 then (
        f_mSide_readsParameters_b110 k4 v0 v1 v2 y14 r10 r13 y15 h11
      ) else
      if y15 ≠ 16 then (
        f_mSide_readsParameters_b115 k4 v0 v1 v2 y14 r10 r13 y15 0 h11
      ) else
      f_mSide_readsParameters_b110 k4 v0 v1 v2 y14 r10 r13 y15 h11
    ) else
    k4 v0 v1 v2 y14 h11
  ) else
  some (0, h11)
def f_mSide_readsParameters_b4_lp : Nat → Nat → Nat → Int → Int → Hp → Option (Int × Hp)
  | 0, _, _, _, _, _ => none
  | n + 1, v0, v1, v2, v3, h => f_mSide_readsParameters_b4 (f_mSide_readsParameters_b4_lp n) v0 v1 v2 v3 h
def f_mSide_readsParameters (v0 : Nat) (v1 : Nat) (h : Hp) : Option (Int × Hp) :=
  f_mSide_readsParameters_b4_lp FU v0 v1 0 0 h
def f_mStreams_know_b59 (v0 : Nat) (s0 : Nat) (s1 : Int) (s2 : Int) (h : Hp) : Option (Hp) :=
  if s0 = 0 then none else
  if ix s1 (ln h s0) then
    lt1 (sJ h s0 s1.toNat s2) fun h9 =>
    some h9
  else none
def f_mStreams_know_b26 (v0 : Nat) (v1 : Int) (v2 : Int) (v3 : Int) (h : Hp) : Option (Hp) :=
  if v2 ≤ 7 then (
    some h
  ) else
  if 64 ≤ v3 then (
    f_mStreams_know_b59 v0 (hR h v0 2) (w32 ((w32 ((w32 (3 * v1)) + v2)) - 7)) 64 h
  ) else
  f_mStreams_know_b59 v0 (hR h v0 2) (w32 ((w32 ((w32 (3 * v1)) + v2)) - 7)) v3 h
def f_mStreams_know (v0 : Nat) (v1 : Int) (v2 : Int) (v3 : Int) (h : Hp) : Option (Hp) :=
  if hR h v0 1 = 0 then none else
  if ix (w32 ((w32 (16 * v1)) + v2)) (ln h (hR h v0 1)) then
    lt1 (sJ h (hR h v0 1) ((w32 ((w32 (16 * v1)) + v2)).toNat) v3) fun h3 =>
    if v2 ≠ 4 then (
      f_mStreams_know_b26 v0 v1 v2 v3 h3
    ) else
    if hR h3 v0 2 = 0 then none else
    if ix (w32 (3 * v1)) (ln h3 (hR h3 v0 2)) then
      lt1 (sJ h3 (hR h3 v0 2) ((w32 (3 * v1)).toNat) v3) fun h6 =>
      f_mStreams_know_b26 v0 v1 v2 v3 h6
    else none
  else none
def f_mSide_readParameters_b161 (k161 : Nat → Int → Hp → Option (Int × Hp)) (v0 : Nat) (v2 : Int) (h : Hp) : Option (Int × Hp) :=
  if 10 ≤ v2 then (
    some (1, h)
  ) else
  if hR h v0 22 = 0 then none else
  if ix v2 (ln h (hR h v0 22)) then
    if hR h v0 2 = 0 then none else
    b1 (f_mStreams_know (hR h v0 2) (hI h v0 0) v2 (hJ h (hR h v0 22) v2.toNat) h) fun h35 =>
    k161 v0 (w32 (v2 + 1)) h35
  else none
def f_mSide_readParameters_b161_lp : Nat → Nat → Int → Hp → Option (Int × Hp)
  | 0, _, _, _ => none
  | n + 1, v0, v2, h => f_mSide_readParameters_b161 (f_mSide_readParameters_b161_lp n) v0 v2 h
def f_mSide_readParameters_b159 (v0 : Nat) (h : Hp) : Option (Int × Hp) :=
  f_mSide_readParameters_b161_lp FU v0 4 h
def f_mSide_readParameters_b70 (k70 : Nat → Int → Hp → Option (Int × Hp)) (v0 : Nat) (v2 : Int) (h : Hp) : Option (Int × Hp) :=
  if (hI h v0 14) ≤ v2 then (
    if (hI h v0 0) ≠ 0 then (
      f_mSide_readParameters_b159 v0 h
    ) else
    if hR h v0 22 = 0 then none else
    if ix 0 (ln h (hR h v0 22)) then
      if (hJ h (hR h v0 22) (Int.toNat 0)) ≠ 8 then (
        some (0, h)
      ) else
      if hR h v0 3 = 0 then none else
      if hR h v0 23 = 0 then none else
      if ix 0 (ln h (hR h v0 23)) then
        b2 (f_mSide_isName v0 (hR h (hR h v0 3) 13) (hI h (hR h v0 23) (Int.toNat 0)) 8 (hR h v0 16) h) fun r24 h22 =>
        if r24 ≠ 0 then (
          f_mSide_readParameters_b159 v0 h22
        ) else
        some (0, h22)
      else none
    else none
  ) else
  if hR h v0 3 = 0 then none else
  if hR h v0 23 = 0 then none else
  if ix 1 (ln h (hR h v0 23)) then
    if hR h (hR h v0 3) 13 = 0 then none else
    if ix (w32 ((hI h (hR h v0 23) (Int.toNat 1)) + v2)) (ln h (hR h (hR h v0 3) 13)) then
      if hR h v0 13 = 0 then none else
      if ix v2 (ln h (hR h v0 13)) then
        if (hI h (hR h (hR h v0 3) 13) ((w32 ((hI h (hR h v0 23) (Int.toNat 1)) + v2)).toNat)) = (hI h (hR h v0 13) v2.toNat) then (
          k70 v0 (w32 (v2 + 1)) h
        ) else
        some (0, h)
      else none
    else none
  else none
def f_mSide_readParameters_b70_lp : Nat → Nat → Int → Hp → Option (Int × Hp)
  | 0, _, _, _ => none
  | n + 1, v0, v2, h => f_mSide_readParameters_b70 (f_mSide_readParameters_b70_lp n) v0 v2 h
def f_mSide_readParameters_b27 (k2 : Nat → Int → Hp → Option (Int × Hp)) (v0 : Nat) (v1 : Int) (s0 : Nat) (s1 : Int) (s2 : Int) (h : Hp) : Option (Int × Hp) :=
  if s0 = 0 then none else
  if ix s1 (ln h s0) then
    lt1 (sJ h s0 s1.toNat s2) fun h16 =>
    k2 v0 (w32 (v1 + 1)) h16
  else none
def f_mSide_readParameters_b2 (k2 : Nat → Int → Hp → Option (Int × Hp)) (v0 : Nat) (v1 : Int) (h : Hp) : Option (Int × Hp) :=
  if 17 ≤ v1 then (
    if hN h + 1 ≤ CN ∧ hZ h + 10 ≤ CZ then
      lt1 (nwC h 41 0 10) fun h2 =>
      b1 (f_mWire_init (hN h) h2) fun h4 =>
      b2 (f_mSide_readsParameters v0 (hN h) h4) fun r8 h6 =>
      if r8 = 0 then (
        some (0, h6)
      ) else
      if hR h6 v0 22 = 0 then none else
      if ix 15 (ln h6 (hR h6 v0 22)) then
        if (hJ h6 (hR h6 v0 22) (Int.toNat 15)) = (hI h6 v0 14) then (
          f_mSide_readParameters_b70_lp FU v0 0 h6
        ) else
        some (0, h6)
      else none
    else none
  ) else
  b2 (f_mSide_hasBytes v1 h) fun r13 h11 =>
  if r13 = 0 then (
    f_mSide_readParameters_b27 k2 v0 v1 (hR h v0 22) v1 0 h11
  ) else
  f_mSide_readParameters_b27 k2 v0 v1 (hR h v0 22) v1 (-1) h11
def f_mSide_readParameters_b2_lp : Nat → Nat → Int → Hp → Option (Int × Hp)
  | 0, _, _, _ => none
  | n + 1, v0, v1, h => f_mSide_readParameters_b2 (f_mSide_readParameters_b2_lp n) v0 v1 h
def f_mSide_readParameters (v0 : Nat) (h : Hp) : Option (Int × Hp) :=
  f_mSide_readParameters_b2_lp FU v0 0 h
def f_mSide_confirm (v0 : Nat) (h : Hp) : Option (Hp) :=
  if hR h v0 4 = 0 then none else
  lt1 (sI h (hR h v0 4) 1 1) fun h2 =>
  if hR h2 v0 4 = 0 then none else
  lt1 (sI h2 (hR h2 v0 4) 2 0) fun h4 =>
  b1 (f_mSide_discard v0 1 h4) fun h5 =>
  some h5
def f_mSide_cryptoComes_b240 (v0 : Nat) (h : Hp) : Option (Int × Hp) :=
  if hR h v0 3 = 0 then none else
  if (hI h (hR h v0 3) 7) = 0 then (
    some (0, h)
  ) else
  if (hI h v0 8) = 1 then (
    lt1 (sI h v0 8 2) fun h41 =>
    b1 (f_mSide_arm v0 2 h41) fun h42 =>
    if (hI h42 v0 0) ≠ 0 then (
      lt1 (sI h42 v0 30 1) fun h44 =>
      b1 (f_mSide_confirm v0 h44) fun h45 =>
      some (0, h45)
    ) else
    some (0, h42)
  ) else
  some (0, h)
def f_mSide_cryptoComes_b200 (v0 : Nat) (v5 : Int) (h : Hp) : Option (Int × Hp) :=
  if v5 ≤ 0 then (
    if hR h v0 3 = 0 then none else
    if (hI h (hR h v0 3) 14) < 0 then (
      f_mSide_cryptoComes_b240 v0 h
    ) else
    if (hI h v0 24) ≠ 0 then (
      f_mSide_cryptoComes_b240 v0 h
    ) else
    b2 (f_mSide_readParameters v0 h) fun r38 h36 =>
    if r38 ≠ 0 then (
      lt1 (sI h36 v0 24 1) fun h39 =>
      f_mSide_cryptoComes_b240 v0 h39
    ) else
    some (8, h36)
  ) else
  some (v5, h)
def f_mSide_cryptoComes_b147 (v0 : Nat) (v1 : Int) (v3 : Int) (v4 : Int) (h : Hp) : Option (Int × Hp) :=
  if hR h v0 27 = 0 then none else
  if ix v1 (ln h (hR h v0 27)) then
    if ix v1 (ln h (hR h v0 27)) then
      lt1 (sI h (hR h v0 27) v1.toNat (w32 ((hI h (hR h v0 27) v1.toNat) + v4))) fun h25 =>
      if hR h25 v0 3 = 0 then none else
      b2 (f_mGreet_take (hR h25 v0 3) v1 (hR h25 v0 25) v3 v4 h25) fun r29 h27 =>
      if hR h27 v0 3 = 0 then none else
      if (hI h27 (hR h27 v0 3) 18) < 1 then (
        f_mSide_cryptoComes_b200 v0 r29 h27
      ) else
      if hR h27 v0 19 = 0 then none else
      if ix 1 (ln h27 (hR h27 v0 19)) then
        if (hI h27 (hR h27 v0 19) (Int.toNat 1)) ≠ 0 then (
          f_mSide_cryptoComes_b200 v0 r29 h27
        ) else
        b1 (f_mSide_arm v0 1 h27) fun h33 =>
        f_mSide_cryptoComes_b200 v0 r29 h33
      else none
    else none
  else none
def f_mSide_cryptoComes_b114 (k114 : Nat → Int → Int → Int → Hp → Option (Int × Hp)) (v0 : Nat) (v1 : Int) (v3 : Int) (v4 : Int) (h : Hp) : Option (Int × Hp) :=
  if hR h v0 27 = 0 then none else
  if ix v1 (ln h (hR h v0 27)) then
    if 2048 ≤ (w32 ((hI h (hR h v0 27) v1.toNat) + v4)) then (
      f_mSide_cryptoComes_b147 v0 v1 v3 v4 h
    ) else
    if hR h v0 26 = 0 then none else
    if ix (w32 (v3 + v4)) (ln h (hR h v0 26)) then
      if (hI h (hR h v0 26) ((w32 (v3 + v4)).toNat)) = 0 then (
        f_mSide_cryptoComes_b147 v0 v1 v3 v4 h
      ) else
      k114 v0 v1 v3 (w32 (v4 + 1)) h
    else none
  else none
def f_mSide_cryptoComes_b114_lp : Nat → Nat → Int → Int → Int → Hp → Option (Int × Hp)
  | 0, _, _, _, _, _ => none
  | n + 1, v0, v1, v3, v4, h => f_mSide_cryptoComes_b114 (f_mSide_cryptoComes_b114_lp n) v0 v1 v3 v4 h
def f_mSide_cryptoComes_b47 (k47 : Nat → Int → Int → Int → Hp → Option (Int × Hp)) (v0 : Nat) (v1 : Int) (v2 : Int) (v3 : Int) (h : Hp) : Option (Int × Hp) :=
  if hR h v0 21 = 0 then none else
  if (hI h (hR h v0 21) 7) ≤ v3 then (
    if hR h v0 27 = 0 then none else
    if ix v1 (ln h (hR h v0 27)) then
      lt1 (w32 ((w32 (2048 * v1)) + (hI h (hR h v0 27) v1.toNat))) fun y9 =>
      f_mSide_cryptoComes_b114_lp FU v0 v1 y9 0 h
    else none
  ) else
  if hR h (hR h v0 21) 0 = 0 then none else
  if ix (w32 ((hI h (hR h v0 21) 6) + v3)) (ln h (hR h (hR h v0 21) 0)) then
    if hR h v0 25 = 0 then none else
    if ix (w32 (v2 + v3)) (ln h (hR h v0 25)) then
      lt1 (sI h (hR h v0 25) ((w32 (v2 + v3)).toNat) (hI h (hR h (hR h v0 21) 0) ((w32 ((hI h (hR h v0 21) 6) + v3)).toNat))) fun h14 =>
      if hR h14 v0 26 = 0 then none else
      if ix (w32 (v2 + v3)) (ln h14 (hR h14 v0 26)) then
        lt1 (sI h14 (hR h14 v0 26) ((w32 (v2 + v3)).toNat) 1) fun h17 =>
        k47 v0 v1 v2 (w32 (v3 + 1)) h17
      else none
    else none
  else none
def f_mSide_cryptoComes_b47_lp : Nat → Nat → Int → Int → Int → Hp → Option (Int × Hp)
  | 0, _, _, _, _, _ => none
  | n + 1, v0, v1, v2, v3, h => f_mSide_cryptoComes_b47 (f_mSide_cryptoComes_b47_lp n) v0 v1 v2 v3 h
def f_mSide_cryptoComes (v0 : Nat) (v1 : Int) (h : Hp) : Option (Int × Hp) :=
  if hR h v0 21 = 0 then none else
  if hR h (hR h v0 21) 5 = 0 then none else
  if ix 1 (ln h (hR h (hR h v0 21) 5)) then
    if (w64 ((hJ h (hR h (hR h v0 21) 5) (Int.toNat 1)) + (hI h (hR h v0 21) 7))) ≤ 2048 then (
      if ix 1 (ln h (hR h (hR h v0 21) 5)) then
        lt1 (w32 ((w32 (2048 * v1)) + (w32 (hJ h (hR h (hR h v0 21) 5) (Int.toNat 1))))) fun y5 =>
        f_mSide_cryptoComes_b47_lp FU v0 v1 y5 0 h
      else none
    ) else
    some (13, h)
  else none
def f_mStreams_meant_b58 (v0 : Nat) (v1 : Int) (v2 : Int) (h : Hp) : Option (Int × Hp) :=
  b2 (f_mStreams_opens v1 v2 h) fun r17 h15 =>
  if r17 ≠ 0 then (
    some (0, h15)
  ) else
  b2 (f_mStreams_wayOf v2 h15) fun r20 h18 =>
  if hR h15 v0 6 = 0 then none else
  if ix (w32 ((w32 (2 * v1)) + r20)) (ln h18 (hR h15 v0 6)) then
    if (lDiv v2 4) < (hI h18 (hR h15 v0 6) ((w32 ((w32 (2 * v1)) + r20)).toNat)) then (
      some (0, h18)
    ) else
    some (4, h18)
  else none
def f_mStreams_meant_b32 (v0 : Nat) (v1 : Int) (v2 : Int) (v4 : Int) (h : Hp) : Option (Int × Hp) :=
  if v4 = 0 then (
    b2 (f_mStreams_receives v1 v2 h) fun r11 h9 =>
    if r11 ≠ 0 then (
      f_mStreams_meant_b58 v0 v1 v2 h9
    ) else
    some (5, h9)
  ) else
  b2 (f_mStreams_sends v1 v2 h) fun r14 h12 =>
  if r14 ≠ 0 then (
    f_mStreams_meant_b58 v0 v1 v2 h12
  ) else
  some (5, h12)
def f_mStreams_meant (v0 : Nat) (v1 : Int) (v2 : Int) (v4 : Int) (h : Hp) : Option (Int × Hp) :=
  b2 (f_mStreams_opens v1 v2 h) fun r3 h1 =>
  if r3 = 0 then (
    f_mStreams_meant_b32 v0 v1 v2 v4 h1
  ) else
  if 256 ≤ v2 then (
    some (5, h1)
  ) else
  b2 (f_mStreams_at v1 (w32 v2) h1) fun r6 h4 =>
  if hR h1 v0 12 = 0 then none else
  if ix r6 (ln h4 (hR h1 v0 12)) then
    if (hI h4 (hR h1 v0 12) r6.toNat) ≠ 0 then (
      f_mStreams_meant_b32 v0 v1 v2 v4 h4
    ) else
    some (5, h4)
  else none
def f_mStreams_received_b5 (k5 : Nat → Int → Int → Int → Hp → Option (Int × Hp)) (v0 : Nat) (v1 : Int) (v2 : Int) (v4 : Int) (h : Hp) : Option (Int × Hp) :=
  if 256 ≤ v4 then (
    some (v2, h)
  ) else
  b2 (f_mStreams_at v1 v4 h) fun r3 h1 =>
  if hR h v0 27 = 0 then none else
  if ix r3 (ln h1 (hR h v0 27)) then
    lt1 (w64 (v2 + (hJ h1 (hR h v0 27) r3.toNat))) fun y6 =>
    k5 v0 v1 y6 (w32 (v4 + 1)) h1
  else none
def f_mStreams_received_b5_lp : Nat → Nat → Int → Int → Int → Hp → Option (Int × Hp)
  | 0, _, _, _, _, _ => none
  | n + 1, v0, v1, v2, v4, h => f_mStreams_received_b5 (f_mStreams_received_b5_lp n) v0 v1 v2 v4 h
def f_mStreams_received (v0 : Nat) (v1 : Int) (h : Hp) : Option (Int × Hp) :=
  f_mStreams_received_b5_lp FU v0 v1 0 0 h
def f_mStreams_reaches_b151 (v0 : Nat) (h : Hp) : Option (Int × Hp) :=
  some (3, h)
def f_mStreams_reaches_b124 (v0 : Nat) (v1 : Int) (v3 : Int) (v7 : Int) (s0 : Int) (h : Hp) : Option (Int × Hp) :=
  if v7 < v3 then (
    f_mStreams_reaches_b151 v0 h
  ) else
  b2 (f_mStreams_received v0 v1 h) fun r22 h20 =>
  if hR h20 v0 9 = 0 then none else
  if ix v1 (ln h20 (hR h20 v0 9)) then
    if (w64 (r22 + s0)) ≤ (hJ h20 (hR h20 v0 9) v1.toNat) then (
      some (0, h20)
    ) else
    f_mStreams_reaches_b151 v0 h20
  else none
def f_mStreams_reaches_b97 (v0 : Nat) (v1 : Int) (v3 : Int) (v6 : Int) (s0 : Int) (h : Hp) : Option (Int × Hp) :=
  if hR h v0 27 = 0 then none else
  if ix v6 (ln h (hR h v0 27)) then
    if v3 ≤ (hJ h (hR h v0 27) v6.toNat) then (
      f_mStreams_reaches_b124 v0 v1 v3 s0 0 h
    ) else
    if ix v6 (ln h (hR h v0 27)) then
      f_mStreams_reaches_b124 v0 v1 v3 s0 (w64 (v3 - (hJ h (hR h v0 27) v6.toNat))) h
    else none
  else none
def f_mStreams_reaches_b71 (v0 : Nat) (v1 : Int) (v2 : Int) (v3 : Int) (v6 : Int) (h : Hp) : Option (Int × Hp) :=
  if hR h v0 12 = 0 then none else
  if ix v6 (ln h (hR h v0 12)) then
    if (hI h (hR h v0 12) v6.toNat) = 0 then (
      b2 (f_mStreams_grantOf v0 v1 v2 h) fun r14 h12 =>
      f_mStreams_reaches_b97 v0 v1 v3 v6 r14 h12
    ) else
    if hR h v0 33 = 0 then none else
    if ix v6 (ln h (hR h v0 33)) then
      f_mStreams_reaches_b97 v0 v1 v3 v6 (hJ h (hR h v0 33) v6.toNat) h
    else none
  else none
def f_mStreams_reaches_b51 (v0 : Nat) (v1 : Int) (v2 : Int) (v3 : Int) (v5 : Int) (v6 : Int) (h : Hp) : Option (Int × Hp) :=
  if v5 = 0 then (
    f_mStreams_reaches_b71 v0 v1 v2 v3 v6 h
  ) else
  if hR h v0 27 = 0 then none else
  if ix v6 (ln h (hR h v0 27)) then
    if (hJ h (hR h v0 27) v6.toNat) ≤ v3 then (
      f_mStreams_reaches_b71 v0 v1 v2 v3 v6 h
    ) else
    some (6, h)
  else none
def f_mStreams_reaches (v0 : Nat) (v1 : Int) (v2 : Int) (v3 : Int) (v5 : Int) (h : Hp) : Option (Int × Hp) :=
  b2 (f_mStreams_at v1 v2 h) fun r3 h1 =>
  if hR h1 v0 28 = 0 then none else
  if ix r3 (ln h1 (hR h1 v0 28)) then
    if (hJ h1 (hR h1 v0 28) r3.toNat) < 0 then (
      f_mStreams_reaches_b51 v0 v1 v2 v3 v5 r3 h1
    ) else
    if ix r3 (ln h1 (hR h1 v0 28)) then
      if (hJ h1 (hR h1 v0 28) r3.toNat) < v3 then (
        some (6, h1)
      ) else
      if v5 = 0 then (
        f_mStreams_reaches_b51 v0 v1 v2 v3 v5 r3 h1
      ) else
      if ix r3 (ln h1 (hR h1 v0 28)) then
        if v3 = (hJ h1 (hR h1 v0 28) r3.toNat) then (
          f_mStreams_reaches_b51 v0 v1 v2 v3 v5 r3 h1
        ) else
        some (6, h1)
      else none
    else none
  else none
def f_mStreams_comesThere_b20 (k20 : Nat → Int → Int → Int → Hp → Option (Hp)) (v0 : Nat) (v1 : Int) (v2 : Int) (v3 : Int) (h : Hp) : Option (Hp) :=
  if hR h v0 5 = 0 then none else
  if ix v3 (ln h (hR h v0 5)) then
    if (iDiv v2 4) < (hI h (hR h v0 5) v3.toNat) then (
      some h
    ) else
    if ix v3 (ln h (hR h v0 5)) then
      b1 (f_mStreams_begin v0 v1 (w32 ((w32 (4 * (hI h (hR h v0 5) v3.toNat))) + (iRem v2 4))) h) fun h11 =>
      if hR h11 v0 5 = 0 then none else
      if ix v3 (ln h11 (hR h11 v0 5)) then
        if ix v3 (ln h11 (hR h11 v0 5)) then
          lt1 (sI h11 (hR h11 v0 5) v3.toNat (w32 ((hI h11 (hR h11 v0 5) v3.toNat) + 1))) fun h16 =>
          k20 v0 v1 v2 v3 h16
        else none
      else none
    else none
  else none
def f_mStreams_comesThere_b20_lp : Nat → Nat → Int → Int → Int → Hp → Option (Hp)
  | 0, _, _, _, _, _ => none
  | n + 1, v0, v1, v2, v3, h => f_mStreams_comesThere_b20 (f_mStreams_comesThere_b20_lp n) v0 v1 v2 v3 h
def f_mStreams_comesThere (v0 : Nat) (v1 : Int) (v2 : Int) (h : Hp) : Option (Hp) :=
  b2 (f_mStreams_wayOf v2 h) fun r3 h1 =>
  lt1 (w32 ((w32 (2 * v1)) + r3)) fun y4 =>
  b2 (f_mStreams_opens v1 v2 h1) fun r7 h5 =>
  if r7 = 0 then (
    f_mStreams_comesThere_b20_lp FU v0 v1 v2 y4 h5
  ) else
  some h5
def f_mStreams_greater (v0 : Int) (v2 : Int) (h : Hp) : Option (Int × Hp) :=
  if v0 ≤ v2 then (
    some (v2, h)
  ) else
  some (v0, h)
def f_mStreams_comes_b83 (v0 : Nat) (v3 : Int) (v4 : Int) (v6 : Int) (h : Hp) : Option (Hp) :=
  if hR h v0 48 = 0 then none else
  if ix v6 (ln h (hR h v0 48)) then
    if (lAnd (lShr (hJ h (hR h v0 48) v6.toNat) (iRem v3 64)) 1) ≠ 1 then (
      if ix v6 (ln h (hR h v0 48)) then
        if ix v6 (ln h (hR h v0 48)) then
          lt1 (sJ h (hR h v0 48) v6.toNat (lOr (hJ h (hR h v0 48) v6.toNat) (lShl 1 (iRem v3 64)))) fun h28 =>
          if hR h28 v0 49 = 0 then none else
          if ix (w32 ((w32 (64 * v6)) + (iRem v3 64))) (ln h28 (hR h28 v0 49)) then
            lt1 (sI h28 (hR h28 v0 49) ((w32 ((w32 (64 * v6)) + (iRem v3 64))).toNat) (i8 (i8 v4))) fun h31 =>
            some h31
          else none
        else none
      else none
    ) else
    some h
  else none
def f_mStreams_comes (v0 : Nat) (v1 : Int) (v2 : Int) (v3 : Int) (v4 : Int) (h : Hp) : Option (Hp) :=
  b2 (f_mStreams_at v1 v2 h) fun r3 h1 =>
  b2 (f_mStreams_pieceAt v0 r3 (iDiv v3 64) h1) fun r6 h4 =>
  if r6 ≠ (-1) then (
    f_mStreams_comes_b83 v0 v3 v4 r6 h4
  ) else
  if hR h4 v0 45 = 0 then none else
  if ix v1 (ln h4 (hR h4 v0 45)) then
    lt1 (w32 ((w32 (1408 * v1)) + (hI h4 (hR h4 v0 45) v1.toNat))) fun y9 =>
    if ix v1 (ln h4 (hR h4 v0 45)) then
      if ix v1 (ln h4 (hR h4 v0 45)) then
        lt1 (sI h4 (hR h4 v0 45) v1.toNat (w32 ((hI h4 (hR h4 v0 45) v1.toNat) + 1))) fun h12 =>
        if hR h12 v0 46 = 0 then none else
        if ix y9 (ln h12 (hR h12 v0 46)) then
          lt1 (sI h12 (hR h12 v0 46) y9.toNat (iDiv v3 64)) fun h15 =>
          if hR h15 v0 39 = 0 then none else
          if ix r3 (ln h15 (hR h15 v0 39)) then
            if hR h15 v0 47 = 0 then none else
            if ix y9 (ln h15 (hR h15 v0 47)) then
              lt1 (sI h15 (hR h15 v0 47) y9.toNat (hI h15 (hR h15 v0 39) r3.toNat)) fun h20 =>
              if hR h20 v0 39 = 0 then none else
              if ix r3 (ln h20 (hR h20 v0 39)) then
                lt1 (sI h20 (hR h20 v0 39) r3.toNat y9) fun h23 =>
                f_mStreams_comes_b83 v0 v3 v4 y9 h23
              else none
            else none
          else none
        else none
      else none
    else none
  else none
def f_mStreams_makeReady_b15 (k15 : Nat → Int → Int → Hp → Option (Hp)) (v0 : Nat) (v1 : Int) (v2 : Int) (h : Hp) : Option (Hp) :=
  if v2 = (-1) then (
    some h
  ) else
  if hR h v0 48 = 0 then none else
  if ix v2 (ln h (hR h v0 48)) then
    if hR h v0 30 = 0 then none else
    if ix v1 (ln h (hR h v0 30)) then
      if (lAnd (lShr (hJ h (hR h v0 48) v2.toNat) (iRem (hI h (hR h v0 30) v1.toNat) 64)) 1) ≠ 1 then (
        some h
      ) else
      if ix v1 (ln h (hR h v0 30)) then
        if ix v1 (ln h (hR h v0 30)) then
          lt1 (sI h (hR h v0 30) v1.toNat (w32 ((hI h (hR h v0 30) v1.toNat) + 1))) fun h12 =>
          if hR h12 v0 30 = 0 then none else
          if ix v1 (ln h12 (hR h12 v0 30)) then
            if (iRem (hI h12 (hR h12 v0 30) v1.toNat) 64) ≠ 0 then (
              k15 v0 v1 v2 h12
            ) else
            if ix v1 (ln h12 (hR h12 v0 30)) then
              b2 (f_mStreams_pieceAt v0 v1 (iDiv (hI h12 (hR h12 v0 30) v1.toNat) 64) h12) fun r18 h16 =>
              k15 v0 v1 r18 h16
            else none
          else none
        else none
      else none
    else none
  else none
def f_mStreams_makeReady_b15_lp : Nat → Nat → Int → Int → Hp → Option (Hp)
  | 0, _, _, _, _ => none
  | n + 1, v0, v1, v2, h => f_mStreams_makeReady_b15 (f_mStreams_makeReady_b15_lp n) v0 v1 v2 h
def f_mStreams_makeReady (v0 : Nat) (v1 : Int) (h : Hp) : Option (Hp) :=
  if hR h v0 30 = 0 then none else
  if ix v1 (ln h (hR h v0 30)) then
    b2 (f_mStreams_pieceAt v0 v1 (iDiv (hI h (hR h v0 30) v1.toNat) 64) h) fun r5 h3 =>
    f_mStreams_makeReady_b15_lp FU v0 v1 r5 h3
  else none
def f_mStreams_takeStream_b177 (v0 : Nat) (v1 : Int) (v5 : Int) (v6 : Int) (h : Hp) : Option (Int × Hp) :=
  b1 (f_mStreams_makeReady v0 v6 h) fun h32 =>
  b1 (f_mStreams_looksOver v0 v1 v5 h32) fun h34 =>
  some (0, h34)
def f_mStreams_takeStream_b135 (k135 : Nat → Int → Nat → Int → Int → Int → Int → Int → Hp → Option (Int × Hp)) (v0 : Nat) (v1 : Int) (v2 : Nat) (v3 : Int) (v5 : Int) (v6 : Int) (v9 : Int) (v10 : Int) (h : Hp) : Option (Int × Hp) :=
  if (hI h v0 54) ≤ v10 then (
    f_mStreams_takeStream_b177 v0 v1 v5 v6 h
  ) else
  if 2 ≤ v9 then (
    f_mStreams_takeStream_b177 v0 v1 v5 v6 h
  ) else
  if v2 = 0 then none else
  if ix (w32 (v3 + v10)) (ln h v2) then
    b1 (f_mStreams_comes v0 v1 v5 (w32 ((w32 (hJ h v0 52)) + v10)) (hI h v2 ((w32 (v3 + v10)).toNat)) h) fun h30 =>
    k135 v0 v1 v2 v3 v5 v6 v9 (w32 (v10 + 1)) h30
  else none
def f_mStreams_takeStream_b135_lp : Nat → Nat → Int → Nat → Int → Int → Int → Int → Int → Hp → Option (Int × Hp)
  | 0, _, _, _, _, _, _, _, _, _ => none
  | n + 1, v0, v1, v2, v3, v5, v6, v9, v10, h => f_mStreams_takeStream_b135 (f_mStreams_takeStream_b135_lp n) v0 v1 v2 v3 v5 v6 v9 v10 h
def f_mStreams_takeStream_b132 (v0 : Nat) (v1 : Int) (v2 : Nat) (v3 : Int) (v5 : Int) (v6 : Int) (v9 : Int) (h : Hp) : Option (Int × Hp) :=
  f_mStreams_takeStream_b135_lp FU v0 v1 v2 v3 v5 v6 v9 0 h
def f_mStreams_takeStream_b67 (v0 : Nat) (v1 : Int) (v2 : Nat) (v3 : Int) (v5 : Int) (v6 : Int) (v7 : Int) (s0 : Nat) (s1 : Int) (s2 : Int) (s3 : Int) (s4 : Int) (h : Hp) : Option (Int × Hp) :=
  if s0 = 0 then none else
  b2 (f_mStreams_reaches s0 s1 s2 s3 s4 h) fun r12 h10 =>
  if r12 ≤ 0 then (
    b1 (f_mStreams_comesThere v0 v1 v5 h10) fun h13 =>
    b2 (f_mStreams_receiving v0 v6 h13) fun r17 h15 =>
    if hR h15 v0 27 = 0 then none else
    if ix v6 (ln h15 (hR h15 v0 27)) then
      b2 (f_mStreams_greater (hJ h15 (hR h15 v0 27) v6.toNat) v7 h15) fun r22 h20 =>
      if ix v6 (ln h20 (hR h15 v0 27)) then
        lt1 (sJ h20 (hR h15 v0 27) v6.toNat r22) fun h24 =>
        if (hJ h24 v0 53) ≠ 1 then (
          f_mStreams_takeStream_b132 v0 v1 v2 v3 v5 v6 r17 h24
        ) else
        if hR h24 v0 28 = 0 then none else
        if ix v6 (ln h24 (hR h24 v0 28)) then
          lt1 (sJ h24 (hR h24 v0 28) v6.toNat v7) fun h27 =>
          f_mStreams_takeStream_b132 v0 v1 v2 v3 v5 v6 r17 h27
        else none
      else none
    else none
  ) else
  some (r12, h10)
def f_mStreams_takeStream (v0 : Nat) (v1 : Int) (v2 : Nat) (v3 : Int) (h : Hp) : Option (Int × Hp) :=
  b2 (f_mStreams_meant v0 v1 (hJ h v0 51) 0 h) fun r3 h1 =>
  if r3 ≤ 0 then (
    lt1 (w32 (hJ h1 v0 51)) fun y4 =>
    b2 (f_mStreams_at v1 y4 h1) fun r7 h5 =>
    lt1 (w64 ((hJ h5 v0 52) + (hI h5 v0 54))) fun y8 =>
    if (hJ h5 v0 53) ≠ 1 then (
      f_mStreams_takeStream_b67 v0 v1 v2 v3 y4 r7 y8 v0 v1 y4 y8 0 h5
    ) else
    f_mStreams_takeStream_b67 v0 v1 v2 v3 y4 r7 y8 v0 v1 y4 y8 1 h5
  ) else
  some (r3, h1)
def f_mStreams_takeReset (v0 : Nat) (v1 : Int) (h : Hp) : Option (Int × Hp) :=
  b2 (f_mStreams_meant v0 v1 (hJ h v0 51) 0 h) fun r3 h1 =>
  if r3 ≤ 0 then (
    lt1 (w32 (hJ h1 v0 51)) fun y4 =>
    b2 (f_mStreams_at v1 y4 h1) fun r7 h5 =>
    b2 (f_mStreams_reaches v0 v1 y4 (hJ h5 v0 53) 1 h5) fun r10 h8 =>
    if r10 ≤ 0 then (
      b1 (f_mStreams_comesThere v0 v1 y4 h8) fun h11 =>
      b2 (f_mStreams_receiving v0 r7 h11) fun r15 h13 =>
      if hR h13 v0 27 = 0 then none else
      if ix r7 (ln h13 (hR h13 v0 27)) then
        lt1 (sJ h13 (hR h13 v0 27) r7.toNat (hJ h13 v0 53)) fun h18 =>
        if hR h18 v0 28 = 0 then none else
        if ix r7 (ln h18 (hR h18 v0 28)) then
          lt1 (sJ h18 (hR h18 v0 28) r7.toNat (hJ h18 v0 53)) fun h21 =>
          if r15 ≤ 1 then (
            if hR h21 v0 31 = 0 then none else
            if ix r7 (ln h21 (hR h21 v0 31)) then
              lt1 (sI h21 (hR h21 v0 31) r7.toNat 1) fun h24 =>
              if hR h24 v0 32 = 0 then none else
              if ix r7 (ln h24 (hR h24 v0 32)) then
                lt1 (sJ h24 (hR h24 v0 32) r7.toNat (hJ h24 v0 52)) fun h27 =>
                b1 (f_mStreams_growData v0 v1 h27) fun h28 =>
                b1 (f_mStreams_looksOver v0 v1 y4 h28) fun h30 =>
                some (0, h30)
              else none
            else none
          ) else
          some (0, h21)
        else none
      else none
    ) else
    some (r10, h8)
  ) else
  some (r3, h1)
def f_mStreams_takeOther_b73 (v0 : Nat) (v1 : Int) (v3 : Int) (h : Hp) : Option (Int × Hp) :=
  if (hI h v0 50) ≠ 17 then (
    some (0, h)
  ) else
  b2 (f_mStreams_at v1 v3 h) fun r18 h16 =>
  b2 (f_mStreams_at v1 v3 h16) fun r21 h19 =>
  if hR h16 v0 13 = 0 then none else
  if ix r21 (ln h19 (hR h16 v0 13)) then
    b2 (f_mStreams_greater (hJ h19 (hR h16 v0 13) r21.toNat) (hJ h19 v0 52) h19) fun r26 h24 =>
    if hR h v0 13 = 0 then none else
    if ix r18 (ln h24 (hR h v0 13)) then
      lt1 (sJ h24 (hR h v0 13) r18.toNat r26) fun h29 =>
      some (0, h29)
    else none
  else none
def f_mStreams_takeOther_b20 (v0 : Nat) (v1 : Int) (s0 : Nat) (s1 : Int) (s2 : Int) (s3 : Int) (h : Hp) : Option (Int × Hp) :=
  if s0 = 0 then none else
  b2 (f_mStreams_meant s0 s1 s2 s3 h) fun r4 h2 =>
  if r4 ≤ 0 then (
    lt1 (w32 (hJ h2 v0 51)) fun y5 =>
    b1 (f_mStreams_comesThere v0 v1 y5 h2) fun h6 =>
    if (hI h6 v0 50) ≠ 5 then (
      f_mStreams_takeOther_b73 v0 v1 y5 h6
    ) else
    b2 (f_mStreams_at v1 y5 h6) fun r10 h8 =>
    b2 (f_mStreams_sending v0 r10 h8) fun r13 h11 =>
    if 2 ≤ r13 then (
      f_mStreams_takeOther_b73 v0 v1 y5 h11
    ) else
    b1 (f_mStreams_doReset v0 v1 y5 (hJ h11 v0 52) h11) fun h14 =>
    f_mStreams_takeOther_b73 v0 v1 y5 h14
  ) else
  some (r4, h2)
def f_mStreams_takeOther (v0 : Nat) (v1 : Int) (h : Hp) : Option (Int × Hp) :=
  if (hI h v0 50) = 21 then (
    f_mStreams_takeOther_b20 v0 v1 v0 v1 (hJ h v0 51) 0 h
  ) else
  f_mStreams_takeOther_b20 v0 v1 v0 v1 (hJ h v0 51) 1 h
def f_mStreams_takes_b209 (v0 : Nat) (s0 : Nat) (s1 : Int) (s2 : Int) (s3 : Int) (h : Hp) : Option (Int × Hp) :=
  b2 (f_mStreams_greater s2 s3 h) fun r34 h32 =>
  if s0 = 0 then none else
  if ix s1 (ln h32 s0) then
    lt1 (sJ h32 s0 s1.toNat r34) fun h37 =>
    some (0, h37)
  else none
def f_mStreams_takes_b165 (v0 : Nat) (v1 : Int) (h : Hp) : Option (Int × Hp) :=
  lt1 (w32 ((w32 ((w32 (3 * v1)) + (hI h v0 50))) - 17)) fun y29 =>
  if hR h v0 2 = 0 then none else
  if ix y29 (ln h (hR h v0 2)) then
    if 64 ≤ (hJ h v0 51) then (
      f_mStreams_takes_b209 v0 (hR h v0 2) y29 (hJ h (hR h v0 2) y29.toNat) 64 h
    ) else
    f_mStreams_takes_b209 v0 (hR h v0 2) y29 (hJ h (hR h v0 2) y29.toNat) (hJ h v0 51) h
  else none
def f_mStreams_takes_b147 (v0 : Nat) (v1 : Int) (h : Hp) : Option (Int × Hp) :=
  if (hI h v0 50) = 18 then (
    f_mStreams_takes_b165 v0 v1 h
  ) else
  if (hI h v0 50) ≠ 19 then (
    some (0, h)
  ) else
  f_mStreams_takes_b165 v0 v1 h
def f_mStreams_takes_b109 (v0 : Nat) (v1 : Int) (h : Hp) : Option (Int × Hp) :=
  b2 (f_mStreams_takeOther v0 v1 h) fun r28 h26 =>
  some (r28, h26)
def f_mStreams_takes (v0 : Nat) (v1 : Int) (v2 : Nat) (h : Hp) : Option (Int × Hp) :=
  if v2 = 0 then none else
  lt1 (sI h v0 50 (hI h v2 4)) fun h2 =>
  if hR h2 v2 5 = 0 then none else
  if ix 0 (ln h2 (hR h2 v2 5)) then
    lt1 (sJ h2 v0 51 (hJ h2 (hR h2 v2 5) (Int.toNat 0))) fun h5 =>
    if hR h5 v2 5 = 0 then none else
    if ix 1 (ln h5 (hR h5 v2 5)) then
      lt1 (sJ h5 v0 52 (hJ h5 (hR h5 v2 5) (Int.toNat 1))) fun h8 =>
      if hR h8 v2 5 = 0 then none else
      if ix 2 (ln h8 (hR h8 v2 5)) then
        lt1 (sJ h8 v0 53 (hJ h8 (hR h8 v2 5) (Int.toNat 2))) fun h11 =>
        lt1 (sI h11 v0 54 (hI h11 v2 7)) fun h12 =>
        if (hI h12 v0 50) ≠ 8 then (
          if (hI h12 v0 50) ≠ 4 then (
            if (hI h12 v0 50) = 5 then (
              f_mStreams_takes_b109 v0 v1 h12
            ) else
            if (hI h12 v0 50) = 17 then (
              f_mStreams_takes_b109 v0 v1 h12
            ) else
            if (hI h12 v0 50) ≠ 21 then (
              if (hI h12 v0 50) ≠ 16 then (
                f_mStreams_takes_b147 v0 v1 h12
              ) else
              if hR h12 v0 2 = 0 then none else
              if ix (w32 (3 * v1)) (ln h12 (hR h12 v0 2)) then
                b2 (f_mStreams_greater (hJ h12 (hR h12 v0 2) ((w32 (3 * v1)).toNat)) (hJ h12 v0 51) h12) fun r17 h15 =>
                if ix (w32 (3 * v1)) (ln h15 (hR h12 v0 2)) then
                  lt1 (sJ h15 (hR h12 v0 2) ((w32 (3 * v1)).toNat) r17) fun h19 =>
                  f_mStreams_takes_b147 v0 v1 h19
                else none
              else none
            ) else
            f_mStreams_takes_b109 v0 v1 h12
          ) else
          b2 (f_mStreams_takeReset v0 v1 h12) fun r22 h20 =>
          some (r22, h20)
        ) else
        b2 (f_mStreams_takeStream v0 v1 (hR h12 v2 0) (hI h12 v2 6) h12) fun r25 h23 =>
        some (r25, h23)
      else none
    else none
  else none
def f_mSide_does_b317 (v0 : Nat) (h : Hp) : Option (Int × Hp) :=
  if hR h v0 2 = 0 then none else
  b2 (f_mStreams_takes (hR h v0 2) (hI h v0 0) (hR h v0 21) h) fun r91 h89 =>
  some (r91, h89)
def f_mSide_does_b288 (v0 : Nat) (s0 : Nat) (s1 : Int) (s2 : Int) (h : Hp) : Option (Int × Hp) :=
  if s0 = 0 then none else
  lt1 (sI h s0 9 (w32 (s1 + (w32 s2)))) fun h85 =>
  b1 (f_mSide_end v0 4 h85) fun h86 =>
  some (0, h86)
def f_mSide_does_b257 (v0 : Nat) (s0 : Nat) (s1 : Int) (h : Hp) : Option (Int × Hp) :=
  if hR h v0 21 = 0 then none else
  if hR h (hR h v0 21) 5 = 0 then none else
  if ix 0 (ln h (hR h (hR h v0 21) 5)) then
    if (hJ h (hR h (hR h v0 21) 5) (Int.toNat 0)) ≤ 9999 then (
      if ix 0 (ln h (hR h (hR h v0 21) 5)) then
        f_mSide_does_b288 v0 s0 s1 (hJ h (hR h (hR h v0 21) 5) (Int.toNat 0)) h
      else none
    ) else
    f_mSide_does_b288 v0 s0 s1 9999 h
  else none
def f_mSide_does_b235 (v0 : Nat) (h : Hp) : Option (Int × Hp) :=
  if hR h v0 21 = 0 then none else
  if (hI h (hR h v0 21) 4) ≠ 28 then (
    f_mSide_does_b257 v0 v0 20000 h
  ) else
  f_mSide_does_b257 v0 v0 10000 h
def f_mSide_does_b146 (v0 : Nat) (v1 : Int) (h : Hp) : Option (Int × Hp) :=
  b2 (f_mSide_acknowledged v0 v1 h) fun r78 h76 =>
  some (r78, h76)
def f_mSide_does_b181 (v0 : Nat) (h : Hp) : Option (Int × Hp) :=
  some (266, h)
def f_mSide_does (v0 : Nat) (v1 : Int) (h : Hp) : Option (Int × Hp) :=
  if hR h v0 21 = 0 then none else
  if hI h (hR h v0 21) 4 = 0 then (
    some (0, h)
  ) else
  if hI h (hR h v0 21) 4 = 1 then (
    some (0, h)
  ) else
  if hI h (hR h v0 21) 4 = 2 then (
    f_mSide_does_b146 v0 v1 h
  ) else
  if hI h (hR h v0 21) 4 = 3 then (
    f_mSide_does_b146 v0 v1 h
  ) else
  if hI h (hR h v0 21) 4 = 4 then (
    f_mSide_does_b317 v0 h
  ) else
  if hI h (hR h v0 21) 4 = 5 then (
    f_mSide_does_b317 v0 h
  ) else
  if hI h (hR h v0 21) 4 = 6 then (
    if v1 ≠ 2 then (
      b2 (f_mSide_cryptoComes v0 v1 h) fun r18 h16 =>
      some (r18, h16)
    ) else
    if hR h (hR h v0 21) 5 = 0 then none else
    if ix 1 (ln h (hR h (hR h v0 21) 5)) then
      if 0 < (hJ h (hR h (hR h v0 21) 5) (Int.toNat 1)) then (
        f_mSide_does_b181 v0 h
      ) else
      if (hI h (hR h v0 21) 7) ≤ 0 then (
        some (0, h)
      ) else
      f_mSide_does_b181 v0 h
    else none
  ) else
  if hI h (hR h v0 21) 4 = 7 then (
    if (hI h v0 0) ≠ 1 then (
      some (0, h)
    ) else
    some (10, h)
  ) else
  if hI h (hR h v0 21) 4 = 8 then (
    f_mSide_does_b317 v0 h
  ) else
  if hI h (hR h v0 21) 4 = 9 then (
    f_mSide_does_b317 v0 h
  ) else
  if hI h (hR h v0 21) 4 = 10 then (
    f_mSide_does_b317 v0 h
  ) else
  if hI h (hR h v0 21) 4 = 11 then (
    f_mSide_does_b317 v0 h
  ) else
  if hI h (hR h v0 21) 4 = 12 then (
    f_mSide_does_b317 v0 h
  ) else
  if hI h (hR h v0 21) 4 = 13 then (
    f_mSide_does_b317 v0 h
  ) else
  if hI h (hR h v0 21) 4 = 14 then (
    f_mSide_does_b317 v0 h
  ) else
  if hI h (hR h v0 21) 4 = 15 then (
    f_mSide_does_b317 v0 h
  ) else
  if hI h (hR h v0 21) 4 = 16 then (
    f_mSide_does_b317 v0 h
  ) else
  if hI h (hR h v0 21) 4 = 17 then (
    f_mSide_does_b317 v0 h
  ) else
  if hI h (hR h v0 21) 4 = 18 then (
    f_mSide_does_b317 v0 h
  ) else
  if hI h (hR h v0 21) 4 = 19 then (
    f_mSide_does_b317 v0 h
  ) else
  if hI h (hR h v0 21) 4 = 20 then (
    f_mSide_does_b317 v0 h
  ) else
  if hI h (hR h v0 21) 4 = 21 then (
    f_mSide_does_b317 v0 h
  ) else
  if hI h (hR h v0 21) 4 = 22 then (
    f_mSide_does_b317 v0 h
  ) else
  if hI h (hR h v0 21) 4 = 23 then (
    f_mSide_does_b317 v0 h
  ) else
  if hI h (hR h v0 21) 4 = 24 then (
    some (0, h)
  ) else
  if hI h (hR h v0 21) 4 = 25 then (
    some (10, h)
  ) else
  if hI h (hR h v0 21) 4 = 26 then (
    lt1 (sI h v0 32 1) fun h61 =>
    if hR h61 v0 21 = 0 then none else
    if hR h61 (hR h61 v0 21) 5 = 0 then none else
    if ix 0 (ln h61 (hR h61 (hR h61 v0 21) 5)) then
      lt1 (sJ h61 v0 33 (hJ h61 (hR h61 (hR h61 v0 21) 5) (Int.toNat 0))) fun h65 =>
      some (0, h65)
    else none
  ) else
  if hI h (hR h v0 21) 4 = 27 then (
    some (0, h)
  ) else
  if hI h (hR h v0 21) 4 = 28 then (
    f_mSide_does_b235 v0 h
  ) else
  if hI h (hR h v0 21) 4 = 29 then (
    f_mSide_does_b235 v0 h
  ) else
  if hI h (hR h v0 21) 4 = 30 then (
    if (hI h v0 0) ≠ 1 then (
      b1 (f_mSide_confirm v0 h) fun h74 =>
      some (0, h74)
    ) else
    some (10, h)
  ) else
  f_mSide_does_b317 v0 h
def f_mBook_takeOut_b12 (k12 : Nat → Int → Int → Hp → Option (Hp)) (v0 : Nat) (v1 : Int) (v3 : Int) (h : Hp) : Option (Hp) :=
  if hR h v0 30 = 0 then none else
  if ix v1 (ln h (hR h v0 30)) then
    if (w32 ((w32 (65 * v1)) + (hI h (hR h v0 30) v1.toNat))) ≤ v3 then (
      some h
    ) else
    if hR h v0 31 = 0 then none else
    if ix (w32 (v3 + 1)) (ln h (hR h v0 31)) then
      if ix v3 (ln h (hR h v0 31)) then
        lt1 (sJ h (hR h v0 31) v3.toNat (hJ h (hR h v0 31) ((w32 (v3 + 1)).toNat))) fun h10 =>
        if hR h10 v0 32 = 0 then none else
        if ix (w32 (v3 + 1)) (ln h10 (hR h10 v0 32)) then
          if ix v3 (ln h10 (hR h10 v0 32)) then
            lt1 (sJ h10 (hR h10 v0 32) v3.toNat (hJ h10 (hR h10 v0 32) ((w32 (v3 + 1)).toNat))) fun h14 =>
            k12 v0 v1 (w32 (v3 + 1)) h14
          else none
        else none
      else none
    else none
  else none
def f_mBook_takeOut_b12_lp : Nat → Nat → Int → Int → Hp → Option (Hp)
  | 0, _, _, _, _ => none
  | n + 1, v0, v1, v3, h => f_mBook_takeOut_b12 (f_mBook_takeOut_b12_lp n) v0 v1 v3 h
def f_mBook_takeOut (v0 : Nat) (v1 : Int) (v2 : Int) (h : Hp) : Option (Hp) :=
  if hR h v0 30 = 0 then none else
  if ix v1 (ln h (hR h v0 30)) then
    if ix v1 (ln h (hR h v0 30)) then
      lt1 (sI h (hR h v0 30) v1.toNat (w32 ((hI h (hR h v0 30) v1.toNat) - 1))) fun h4 =>
      f_mBook_takeOut_b12_lp FU v0 v1 v2 h4
    else none
  else none
def f_mBook_comeIn_b207 (v0 : Nat) (v1 : Int) (h : Hp) : Option (Hp) :=
  if hR h v0 30 = 0 then none else
  if ix v1 (ln h (hR h v0 30)) then
    if (hI h (hR h v0 30) v1.toNat) ≤ 64 then (
      some h
    ) else
    if hR h v0 32 = 0 then none else
    if ix (w32 (65 * v1)) (ln h (hR h v0 32)) then
      if hR h v0 33 = 0 then none else
      if ix v1 (ln h (hR h v0 33)) then
        lt1 (sJ h (hR h v0 33) v1.toNat (w64 ((hJ h (hR h v0 32) ((w32 (65 * v1)).toNat)) + 1))) fun h46 =>
        b1 (f_mBook_takeOut v0 v1 (w32 (65 * v1)) h46) fun h47 =>
        some h47
      else none
    else none
  else none
def f_mBook_comeIn_b159 (v0 : Nat) (v1 : Int) (v2 : Int) (v4 : Int) (h : Hp) : Option (Hp) :=
  if v4 ≤ (w32 (65 * v1)) then (
    f_mBook_comeIn_b207 v0 v1 h
  ) else
  if hR h v0 32 = 0 then none else
  if ix (w32 (v4 - 1)) (ln h (hR h v0 32)) then
    if (hJ h (hR h v0 32) ((w32 (v4 - 1)).toNat)) ≠ (w64 (v2 - 1)) then (
      f_mBook_comeIn_b207 v0 v1 h
    ) else
    if ix v4 (ln h (hR h v0 32)) then
      if ix (w32 (v4 - 1)) (ln h (hR h v0 32)) then
        lt1 (sJ h (hR h v0 32) ((w32 (v4 - 1)).toNat) (hJ h (hR h v0 32) v4.toNat)) fun h37 =>
        b1 (f_mBook_takeOut v0 v1 v4 h37) fun h38 =>
        f_mBook_comeIn_b207 v0 v1 h38
      else none
    else none
  else none
def f_mBook_comeIn_b74 (v0 : Nat) (v1 : Int) (v2 : Int) (v4 : Int) (h : Hp) : Option (Hp) :=
  if hR h v0 31 = 0 then none else
  if ix v4 (ln h (hR h v0 31)) then
    lt1 (sJ h (hR h v0 31) v4.toNat v2) fun h15 =>
    if hR h15 v0 32 = 0 then none else
    if ix v4 (ln h15 (hR h15 v0 32)) then
      lt1 (sJ h15 (hR h15 v0 32) v4.toNat v2) fun h18 =>
      if hR h18 v0 30 = 0 then none else
      if ix v1 (ln h18 (hR h18 v0 30)) then
        if ix v1 (ln h18 (hR h18 v0 30)) then
          lt1 (sI h18 (hR h18 v0 30) v1.toNat (w32 ((hI h18 (hR h18 v0 30) v1.toNat) + 1))) fun h22 =>
          if hR h22 v0 30 = 0 then none else
          if ix v1 (ln h22 (hR h22 v0 30)) then
            if (w32 ((w32 (65 * v1)) + (hI h22 (hR h22 v0 30) v1.toNat))) ≤ (w32 (v4 + 1)) then (
              f_mBook_comeIn_b159 v0 v1 v2 v4 h22
            ) else
            if hR h22 v0 31 = 0 then none else
            if ix (w32 (v4 + 1)) (ln h22 (hR h22 v0 31)) then
              if (hJ h22 (hR h22 v0 31) ((w32 (v4 + 1)).toNat)) ≠ (w64 (v2 + 1)) then (
                f_mBook_comeIn_b159 v0 v1 v2 v4 h22
              ) else
              if hR h22 v0 32 = 0 then none else
              if ix (w32 (v4 + 1)) (ln h22 (hR h22 v0 32)) then
                if ix v4 (ln h22 (hR h22 v0 32)) then
                  lt1 (sJ h22 (hR h22 v0 32) v4.toNat (hJ h22 (hR h22 v0 32) ((w32 (v4 + 1)).toNat))) fun h30 =>
                  b1 (f_mBook_takeOut v0 v1 (w32 (v4 + 1)) h30) fun h31 =>
                  f_mBook_comeIn_b159 v0 v1 v2 v4 h31
                else none
              else none
            else none
          else none
        else none
      else none
    else none
  else none
def f_mBook_comeIn_b13 (k13 : Nat → Int → Int → Int → Hp → Option (Hp)) (v0 : Nat) (v1 : Int) (v2 : Int) (v4 : Int) (h : Hp) : Option (Hp) :=
  if v4 ≤ (w32 (65 * v1)) then (
    f_mBook_comeIn_b74 v0 v1 v2 v4 h
  ) else
  if hR h v0 31 = 0 then none else
  if ix (w32 (v4 - 1)) (ln h (hR h v0 31)) then
    if (hJ h (hR h v0 31) ((w32 (v4 - 1)).toNat)) ≤ v2 then (
      f_mBook_comeIn_b74 v0 v1 v2 v4 h
    ) else
    if ix (w32 (v4 - 1)) (ln h (hR h v0 31)) then
      if ix v4 (ln h (hR h v0 31)) then
        lt1 (sJ h (hR h v0 31) v4.toNat (hJ h (hR h v0 31) ((w32 (v4 - 1)).toNat))) fun h8 =>
        if hR h8 v0 32 = 0 then none else
        if ix (w32 (v4 - 1)) (ln h8 (hR h8 v0 32)) then
          if ix v4 (ln h8 (hR h8 v0 32)) then
            lt1 (sJ h8 (hR h8 v0 32) v4.toNat (hJ h8 (hR h8 v0 32) ((w32 (v4 - 1)).toNat))) fun h12 =>
            k13 v0 v1 v2 (w32 (v4 + (-1))) h12
          else none
        else none
      else none
    else none
  else none
def f_mBook_comeIn_b13_lp : Nat → Nat → Int → Int → Int → Hp → Option (Hp)
  | 0, _, _, _, _, _ => none
  | n + 1, v0, v1, v2, v4, h => f_mBook_comeIn_b13 (f_mBook_comeIn_b13_lp n) v0 v1 v2 v4 h
def f_mBook_comeIn (v0 : Nat) (v1 : Int) (v2 : Int) (h : Hp) : Option (Hp) :=
  if hR h v0 30 = 0 then none else
  if ix v1 (ln h (hR h v0 30)) then
    lt1 (w32 ((w32 (65 * v1)) + (hI h (hR h v0 30) v1.toNat))) fun y3 =>
    f_mBook_comeIn_b13_lp FU v0 v1 v2 y3 h
  else none
def f_mBook_came_b103 (v0 : Nat) (s0 : Nat) (s1 : Int) (s2 : Int) (h : Hp) : Option (Hp) :=
  if s0 = 0 then none else
  if ix s1 (ln h s0) then
    if ¬ (s2 = 0 ∨ s2 = 1) then none else
    lt1 (sI h s0 s1.toNat s2) fun h25 =>
    some h25
  else none
def f_mBook_came_b98 (v0 : Nat) (s0 : Nat) (s1 : Int) (h : Hp) : Option (Hp) :=
  f_mBook_came_b103 v0 s0 s1 1 h
def f_mBook_came_b65 (v0 : Nat) (v1 : Int) (v2 : Int) (v5 : Int) (h : Hp) : Option (Hp) :=
  if hR h v0 35 = 0 then none else
  if ix v1 (ln h (hR h v0 35)) then
    if ix v1 (ln h (hR h v0 35)) then
      lt1 (sI h (hR h v0 35) v1.toNat (w32 ((hI h (hR h v0 35) v1.toNat) + 1))) fun h20 =>
      if hR h20 v0 37 = 0 then none else
      if ix v1 (ln h20 (hR h20 v0 37)) then
        if (hI h20 (hR h20 v0 37) v1.toNat) ≠ 0 then (
          f_mBook_came_b98 v0 (hR h20 v0 37) v1 h20
        ) else
        if v2 = (w64 (v5 + 1)) then (
          f_mBook_came_b103 v0 (hR h20 v0 37) v1 0 h20
        ) else
        f_mBook_came_b98 v0 (hR h20 v0 37) v1 h20
      else none
    else none
  else none
def f_mBook_came_b34 (v0 : Nat) (v1 : Int) (v2 : Int) (v4 : Int) (v5 : Int) (h : Hp) : Option (Hp) :=
  b1 (f_mBook_comeIn v0 v1 v2 h) fun h10 =>
  if v4 ≠ 0 then (
    if hR h10 v0 35 = 0 then none else
    if ix v1 (ln h10 (hR h10 v0 35)) then
      if (hI h10 (hR h10 v0 35) v1.toNat) ≠ 0 then (
        f_mBook_came_b65 v0 v1 v2 v5 h10
      ) else
      if hR h10 v0 36 = 0 then none else
      if ix v1 (ln h10 (hR h10 v0 36)) then
        lt1 (sI h10 (hR h10 v0 36) v1.toNat (hI h10 v0 0)) fun h16 =>
        f_mBook_came_b65 v0 v1 v2 v5 h16
      else none
    else none
  ) else
  some h10
def f_mBook_came (v0 : Nat) (v1 : Int) (v2 : Int) (v4 : Int) (h : Hp) : Option (Hp) :=
  b2 (f_mBook_isOld v0 v1 v2 h) fun r3 h1 =>
  if r3 = 0 then (
    b2 (f_mBook_greatest v0 v1 h1) fun r6 h4 =>
    if v2 ≤ r6 then (
      f_mBook_came_b34 v0 v1 v2 v4 r6 h4
    ) else
    if hR h4 v0 34 = 0 then none else
    if ix v1 (ln h4 (hR h4 v0 34)) then
      lt1 (sI h4 (hR h4 v0 34) v1.toNat (hI h4 v0 0)) fun h9 =>
      f_mBook_came_b34 v0 v1 v2 v4 r6 h9
    else none
  ) else
  some h1
def f_mSide_frames_b134 (k13 : Nat → Nat → Int → Int → Int → Int → Hp → Option (Hp)) (v0 : Nat) (v1 : Nat) (v3 : Int) (v4 : Int) (v5 : Int) (v7 : Int) (v9 : Int) (h : Hp) : Option (Hp) :=
  b2 (f_mSide_isAlive v0 h) fun r23 h21 =>
  if r23 ≠ 0 then (
    if hR h21 v0 21 = 0 then none else
    b1 (f_mWire_look (hR h21 v0 21) v1 v9 v3 h21) fun h25 =>
    k13 v0 v1 v3 v4 v5 v7 h25
  ) else
  some h21
def f_mSide_frames_b102 (k13 : Nat → Nat → Int → Int → Int → Int → Hp → Option (Hp)) (v0 : Nat) (v1 : Nat) (v3 : Int) (v4 : Int) (v5 : Int) (s0 : Int) (h : Hp) : Option (Hp) :=
  if hR h v0 21 = 0 then none else
  lt1 (hI h (hR h v0 21) 1) fun y15 =>
  b2 (f_mSide_does v0 v4 h) fun r18 h16 =>
  if r18 ≤ 0 then (
    f_mSide_frames_b134 k13 v0 v1 v3 v4 v5 s0 y15 h16
  ) else
  b1 (f_mSide_closes v0 r18 28 h16) fun h19 =>
  f_mSide_frames_b134 k13 v0 v1 v3 v4 v5 s0 y15 h19
def f_mSide_frames_b101 (k13 : Nat → Nat → Int → Int → Int → Int → Hp → Option (Hp)) (v0 : Nat) (v1 : Nat) (v3 : Int) (v4 : Int) (v5 : Int) (h : Hp) : Option (Hp) :=
  f_mSide_frames_b102 k13 v0 v1 v3 v4 v5 0 h
def f_mSide_frames_b54 (v0 : Nat) (s0 : Nat) (s1 : Int) (h : Hp) : Option (Hp) :=
  if s0 = 0 then none else
  b1 (f_mSide_closes s0 s1 28 h) fun h28 =>
  some h28
def f_mSide_frames_b97 (k13 : Nat → Nat → Int → Int → Int → Int → Hp → Option (Hp)) (v0 : Nat) (v1 : Nat) (v3 : Int) (v4 : Int) (v5 : Int) (h : Hp) : Option (Hp) :=
  f_mSide_frames_b102 k13 v0 v1 v3 v4 v5 1 h
def f_mSide_frames_b13 (k13 : Nat → Nat → Int → Int → Int → Int → Hp → Option (Hp)) (v0 : Nat) (v1 : Nat) (v3 : Int) (v4 : Int) (v5 : Int) (v7 : Int) (h : Hp) : Option (Hp) :=
  if hR h v0 21 = 0 then none else
  if v3 ≤ (hI h (hR h v0 21) 1) then (
    if hR h v0 4 = 0 then none else
    if hR h (hR h v0 4) 11 = 0 then none else
    if ix v4 (ln h (hR h (hR h v0 4) 11)) then
      if (hI h (hR h (hR h v0 4) 11) v4.toNat) ≠ 0 then (
        some h
      ) else
      b1 (f_mBook_came (hR h v0 4) v4 v5 v7 h) fun h8 =>
      some h8
    else none
  ) else
  b2 (f_mWire_read (hR h v0 21) v4 h) fun r12 h10 =>
  if r12 ≤ 0 then (
    if v7 ≠ 0 then (
      f_mSide_frames_b97 k13 v0 v1 v3 v4 v5 h10
    ) else
    if hR h10 v0 21 = 0 then none else
    if (hI h10 (hR h10 v0 21) 4) = 0 then (
      f_mSide_frames_b101 k13 v0 v1 v3 v4 v5 h10
    ) else
    if (hI h10 (hR h10 v0 21) 4) = 2 then (
      f_mSide_frames_b101 k13 v0 v1 v3 v4 v5 h10
    ) else
    if (hI h10 (hR h10 v0 21) 4) = 3 then (
      f_mSide_frames_b101 k13 v0 v1 v3 v4 v5 h10
    ) else
    f_mSide_frames_b97 k13 v0 v1 v3 v4 v5 h10
  ) else
  if r12 ≠ 4 then (
    f_mSide_frames_b54 v0 v0 7 h10
  ) else
  f_mSide_frames_b54 v0 v0 10 h10
def f_mSide_frames_b13_lp : Nat → Nat → Nat → Int → Int → Int → Int → Hp → Option (Hp)
  | 0, _, _, _, _, _, _, _ => none
  | n + 1, v0, v1, v3, v4, v5, v7, h => f_mSide_frames_b13 (f_mSide_frames_b13_lp n) v0 v1 v3 v4 v5 v7 h
def f_mSide_frames (v0 : Nat) (v1 : Nat) (v2 : Int) (v3 : Int) (v4 : Int) (v5 : Int) (h : Hp) : Option (Hp) :=
  if hR h v0 21 = 0 then none else
  b1 (f_mWire_look (hR h v0 21) v1 v2 v3 h) fun h2 =>
  f_mSide_frames_b13_lp FU v0 v1 v3 v4 v5 0 h2
def f_mSide_packet_b336 (v0 : Nat) (h : Hp) : Option (Hp) :=
  b1 (f_mSide_closes v0 10 28 h) fun h70 =>
  some h70
def f_mSide_packet_b314 (v0 : Nat) (v1 : Nat) (v2 : Nat) (v4 : Int) (v5 : Int) (v11 : Int) (v13 : Int) (s0 : Int) (s1 : Int) (h : Hp) : Option (Hp) :=
  lt1 (iAnd s0 s1) fun y64 =>
  if y64 ≠ 0 then (
    f_mSide_packet_b336 v0 h
  ) else
  if v2 = 0 then none else
  if ix 5 (ln h v2) then
    if (w32 ((hI h v2 (Int.toNat 5)) - 16)) ≠ (w32 (v5 + v13)) then (
      if ix 5 (ln h v2) then
        b1 (f_mSide_frames v0 v1 (w32 (v5 + v13)) (w32 ((hI h v2 (Int.toNat 5)) - 16)) v4 v11 h) fun h68 =>
        some h68
      else none
    ) else
    f_mSide_packet_b336 v0 h
  else none
def f_mSide_packet_b188 (k188 : Nat → Nat → Nat → Int → Int → Int → Int → Int → Int → Hp → Option (Hp)) (v0 : Nat) (v1 : Nat) (v2 : Nat) (v4 : Int) (v5 : Int) (v7 : Int) (v8 : Int) (v9 : Int) (v11 : Int) (h : Hp) : Option (Hp) :=
  if v8 ≤ v11 then (
    if hR h v0 4 = 0 then none else
    b2 (f_mBook_greatest (hR h v0 4) v4 h) fun r38 h36 =>
    b2 (f_mSide_grown r38 v9 v8 h36) fun r41 h39 =>
    if v2 = 0 then none else
    if ix 4 (ln h39 v2) then
      lt1 (w32 ((w32 ((hI h39 v2 (Int.toNat 4)) + v8)) - v5)) fun y44 =>
      if hR h39 v0 4 = 0 then none else
      b2 (f_mBook_isOld (hR h39 v0 4) v4 r41 h39) fun r48 h46 =>
      if r48 ≠ 0 then (
        some h46
      ) else
      if ix 5 (ln h46 v2) then
        if hR h46 v0 1 = 0 then none else
        b2 (f_mSeals_open (hR h46 v0 1) (hR h46 v0 18) v7 r41 v1 v5 y44 (hI h46 v2 (Int.toNat 5)) h46) fun r53 h51 =>
        if r53 ≠ 0 then (
          b1 (f_mSide_opened v0 v1 v2 v4 h51) fun h54 =>
          if v1 = 0 then none else
          if ix v5 (ln h54 v1) then
            if ix 0 (ln h54 v2) then
              if (hI h54 v2 (Int.toNat 0)) ≠ 4 then (
                f_mSide_packet_b314 v0 v1 v2 v4 v5 r41 y44 (hI h54 v1 v5.toNat) 12 h54
              ) else
              f_mSide_packet_b314 v0 v1 v2 v4 v5 r41 y44 (hI h54 v1 v5.toNat) 24 h54
            else none
          else none
        ) else
        some h51
      else none
    else none
  ) else
  if v2 = 0 then none else
  if ix 4 (ln h v2) then
    if v1 = 0 then none else
    if ix (w32 ((hI h v2 (Int.toNat 4)) + v11)) (ln h v1) then
      lt1 (lOr (lShl v9 8) (hI h v1 ((w32 ((hI h v2 (Int.toNat 4)) + v11)).toNat))) fun y63 =>
      k188 v0 v1 v2 v4 v5 v7 v8 y63 (w32 (v11 + 1)) h
    else none
  else none
def f_mSide_packet_b188_lp : Nat → Nat → Nat → Nat → Int → Int → Int → Int → Int → Int → Hp → Option (Hp)
  | 0, _, _, _, _, _, _, _, _, _, _ => none
  | n + 1, v0, v1, v2, v4, v5, v7, v8, v9, v11, h => f_mSide_packet_b188 (f_mSide_packet_b188_lp n) v0 v1 v2 v4 v5 v7 v8 v9 v11 h
def f_mSide_packet_b149 (v0 : Nat) (v1 : Nat) (v2 : Nat) (v4 : Int) (v5 : Int) (h : Hp) : Option (Hp) :=
  lt1 (w32 ((w32 (192 * v4)) + 96)) fun y28 =>
  if v2 = 0 then none else
  if ix 4 (ln h v2) then
    if hR h v0 1 = 0 then none else
    b2 (f_mSeals_shield (hR h v0 1) (hR h v0 18) y28 v1 v5 (hI h v2 (Int.toNat 4)) 0 h) fun r34 h32 =>
    f_mSide_packet_b188_lp FU v0 v1 v2 v4 v5 y28 r34 0 0 h32
  else none
def f_mSide_packet_b139 (v0 : Nat) (v1 : Nat) (v2 : Nat) (v4 : Int) (v5 : Int) (h : Hp) : Option (Hp) :=
  b2 (f_mSide_hasGuards v0 v4 h) fun r27 h25 =>
  if r27 ≠ 0 then (
    f_mSide_packet_b149 v0 v1 v2 v4 v5 h25
  ) else
  some h25
def f_mSide_packet_b60 (v0 : Nat) (v1 : Nat) (v2 : Nat) (v4 : Int) (v5 : Int) (v6 : Int) (h : Hp) : Option (Hp) :=
  if (hI h v0 8) ≠ 0 then (
    if v2 = 0 then none else
    if ix 6 (ln h v2) then
      if ix 7 (ln h v2) then
        if hR h v0 3 = 0 then none else
        b2 (f_mSide_isName v0 v1 (hI h v2 (Int.toNat 6)) (hI h v2 (Int.toNat 7)) (hR h (hR h v0 3) 3) h) fun r14 h12 =>
        if r14 ≠ 0 then (
          f_mSide_packet_b139 v0 v1 v2 v4 v5 h12
        ) else
        if v6 = 0 then (
          some h12
        ) else
        if ix 6 (ln h12 v2) then
          if ix 7 (ln h12 v2) then
            b2 (f_mSide_isName v0 v1 (hI h12 v2 (Int.toNat 6)) (hI h12 v2 (Int.toNat 7)) (hR h12 v0 16) h12) fun r19 h17 =>
            if r19 = 0 then (
              some h17
            ) else
            f_mSide_packet_b139 v0 v1 v2 v4 v5 h17
          else none
        else none
      else none
    else none
  ) else
  if v6 = 0 then (
    some h
  ) else
  if v2 = 0 then none else
  if ix 7 (ln h v2) then
    if (hI h v2 (Int.toNat 7)) ≠ 8 then (
      some h
    ) else
    b2 (f_mSide_tries v0 v1 v2 h) fun r24 h22 =>
    if r24 ≠ 0 then (
      f_mSide_packet_b149 v0 v1 v2 v4 v5 h22
    ) else
    some h22
  else none
def f_mSide_packet_b44 (v0 : Nat) (v1 : Nat) (v2 : Nat) (v4 : Int) (v5 : Int) (v6 : Int) (h : Hp) : Option (Hp) :=
  if 2 ≤ v4 then (
    f_mSide_packet_b60 v0 v1 v2 v4 v5 v6 h
  ) else
  if v2 = 0 then none else
  if ix 9 (ln h v2) then
    if (hI h v2 (Int.toNat 9)) = 8 then (
      f_mSide_packet_b60 v0 v1 v2 v4 v5 v6 h
    ) else
    some h
  else none
def f_mSide_packet_b30 (v0 : Nat) (v1 : Nat) (v2 : Nat) (v3 : Int) (v4 : Int) (v5 : Int) (s0 : Int) (h : Hp) : Option (Hp) :=
  if s0 = 0 then (
    f_mSide_packet_b44 v0 v1 v2 v4 v5 s0 h
  ) else
  if v3 < 1200 then (
    some h
  ) else
  f_mSide_packet_b44 v0 v1 v2 v4 v5 s0 h
def f_mSide_packet_b29 (v0 : Nat) (v1 : Nat) (v2 : Nat) (v3 : Int) (v4 : Int) (v5 : Int) (h : Hp) : Option (Hp) :=
  f_mSide_packet_b30 v0 v1 v2 v3 v4 v5 0 h
def f_mSide_packet (v0 : Nat) (v1 : Nat) (v2 : Nat) (v3 : Int) (h : Hp) : Option (Hp) :=
  if v2 = 0 then none else
  if ix 0 (ln h v2) then
    lt1 (iDiv (hI h v2 (Int.toNat 0)) 2) fun y3 =>
    if ix 3 (ln h v2) then
      lt1 (hI h v2 (Int.toNat 3)) fun y5 =>
      if (hI h v0 0) ≠ 1 then (
        f_mSide_packet_b29 v0 v1 v2 v3 y3 y5 h
      ) else
      if y3 ≠ 0 then (
        f_mSide_packet_b29 v0 v1 v2 v3 y3 y5 h
      ) else
      f_mSide_packet_b30 v0 v1 v2 v3 y3 y5 1 h
    else none
  else none
def f_mP_comes_b177 (k86 : Nat → Int → Nat → Int → Hp → Option (Hp)) (v0 : Nat) (v2 : Int) (v3 : Nat) (v5 : Int) (h : Hp) : Option (Hp) :=
  b2 (f_mP_isSame v0 h) fun r21 h19 =>
  if r21 ≠ 0 then (
    if v3 = 0 then none else
    b1 (f_mSide_packet v3 (hR h19 v0 18) (hR h19 v0 19) v2 h19) fun h23 =>
    k86 v0 v2 v3 v5 h23
  ) else
  some h19
def f_mP_comes_b140 (k86 : Nat → Int → Nat → Int → Hp → Option (Hp)) (k140 : Nat → Int → Nat → Int → Int → Hp → Option (Hp)) (v0 : Nat) (v2 : Int) (v3 : Nat) (v5 : Int) (v6 : Int) (h : Hp) : Option (Hp) :=
  if (hI h v0 21) ≤ v6 then (
    f_mP_comes_b177 k86 v0 v2 v3 v5 h
  ) else
  if hR h v0 19 = 0 then none else
  if ix 6 (ln h (hR h v0 19)) then
    if hR h v0 18 = 0 then none else
    if ix (w32 ((hI h (hR h v0 19) (Int.toNat 6)) + v6)) (ln h (hR h v0 18)) then
      if hR h v0 20 = 0 then none else
      if ix v6 (ln h (hR h v0 20)) then
        lt1 (sI h (hR h v0 20) v6.toNat (hI h (hR h v0 18) ((w32 ((hI h (hR h v0 19) (Int.toNat 6)) + v6)).toNat))) fun h31 =>
        k140 v0 v2 v3 v5 (w32 (v6 + 1)) h31
      else none
    else none
  else none
def f_mP_comes_b140_lp (k86 : Nat → Int → Nat → Int → Hp → Option (Hp)) : Nat → Nat → Int → Nat → Int → Int → Hp → Option (Hp)
  | 0, _, _, _, _, _, _ => none
  | n + 1, v0, v2, v3, v5, v6, h => f_mP_comes_b140 k86 (f_mP_comes_b140_lp k86 n) v0 v2 v3 v5 v6 h
def f_mP_comes_b106 (k86 : Nat → Int → Nat → Int → Hp → Option (Hp)) (v0 : Nat) (v2 : Int) (v3 : Nat) (v4 : Int) (h : Hp) : Option (Hp) :=
  b2 (f_mP_reads v0 v4 v2 h) fun r15 h13 =>
  if 0 ≤ r15 then (
    if v4 ≠ 0 then (
      f_mP_comes_b177 k86 v0 v2 v3 r15 h13
    ) else
    if hR h13 v0 19 = 0 then none else
    if ix 7 (ln h13 (hR h13 v0 19)) then
      lt1 (sI h13 v0 21 (hI h13 (hR h13 v0 19) (Int.toNat 7))) fun h18 =>
      f_mP_comes_b140_lp k86 FU v0 v2 v3 r15 0 h18
    else none
  ) else
  some h13
def f_mP_comes_b86 (k86 : Nat → Int → Nat → Int → Hp → Option (Hp)) (v0 : Nat) (v2 : Int) (v3 : Nat) (v4 : Int) (h : Hp) : Option (Hp) :=
  if v2 ≤ v4 then (
    some h
  ) else
  if v3 = 0 then none else
  if (hI h v3 8) = 0 then (
    f_mP_comes_b106 k86 v0 v2 v3 v4 h
  ) else
  b2 (f_mSide_isAlive v3 h) fun r12 h10 =>
  if r12 = 0 then (
    some h10
  ) else
  f_mP_comes_b106 k86 v0 v2 v3 v4 h10
def f_mP_comes_b86_lp : Nat → Nat → Int → Nat → Int → Hp → Option (Hp)
  | 0, _, _, _, _, _ => none
  | n + 1, v0, v2, v3, v4, h => f_mP_comes_b86 (f_mP_comes_b86_lp n) v0 v2 v3 v4 h
def f_mP_comes_b35 (v0 : Nat) (v2 : Int) (v3 : Nat) (h : Hp) : Option (Hp) :=
  if v3 = 0 then none else
  lt1 (sI h v3 11 (w32 ((hI h v3 11) + v2))) fun h6 =>
  if (hI h6 v3 8) ≠ 3 then (
    f_mP_comes_b86_lp FU v0 v2 v3 0 h6
  ) else
  lt1 (sI h6 v3 39 (w32 ((hI h6 v3 39) + 1))) fun h7 =>
  if (iAnd (hI h7 v3 39) (w32 ((hI h7 v3 39) - 1))) ≠ 0 then (
    some h7
  ) else
  lt1 (sI h7 v3 36 1) fun h8 =>
  some h8
def f_mP_comes (v0 : Nat) (v1 : Int) (v2 : Int) (h : Hp) : Option (Hp) :=
  if hR h v0 7 = 0 then none else
  if ix v1 (ln h (hR h v0 7)) then
    lt1 (hR h (hR h v0 7) v1.toNat) fun y3 =>
    if y3 = 0 then none else
    if (hI h y3 8) = 4 then (
      some h
    ) else
    if (hI h y3 8) = 5 then (
      some h
    ) else
    if v1 ≠ 0 then (
      f_mP_comes_b35 v0 v2 y3 h
    ) else
    if (hI h y3 8) ≠ 0 then (
      f_mP_comes_b35 v0 v2 y3 h
    ) else
    some h
  else none
def f_mP_delivers (v0 : Nat) (v1 : Int) (v2 : Int) (h : Hp) : Option (Int × Hp) :=
  b1 (f_mP_lift v0 v1 v2 h) fun h1 =>
  b2 (f_mP_remove v0 v1 v2 h1) fun r5 h3 =>
  b1 (f_mP_comes v0 (w32 (1 - v1)) r5 h3) fun h6 =>
  some (r5, h6)
def f_mP_deliver (v0 : Nat) (v1 : Int) (v2 : Int) (h : Hp) : Option (Int × Hp) :=
  b2 (f_mP_no v1 h) fun r3 h1 =>
  b2 (f_mP_fails v0 r3 1 h1) fun r6 h4 =>
  if r6 ≠ 0 then (
    some (0, h4)
  ) else
  b2 (f_mP_isNone v0 v1 v2 h4) fun r9 h7 =>
  b2 (f_mP_fails v0 r9 2 h7) fun r12 h10 =>
  if r12 = 0 then (
    b2 (f_mP_delivers v0 v1 v2 h10) fun r15 h13 =>
    some (r15, h13)
  ) else
  some (0, h10)
def f_mP_drop (v0 : Nat) (v1 : Int) (v2 : Int) (h : Hp) : Option (Int × Hp) :=
  b2 (f_mP_no v1 h) fun r3 h1 =>
  b2 (f_mP_fails v0 r3 1 h1) fun r6 h4 =>
  if r6 ≠ 0 then (
    some (0, h4)
  ) else
  b2 (f_mP_isNone v0 v1 v2 h4) fun r9 h7 =>
  b2 (f_mP_fails v0 r9 2 h7) fun r12 h10 =>
  if r12 = 0 then (
    b2 (f_mP_remove v0 v1 v2 h10) fun r15 h13 =>
    some (r15, h13)
  ) else
  some (0, h10)
def f_mP_twice (v0 : Nat) (v1 : Int) (v2 : Int) (h : Hp) : Option (Int × Hp) :=
  b2 (f_mP_no v1 h) fun r3 h1 =>
  b2 (f_mP_fails v0 r3 1 h1) fun r6 h4 =>
  if r6 ≠ 0 then (
    some (0, h4)
  ) else
  b2 (f_mP_isNone v0 v1 v2 h4) fun r9 h7 =>
  b2 (f_mP_fails v0 r9 2 h7) fun r12 h10 =>
  if r12 = 0 then (
    b1 (f_mP_lift v0 v1 v2 h10) fun h13 =>
    b2 (f_mP_place v0 v1 v2 h13) fun r17 h15 =>
    if hR h13 v0 13 = 0 then none else
    if ix r17 (ln h15 (hR h13 v0 13)) then
      b2 (f_mP_place v0 v1 v2 h15) fun r22 h20 =>
      if hR h15 v0 14 = 0 then none else
      if ix r22 (ln h20 (hR h15 v0 14)) then
        b1 (f_mP_lies v0 v1 (hR h13 v0 18) (hI h15 (hR h13 v0 13) r17.toNat) (hI h20 (hR h15 v0 14) r22.toNat) h20) fun h25 =>
        if hR h25 v0 10 = 0 then none else
        if ix v1 (ln h25 (hR h25 v0 10)) then
          some (hI h25 (hR h25 v0 10) v1.toNat, h25)
        else none
      else none
    else none
  ) else
  some (0, h10)
def f_mP_alter_b46 (v0 : Nat) (v1 : Int) (v2 : Int) (v3 : Int) (v4 : Int) (s0 : Nat) (s1 : Int) (h : Hp) : Option (Int × Hp) :=
  if s0 = 0 then none else
  b2 (f_mP_fails s0 s1 2 h) fun r18 h16 =>
  if r18 = 0 then (
    b2 (f_mP_place v0 v1 v2 h16) fun r21 h19 =>
    lt1 (w32 ((w32 (1200 * r21)) + v3)) fun y22 =>
    if hR h19 v0 15 = 0 then none else
    if ix y22 (ln h19 (hR h19 v0 15)) then
      if ix y22 (ln h19 (hR h19 v0 15)) then
        lt1 (sI h19 (hR h19 v0 15) y22.toNat (i8 (i8 (iXor (hI h19 (hR h19 v0 15) y22.toNat) v4)))) fun h26 =>
        if hR h26 v0 15 = 0 then none else
        if ix y22 (ln h26 (hR h26 v0 15)) then
          some (iAnd (hI h26 (hR h26 v0 15) y22.toNat) 255, h26)
        else none
      else none
    else none
  ) else
  some (0, h16)
def f_mP_alter_b41 (v0 : Nat) (v1 : Int) (v2 : Int) (v3 : Int) (v4 : Int) (s0 : Nat) (h : Hp) : Option (Int × Hp) :=
  f_mP_alter_b46 v0 v1 v2 v3 v4 s0 1 h
def f_mP_alter (v0 : Nat) (v1 : Int) (v2 : Int) (v3 : Int) (v4 : Int) (h : Hp) : Option (Int × Hp) :=
  b2 (f_mP_no v1 h) fun r3 h1 =>
  b2 (f_mP_fails v0 r3 1 h1) fun r6 h4 =>
  if r6 ≠ 0 then (
    some (0, h4)
  ) else
  b2 (f_mP_isNone v0 v1 v2 h4) fun r9 h7 =>
  if r9 ≠ 0 then (
    f_mP_alter_b41 v0 v1 v2 v3 v4 v0 h7
  ) else
  if v3 < 0 then (
    f_mP_alter_b41 v0 v1 v2 v3 v4 v0 h7
  ) else
  b2 (f_mP_place v0 v1 v2 h7) fun r12 h10 =>
  if hR h7 v0 13 = 0 then none else
  if ix r12 (ln h10 (hR h7 v0 13)) then
    if v3 < (hI h10 (hR h7 v0 13) r12.toNat) then (
      f_mP_alter_b46 v0 v1 v2 v3 v4 v0 0 h10
    ) else
    f_mP_alter_b41 v0 v1 v2 v3 v4 v0 h10
  else none
def f_mP_flow_b17 (v0 : Nat) (v1 : Int) (s0 : Nat) (s1 : Int) (h : Hp) : Option (Hp) :=
  if s0 = 0 then none else
  b2 (f_mP_fails s0 s1 1 h) fun r4 h2 =>
  if r4 = 0 then (
    lt1 (sI h2 v0 9 v1) fun h5 =>
    some h5
  ) else
  some h2
def f_mP_flow_b12 (v0 : Nat) (v1 : Int) (s0 : Nat) (h : Hp) : Option (Hp) :=
  f_mP_flow_b17 v0 v1 s0 1 h
def f_mP_flow (v0 : Nat) (v1 : Int) (h : Hp) : Option (Hp) :=
  if v1 < 0 then (
    f_mP_flow_b12 v0 v1 v0 h
  ) else
  if v1 ≤ 1000 then (
    f_mP_flow_b17 v0 v1 v0 0 h
  ) else
  f_mP_flow_b12 v0 v1 v0 h
def f_mBook_oldest_b43 (k7 : Nat → Int → Int → Hp → Option (Int × Hp)) (v0 : Nat) (v1 : Int) (v2 : Int) (h : Hp) : Option (Int × Hp) :=
  k7 v0 v1 (w32 (v2 + 1)) h
def f_mBook_oldest_b7 (k7 : Nat → Int → Int → Hp → Option (Int × Hp)) (v0 : Nat) (v1 : Int) (v2 : Int) (h : Hp) : Option (Int × Hp) :=
  if hR h v0 3 = 0 then none else
  if ix v1 (ln h (hR h v0 3)) then
    if (hI h (hR h v0 3) v1.toNat) ≤ v2 then (
      some ((-1), h)
    ) else
    b2 (f_mBook_isOut v0 v1 v2 h) fun r8 h6 =>
    if r8 = 0 then (
      f_mBook_oldest_b43 k7 v0 v1 v2 h6
    ) else
    if hR h6 v0 7 = 0 then none else
    if ix (w32 ((w32 (4096 * v1)) + v2)) (ln h6 (hR h6 v0 7)) then
      if (hI h6 (hR h6 v0 7) ((w32 ((w32 (4096 * v1)) + v2)).toNat)) = 0 then (
        f_mBook_oldest_b43 k7 v0 v1 v2 h6
      ) else
      some (v2, h6)
    else none
  else none
def f_mBook_oldest_b7_lp : Nat → Nat → Int → Int → Hp → Option (Int × Hp)
  | 0, _, _, _, _ => none
  | n + 1, v0, v1, v2, h => f_mBook_oldest_b7 (f_mBook_oldest_b7_lp n) v0 v1 v2 h
def f_mBook_oldest (v0 : Nat) (v1 : Int) (h : Hp) : Option (Int × Hp) :=
  if hR h v0 10 = 0 then none else
  if ix v1 (ln h (hR h v0 10)) then
    lt1 (hI h (hR h v0 10) v1.toNat) fun y3 =>
    f_mBook_oldest_b7_lp FU v0 v1 y3 h
  else none
def f_mBook_firstSpace_b2 (k2 : Nat → Int → Hp → Option (Int × Hp)) (v0 : Nat) (v1 : Int) (h : Hp) : Option (Int × Hp) :=
  if 3 ≤ v1 then (
    some (v1, h)
  ) else
  if hR h v0 11 = 0 then none else
  if ix v1 (ln h (hR h v0 11)) then
    if (hI h (hR h v0 11) v1.toNat) = 0 then (
      some (v1, h)
    ) else
    k2 v0 (w32 (v1 + 1)) h
  else none
def f_mBook_firstSpace_b2_lp : Nat → Nat → Int → Hp → Option (Int × Hp)
  | 0, _, _, _ => none
  | n + 1, v0, v1, h => f_mBook_firstSpace_b2 (f_mBook_firstSpace_b2_lp n) v0 v1 h
def f_mBook_firstSpace (v0 : Nat) (h : Hp) : Option (Int × Hp) :=
  f_mBook_firstSpace_b2_lp FU v0 0 h
def f_mBook_probeTime_b125 (v0 : Nat) (v1 : Int) (v2 : Int) (s0 : Int) (h : Hp) : Option (Int × Hp) :=
  if (hI h v0 2) = 0 then (
    some ((-1), h)
  ) else
  if s0 ≠ 0 then (
    some ((-1), h)
  ) else
  b2 (f_mBook_firstSpace v0 h) fun r25 h23 =>
  if r25 ≠ v1 then (
    some ((-1), h23)
  ) else
  some (w32 ((hI h23 v0 14) + v2), h23)
def f_mBook_probeTime_b60 (k60 : Nat → Int → Int → Int → Hp → Option (Int × Hp)) (v0 : Nat) (v1 : Int) (v2 : Int) (v3 : Int) (h : Hp) : Option (Int × Hp) :=
  if hR h v0 7 = 0 then none else
  if ix (w32 ((w32 (4096 * v1)) + v3)) (ln h (hR h v0 7)) then
    if (hI h (hR h v0 7) ((w32 ((w32 (4096 * v1)) + v3)).toNat)) ≠ 0 then (
      if hR h v0 5 = 0 then none else
      if ix (w32 ((w32 (4096 * v1)) + v3)) (ln h (hR h v0 5)) then
        some (w32 ((hI h (hR h v0 5) ((w32 ((w32 (4096 * v1)) + v3)).toNat)) + v2), h)
      else none
    ) else
    k60 v0 v1 v2 (w32 (v3 + (-1))) h
  else none
def f_mBook_probeTime_b60_lp : Nat → Nat → Int → Int → Int → Hp → Option (Int × Hp)
  | 0, _, _, _, _, _ => none
  | n + 1, v0, v1, v2, v3, h => f_mBook_probeTime_b60 (f_mBook_probeTime_b60_lp n) v0 v1 v2 v3 h
def f_mBook_probeTime_b120 (v0 : Nat) (v1 : Int) (v2 : Int) (h : Hp) : Option (Int × Hp) :=
  f_mBook_probeTime_b125 v0 v1 v2 1 h
def f_mBook_probeTime_b34 (v0 : Nat) (v1 : Int) (s0 : Nat) (s1 : Int) (h : Hp) : Option (Int × Hp) :=
  if s0 = 0 then none else
  b2 (f_mBook_patience s0 s1 h) fun r6 h4 =>
  lt1 (iShl r6 (hI h4 v0 23)) fun y7 =>
  b2 (f_mBook_oldest v0 v1 h4) fun r10 h8 =>
  if r10 < 0 then (
    b2 (f_mBook_oldest v0 0 h8) fun r13 h11 =>
    if 0 ≤ r13 then (
      f_mBook_probeTime_b120 v0 v1 y7 h11
    ) else
    b2 (f_mBook_oldest v0 1 h11) fun r16 h14 =>
    if 0 ≤ r16 then (
      f_mBook_probeTime_b120 v0 v1 y7 h14
    ) else
    b2 (f_mBook_oldest v0 2 h14) fun r19 h17 =>
    if r19 < 0 then (
      f_mBook_probeTime_b125 v0 v1 y7 0 h17
    ) else
    f_mBook_probeTime_b120 v0 v1 y7 h17
  ) else
  if hR h8 v0 3 = 0 then none else
  if ix v1 (ln h8 (hR h8 v0 3)) then
    lt1 (w32 ((hI h8 (hR h8 v0 3) v1.toNat) - 1)) fun y22 =>
    f_mBook_probeTime_b60_lp FU v0 v1 y7 y22 h8
  else none
def f_mBook_probeTime_b23 (v0 : Nat) (v1 : Int) (h : Hp) : Option (Int × Hp) :=
  if v1 ≠ 2 then (
    f_mBook_probeTime_b34 v0 v1 v0 0 h
  ) else
  f_mBook_probeTime_b34 v0 v1 v0 1 h
def f_mBook_probeTime (v0 : Nat) (v1 : Int) (h : Hp) : Option (Int × Hp) :=
  if hR h v0 11 = 0 then none else
  if ix v1 (ln h (hR h v0 11)) then
    if (hI h (hR h v0 11) v1.toNat) ≠ 0 then (
      some ((-1), h)
    ) else
    if v1 ≠ 2 then (
      f_mBook_probeTime_b23 v0 v1 h
    ) else
    if (hI h v0 1) ≠ 0 then (
      f_mBook_probeTime_b23 v0 v1 h
    ) else
    some ((-1), h)
  else none
def f_mBook_tick_b127 (k83 : Nat → Int → Int → Int → Hp → Option (Int × Hp)) (v0 : Nat) (v1 : Int) (v2 : Int) (v3 : Int) (h : Hp) : Option (Int × Hp) :=
  k83 v0 v1 v2 (w32 (v3 + 1)) h
def f_mBook_tick_b160 (v0 : Nat) (v1 : Int) (s0 : Nat) (s1 : Int) (h : Hp) : Option (Int × Hp) :=
  if s0 = 0 then none else
  lt1 (sI h s0 23 s1) fun h13 =>
  some (w32 (2 + v1), h13)
def f_mBook_tick_b122 (k83 : Nat → Int → Int → Int → Hp → Option (Int × Hp)) (v0 : Nat) (v3 : Int) (v4 : Int) (h : Hp) : Option (Int × Hp) :=
  f_mBook_tick_b127 k83 v0 v3 v4 v3 h
def f_mBook_tick_b83 (k83 : Nat → Int → Int → Int → Hp → Option (Int × Hp)) (v0 : Nat) (v1 : Int) (v2 : Int) (v3 : Int) (h : Hp) : Option (Int × Hp) :=
  if 3 ≤ v3 then (
    if 0 ≤ v1 then (
      if 10 ≤ (hI h v0 23) then (
        f_mBook_tick_b160 v0 v1 v0 10 h
      ) else
      f_mBook_tick_b160 v0 v1 v0 (w32 ((hI h v0 23) + 1)) h
    ) else
    some (0, h)
  ) else
  b2 (f_mBook_probeTime v0 v3 h) fun r11 h9 =>
  if r11 < 0 then (
    f_mBook_tick_b127 k83 v0 v1 v2 v3 h9
  ) else
  if (hI h9 v0 0) < r11 then (
    f_mBook_tick_b127 k83 v0 v1 v2 v3 h9
  ) else
  if v1 < 0 then (
    f_mBook_tick_b122 k83 v0 v3 r11 h9
  ) else
  if r11 < v2 then (
    f_mBook_tick_b122 k83 v0 v3 r11 h9
  ) else
  f_mBook_tick_b127 k83 v0 v1 v2 v3 h9
def f_mBook_tick_b83_lp : Nat → Nat → Int → Int → Int → Hp → Option (Int × Hp)
  | 0, _, _, _, _, _ => none
  | n + 1, v0, v1, v2, v3, h => f_mBook_tick_b83 (f_mBook_tick_b83_lp n) v0 v1 v2 v3 h
def f_mBook_tick_b62 (k14 : Nat → Int → Int → Hp → Option (Int × Hp)) (v0 : Nat) (v1 : Int) (v2 : Int) (h : Hp) : Option (Int × Hp) :=
  k14 v0 v1 (w32 (v2 + 1)) h
def f_mBook_tick_b60 (k14 : Nat → Int → Int → Hp → Option (Int × Hp)) (v0 : Nat) (v2 : Int) (h : Hp) : Option (Int × Hp) :=
  f_mBook_tick_b62 k14 v0 v2 v2 h
def f_mBook_tick_b14 (k14 : Nat → Int → Int → Hp → Option (Int × Hp)) (v0 : Nat) (v1 : Int) (v2 : Int) (h : Hp) : Option (Int × Hp) :=
  if 3 ≤ v2 then (
    if v1 < 0 then (
      f_mBook_tick_b83_lp FU v0 v1 0 0 h
    ) else
    b1 (f_mBook_losses v0 v1 h) fun h2 =>
    some (1, h2)
  ) else
  if hR h v0 13 = 0 then none else
  if ix v2 (ln h (hR h v0 13)) then
    if (hI h (hR h v0 13) v2.toNat) < 0 then (
      f_mBook_tick_b62 k14 v0 v1 v2 h
    ) else
    if ix v2 (ln h (hR h v0 13)) then
      if (hI h v0 0) < (hI h (hR h v0 13) v2.toNat) then (
        f_mBook_tick_b62 k14 v0 v1 v2 h
      ) else
      if v1 < 0 then (
        f_mBook_tick_b60 k14 v0 v2 h
      ) else
      if ix v2 (ln h (hR h v0 13)) then
        if ix v1 (ln h (hR h v0 13)) then
          if (hI h (hR h v0 13) v1.toNat) ≤ (hI h (hR h v0 13) v2.toNat) then (
            f_mBook_tick_b62 k14 v0 v1 v2 h
          ) else
          f_mBook_tick_b60 k14 v0 v2 h
        else none
      else none
    else none
  else none
def f_mBook_tick_b14_lp : Nat → Nat → Int → Int → Hp → Option (Int × Hp)
  | 0, _, _, _, _ => none
  | n + 1, v0, v1, v2, h => f_mBook_tick_b14 (f_mBook_tick_b14_lp n) v0 v1 v2 h
def f_mBook_tick (v0 : Nat) (h : Hp) : Option (Int × Hp) :=
  lt1 (sI h v0 0 (w32 ((hI h v0 0) + 1))) fun h1 =>
  f_mBook_tick_b14_lp FU v0 (-1) 0 h1
def f_mSide_quietLimit_b52 (v0 : Nat) (s0 : Int) (h : Hp) : Option (Int × Hp) :=
  if hR h v0 4 = 0 then none else
  b2 (f_mBook_patience (hR h v0 4) 1 h) fun r9 h7 =>
  lt1 (w64 (3 * r9)) fun y10 =>
  if s0 ≠ 0 then (
    if s0 ≤ y10 then (
      some (y10, h7)
    ) else
    some (s0, h7)
  ) else
  some (0, h7)
def f_mSide_quietLimit_b47 (v0 : Nat) (v1 : Int) (h : Hp) : Option (Int × Hp) :=
  f_mSide_quietLimit_b52 v0 v1 h
def f_mSide_quietLimit_b24 (v0 : Nat) (v1 : Int) (s0 : Int) (h : Hp) : Option (Int × Hp) :=
  if v1 ≠ 0 then (
    if s0 = 0 then (
      f_mSide_quietLimit_b47 v0 v1 h
    ) else
    if s0 ≤ v1 then (
      f_mSide_quietLimit_b52 v0 s0 h
    ) else
    f_mSide_quietLimit_b47 v0 v1 h
  ) else
  f_mSide_quietLimit_b52 v0 s0 h
def f_mSide_quietLimit (v0 : Nat) (h : Hp) : Option (Int × Hp) :=
  if hR h v0 5 = 0 then none else
  if ix 1 (ln h (hR h v0 5)) then
    lt1 (hJ h (hR h v0 5) (Int.toNat 1)) fun y3 =>
    if (hI h v0 24) = 0 then (
      f_mSide_quietLimit_b24 v0 y3 0 h
    ) else
    if hR h v0 22 = 0 then none else
    if ix 1 (ln h (hR h v0 22)) then
      f_mSide_quietLimit_b24 v0 y3 (hJ h (hR h v0 22) (Int.toNat 1)) h
    else none
  else none
def f_mSide_tick_b114 (v0 : Nat) (h : Hp) : Option (Hp) :=
  b2 (f_mSide_quietLimit v0 h) fun r22 h20 =>
  if r22 = 0 then (
    some h20
  ) else
  if hR h20 v0 4 = 0 then none else
  if r22 ≤ (w32 ((hI h20 (hR h20 v0 4) 0) - (hI h20 v0 40))) then (
    lt1 (sI h20 v0 8 5) fun h24 =>
    lt1 (sI h24 v0 9 40000) fun h25 =>
    some h25
  ) else
  some h20
def f_mSide_tick_b24 (v0 : Nat) (h : Hp) : Option (Hp) :=
  if hR h v0 4 = 0 then none else
  if (hI h (hR h v0 4) 0) < (hI h v0 35) then (
    some h
  ) else
  lt1 (sI h v0 8 5) fun h27 =>
  some h27
def f_mSide_tick_b59 (k59 : Nat → Int → Hp → Option (Hp)) (v0 : Nat) (v2 : Int) (h : Hp) : Option (Hp) :=
  if 3 ≤ v2 then (
    f_mSide_tick_b114 v0 h
  ) else
  b1 (f_mSide_tellFound v0 v2 h) fun h18 =>
  k59 v0 (w32 (v2 + 1)) h18
def f_mSide_tick_b59_lp : Nat → Nat → Int → Hp → Option (Hp)
  | 0, _, _, _ => none
  | n + 1, v0, v2, h => f_mSide_tick_b59 (f_mSide_tick_b59_lp n) v0 v2 h
def f_mSide_tick (v0 : Nat) (h : Hp) : Option (Hp) :=
  if hR h v0 4 = 0 then none else
  b2 (f_mBook_tick (hR h v0 4) h) fun r4 h2 =>
  if (hI h2 v0 8) = 3 then (
    f_mSide_tick_b24 v0 h2
  ) else
  if (hI h2 v0 8) ≠ 4 then (
    b2 (f_mSide_isAlive v0 h2) fun r7 h5 =>
    if r7 ≠ 0 then (
      if r4 ≠ 1 then (
        if r4 ≤ 1 then (
          f_mSide_tick_b114 v0 h5
        ) else
        lt1 (w32 (r4 - 2)) fun y8 =>
        if hR h5 v0 34 = 0 then none else
        if ix y8 (ln h5 (hR h5 v0 34)) then
          lt1 (sI h5 (hR h5 v0 34) y8.toNat 2) fun h11 =>
          if hR h11 v0 4 = 0 then none else
          b2 (f_mBook_oldest (hR h11 v0 4) y8 h11) fun r15 h13 =>
          if r15 < 0 then (
            f_mSide_tick_b114 v0 h13
          ) else
          b1 (f_mSide_tellPacket v0 y8 r15 0 h13) fun h16 =>
          f_mSide_tick_b114 v0 h16
        else none
      ) else
      f_mSide_tick_b59_lp FU v0 0 h5
    ) else
    some h5
  ) else
  f_mSide_tick_b24 v0 h2
def f_mSide_isFull_b56 (k4 : Nat → Int → Int → Hp → Option (Int × Hp)) (v0 : Nat) (v2 : Int) (s0 : Int) (h : Hp) : Option (Int × Hp) :=
  k4 v0 s0 (w32 (v2 + 1)) h
def f_mSide_isFull_b51 (k4 : Nat → Int → Int → Hp → Option (Int × Hp)) (v0 : Nat) (v2 : Int) (h : Hp) : Option (Int × Hp) :=
  f_mSide_isFull_b56 k4 v0 v2 1 h
def f_mSide_isFull_b55 (k4 : Nat → Int → Int → Hp → Option (Int × Hp)) (v0 : Nat) (v2 : Int) (h : Hp) : Option (Int × Hp) :=
  f_mSide_isFull_b56 k4 v0 v2 0 h
def f_mSide_isFull_b4 (k4 : Nat → Int → Int → Hp → Option (Int × Hp)) (v0 : Nat) (v1 : Int) (v2 : Int) (h : Hp) : Option (Int × Hp) :=
  if 3 ≤ v2 then (
    if v1 = 0 ∨ v1 = 1 then some (v1, h) else none
  ) else
  if v1 ≠ 0 then (
    f_mSide_isFull_b51 k4 v0 v2 h
  ) else
  b2 (f_mSide_hasGuards v0 v2 h) fun r4 h2 =>
  if r4 = 0 then (
    f_mSide_isFull_b55 k4 v0 v2 h2
  ) else
  if hR h2 v0 4 = 0 then none else
  if hR h2 (hR h2 v0 4) 3 = 0 then none else
  if ix v2 (ln h2 (hR h2 (hR h2 v0 4) 3)) then
    if 4096 ≤ (hI h2 (hR h2 (hR h2 v0 4) 3) v2.toNat) then (
      f_mSide_isFull_b51 k4 v0 v2 h2
    ) else
    if hR h2 v0 45 = 0 then none else
    if ix v2 (ln h2 (hR h2 v0 45)) then
      if hR h2 (hR h2 v0 45) v2.toNat = 0 then none else
      if (hI h2 (hR h2 (hR h2 v0 45) v2.toNat) 0) < 15000 then (
        f_mSide_isFull_b55 k4 v0 v2 h2
      ) else
      f_mSide_isFull_b51 k4 v0 v2 h2
    else none
  else none
def f_mSide_isFull_b4_lp : Nat → Nat → Int → Int → Hp → Option (Int × Hp)
  | 0, _, _, _, _ => none
  | n + 1, v0, v1, v2, h => f_mSide_isFull_b4 (f_mSide_isFull_b4_lp n) v0 v1 v2 h
def f_mSide_isFull (v0 : Nat) (h : Hp) : Option (Int × Hp) :=
  f_mSide_isFull_b4_lp FU v0 0 0 h
def f_mSide_headerOf (v0 : Int) (h : Hp) : Option (Int × Hp) :=
  if v0 ≠ 0 then (
    if v0 ≠ 1 then (
      some (9, h)
    ) else
    some (25, h)
  ) else
  some (26, h)
def f_mDraft_put_b5 (k5 : Nat → Int → Int → Hp → Option (Hp)) (v0 : Nat) (v1 : Int) (v4 : Int) (h : Hp) : Option (Hp) :=
  if v4 < 0 then (
    some h
  ) else
  if hR h v0 0 = 0 then none else
  if ix (hI h v0 1) (ln h (hR h v0 0)) then
    lt1 (sI h (hR h v0 0) ((hI h v0 1).toNat) (w32 (lAnd (lShr v1 (w32 (8 * v4))) 255))) fun h4 =>
    lt1 (sI h4 v0 1 (w32 ((hI h4 v0 1) + 1))) fun h5 =>
    k5 v0 v1 (w32 (v4 + (-1))) h5
  else none
def f_mDraft_put_b5_lp : Nat → Nat → Int → Int → Hp → Option (Hp)
  | 0, _, _, _, _ => none
  | n + 1, v0, v1, v4, h => f_mDraft_put_b5 (f_mDraft_put_b5_lp n) v0 v1 v4 h
def f_mDraft_put (v0 : Nat) (v1 : Int) (v3 : Int) (h : Hp) : Option (Hp) :=
  lt1 (w32 (v3 - 1)) fun y1 =>
  f_mDraft_put_b5_lp FU v0 v1 y1 h
def f_mDraft_sized_b32 (v0 : Nat) (v1 : Int) (v3 : Int) (s0 : Int) (h : Hp) : Option (Hp) :=
  b1 (f_mDraft_put v0 (lOr v1 (lShl s0 (w32 ((w32 (8 * v3)) - 2)))) v3 h) fun h1 =>
  some h1
def f_mDraft_sized (v0 : Nat) (v1 : Int) (v3 : Int) (h : Hp) : Option (Hp) :=
  if v3 ≠ 1 then (
    if v3 ≠ 2 then (
      if v3 ≠ 4 then (
        f_mDraft_sized_b32 v0 v1 v3 3 h
      ) else
      f_mDraft_sized_b32 v0 v1 v3 2 h
    ) else
    f_mDraft_sized_b32 v0 v1 v3 1 h
  ) else
  f_mDraft_sized_b32 v0 v1 v3 0 h
def f_mDraft_number (v0 : Nat) (v1 : Int) (h : Hp) : Option (Hp) :=
  b2 (f_mWire_needs v1 h) fun r3 h1 =>
  b1 (f_mDraft_sized v0 v1 r3 h1) fun h4 =>
  some h4
def f_mSide_laysClose_b124 (v0 : Nat) (v6 : Nat) (h : Hp) : Option (Hp) :=
  if v6 = 0 then none else
  b1 (f_mDraft_number v6 0 h) fun h17 =>
  lt1 (sI h17 v0 51 1) fun h19 =>
  some h19
def f_mSide_laysClose_b102 (v0 : Nat) (v3 : Int) (v4 : Int) (v6 : Nat) (s0 : Nat) (s1 : Int) (h : Hp) : Option (Hp) :=
  if s0 = 0 then none else
  b1 (f_mDraft_put s0 s1 1 h) fun h9 =>
  if v6 = 0 then none else
  b1 (f_mDraft_number v6 v4 h9) fun h12 =>
  if v3 = 0 then (
    f_mSide_laysClose_b124 v0 v6 h12
  ) else
  b1 (f_mDraft_number v6 0 h12) fun h14 =>
  f_mSide_laysClose_b124 v0 v6 h14
def f_mSide_laysClose_b62 (v0 : Nat) (v1 : Int) (v2 : Int) (v3 : Int) (v4 : Int) (s0 : Int) (s1 : Int) (h : Hp) : Option (Hp) :=
  lt1 (w32 (s0 + s1)) fun y4 =>
  if (hI h v0 36) = 0 then (
    some h
  ) else
  if y4 ≤ v2 then (
    if hR h v0 47 = 0 then none else
    if ix v1 (ln h (hR h v0 47)) then
      lt1 (hR h (hR h v0 47) v1.toNat) fun y7 =>
      if v3 = 0 then (
        f_mSide_laysClose_b102 v0 v3 v4 y7 y7 29 h
      ) else
      f_mSide_laysClose_b102 v0 v3 v4 y7 y7 28 h
    else none
  ) else
  some h
def f_mSide_laysClose_b43 (v0 : Nat) (v1 : Int) (v2 : Int) (v3 : Int) (s0 : Int) (h : Hp) : Option (Hp) :=
  b2 (f_mWire_needs s0 h) fun r3 h1 =>
  if v3 = 0 then (
    f_mSide_laysClose_b62 v0 v1 v2 v3 s0 (w32 (1 + r3)) 1 h1
  ) else
  f_mSide_laysClose_b62 v0 v1 v2 v3 s0 (w32 (1 + r3)) 2 h1
def f_mSide_laysClose_b39 (v0 : Nat) (v1 : Int) (v2 : Int) (v3 : Int) (h : Hp) : Option (Hp) :=
  f_mSide_laysClose_b43 v0 v1 v2 v3 (hI h v0 38) h
def f_mSide_laysClose_b19 (v0 : Nat) (v1 : Int) (v2 : Int) (s0 : Int) (h : Hp) : Option (Hp) :=
  if (hI h v0 37) ≠ 29 then (
    f_mSide_laysClose_b39 v0 v1 v2 s0 h
  ) else
  if 2 ≤ v1 then (
    f_mSide_laysClose_b39 v0 v1 v2 s0 h
  ) else
  f_mSide_laysClose_b43 v0 v1 v2 s0 12 h
def f_mSide_laysClose_b14 (v0 : Nat) (v1 : Int) (v2 : Int) (h : Hp) : Option (Hp) :=
  f_mSide_laysClose_b19 v0 v1 v2 1 h
def f_mSide_laysClose (v0 : Nat) (v1 : Int) (v2 : Int) (h : Hp) : Option (Hp) :=
  if (hI h v0 37) = 28 then (
    f_mSide_laysClose_b14 v0 v1 v2 h
  ) else
  if 2 ≤ v1 then (
    f_mSide_laysClose_b19 v0 v1 v2 0 h
  ) else
  f_mSide_laysClose_b14 v0 v1 v2 h
def f_mDraft_bytes_b3 (k3 : Nat → Nat → Int → Int → Int → Hp → Option (Hp)) (v0 : Nat) (v1 : Nat) (v2 : Int) (v3 : Int) (v4 : Int) (h : Hp) : Option (Hp) :=
  if v3 ≤ v4 then (
    some h
  ) else
  if v1 = 0 then none else
  if ix (w32 (v2 + v4)) (ln h v1) then
    b1 (f_mDraft_put v0 (hI h v1 ((w32 (v2 + v4)).toNat)) 1 h) fun h3 =>
    k3 v0 v1 v2 v3 (w32 (v4 + 1)) h3
  else none
def f_mDraft_bytes_b3_lp : Nat → Nat → Nat → Int → Int → Int → Hp → Option (Hp)
  | 0, _, _, _, _, _, _ => none
  | n + 1, v0, v1, v2, v3, v4, h => f_mDraft_bytes_b3 (f_mDraft_bytes_b3_lp n) v0 v1 v2 v3 v4 h
def f_mDraft_bytes (v0 : Nat) (v1 : Nat) (v2 : Int) (v3 : Int) (h : Hp) : Option (Hp) :=
  f_mDraft_bytes_b3_lp FU v0 v1 v2 v3 0 h
def f_mBook_range (v0 : Nat) (v1 : Int) (v2 : Int) (v3 : Int) (h : Hp) : Option (Int × Hp) :=
  if hR h v0 30 = 0 then none else
  if ix v1 (ln h (hR h v0 30)) then
    lt1 (w32 ((w32 ((w32 ((w32 (65 * v1)) + (hI h (hR h v0 30) v1.toNat))) - 1)) - v2)) fun y3 =>
    if v3 = 0 then (
      if hR h v0 31 = 0 then none else
      if ix y3 (ln h (hR h v0 31)) then
        some (hJ h (hR h v0 31) y3.toNat, h)
      else none
    ) else
    if hR h v0 32 = 0 then none else
    if ix y3 (ln h (hR h v0 32)) then
      some (hJ h (hR h v0 32) y3.toNat, h)
    else none
  else none
def f_mBook_delay (v0 : Nat) (v1 : Int) (h : Hp) : Option (Int × Hp) :=
  if hR h v0 30 = 0 then none else
  if ix v1 (ln h (hR h v0 30)) then
    if (hI h (hR h v0 30) v1.toNat) ≠ 0 then (
      if hR h v0 34 = 0 then none else
      if ix v1 (ln h (hR h v0 34)) then
        some (w32 ((hI h v0 0) - (hI h (hR h v0 34) v1.toNat)), h)
      else none
    ) else
    some (0, h)
  else none
def f_mSide_ackSize_b59 (k59 : Nat → Int → Int → Int → Int → Hp → Option (Int × Hp)) (v0 : Nat) (v1 : Int) (v2 : Int) (v5 : Int) (v6 : Int) (h : Hp) : Option (Int × Hp) :=
  if v2 ≤ v6 then (
    some (v5, h)
  ) else
  if hR h v0 4 = 0 then none else
  b2 (f_mBook_range (hR h v0 4) v1 (w32 (v6 - 1)) 0 h) fun r29 h27 =>
  if hR h27 v0 4 = 0 then none else
  b2 (f_mBook_range (hR h27 v0 4) v1 v6 1 h27) fun r33 h31 =>
  b2 (f_mWire_needs (w64 ((w64 (r29 - r33)) - 2)) h31) fun r36 h34 =>
  if hR h34 v0 4 = 0 then none else
  b2 (f_mBook_range (hR h34 v0 4) v1 v6 1 h34) fun r40 h38 =>
  if hR h38 v0 4 = 0 then none else
  b2 (f_mBook_range (hR h38 v0 4) v1 v6 0 h38) fun r44 h42 =>
  b2 (f_mWire_needs (w64 (r40 - r44)) h42) fun r47 h45 =>
  lt1 (w32 (v5 + (w32 (r36 + r47)))) fun y48 =>
  k59 v0 v1 v2 y48 (w32 (v6 + 1)) h45
def f_mSide_ackSize_b59_lp : Nat → Nat → Int → Int → Int → Int → Hp → Option (Int × Hp)
  | 0, _, _, _, _, _, _ => none
  | n + 1, v0, v1, v2, v5, v6, h => f_mSide_ackSize_b59 (f_mSide_ackSize_b59_lp n) v0 v1 v2 v5 v6 h
def f_mSide_ackSize (v0 : Nat) (v1 : Int) (v2 : Int) (h : Hp) : Option (Int × Hp) :=
  if hR h v0 4 = 0 then none else
  b2 (f_mBook_range (hR h v0 4) v1 0 1 h) fun r4 h2 =>
  b2 (f_mWire_needs r4 h2) fun r7 h5 =>
  if hR h5 v0 4 = 0 then none else
  b2 (f_mBook_delay (hR h5 v0 4) v1 h5) fun r11 h9 =>
  b2 (f_mWire_needs r11 h9) fun r14 h12 =>
  b2 (f_mWire_needs (w64 (v2 - 1)) h12) fun r17 h15 =>
  if hR h15 v0 4 = 0 then none else
  b2 (f_mBook_range (hR h15 v0 4) v1 0 0 h15) fun r21 h19 =>
  b2 (f_mWire_needs (w64 (r4 - r21)) h19) fun r24 h22 =>
  lt1 (w32 ((w32 ((w32 ((w32 (1 + r7)) + r14)) + r17)) + r24)) fun y25 =>
  f_mSide_ackSize_b59_lp FU v0 v1 v2 y25 1 h22
def f_mSide_laysAck_b153 (k108 : Nat → Int → Int → Nat → Int → Hp → Option (Int × Hp)) (v0 : Nat) (v1 : Int) (v3 : Int) (v4 : Nat) (v5 : Int) (h : Hp) : Option (Int × Hp) :=
  if hR h v0 4 = 0 then none else
  b2 (f_mBook_range (hR h v0 4) v1 v5 1 h) fun r44 h42 =>
  if hR h42 v0 4 = 0 then none else
  b2 (f_mBook_range (hR h42 v0 4) v1 v5 0 h42) fun r48 h46 =>
  if v4 = 0 then none else
  b1 (f_mDraft_number v4 (w64 (r44 - r48)) h46) fun h50 =>
  k108 v0 v1 v3 v4 (w32 (v5 + 1)) h50
def f_mSide_laysAck_b108 (k108 : Nat → Int → Int → Nat → Int → Hp → Option (Int × Hp)) (v0 : Nat) (v1 : Int) (v3 : Int) (v4 : Nat) (v5 : Int) (h : Hp) : Option (Int × Hp) :=
  if v3 ≤ v5 then (
    some (1, h)
  ) else
  if v5 ≤ 0 then (
    f_mSide_laysAck_b153 k108 v0 v1 v3 v4 v5 h
  ) else
  if hR h v0 4 = 0 then none else
  b2 (f_mBook_range (hR h v0 4) v1 (w32 (v5 - 1)) 0 h) fun r33 h31 =>
  if hR h31 v0 4 = 0 then none else
  b2 (f_mBook_range (hR h31 v0 4) v1 v5 1 h31) fun r37 h35 =>
  if v4 = 0 then none else
  b1 (f_mDraft_number v4 (w64 ((w64 (r33 - r37)) - 2)) h35) fun h39 =>
  f_mSide_laysAck_b153 k108 v0 v1 v3 v4 v5 h39
def f_mSide_laysAck_b108_lp : Nat → Nat → Int → Int → Nat → Int → Hp → Option (Int × Hp)
  | 0, _, _, _, _, _, _ => none
  | n + 1, v0, v1, v3, v4, v5, h => f_mSide_laysAck_b108 (f_mSide_laysAck_b108_lp n) v0 v1 v3 v4 v5 h
def f_mSide_laysAck_b44 (v0 : Nat) (v1 : Int) (v3 : Int) (h : Hp) : Option (Int × Hp) :=
  if v3 ≠ 0 then (
    if hR h v0 47 = 0 then none else
    if ix v1 (ln h (hR h v0 47)) then
      lt1 (hR h (hR h v0 47) v1.toNat) fun y12 =>
      if y12 = 0 then none else
      b1 (f_mDraft_put y12 2 1 h) fun h14 =>
      if hR h14 v0 4 = 0 then none else
      b2 (f_mBook_range (hR h14 v0 4) v1 0 1 h14) fun r19 h17 =>
      b1 (f_mDraft_number y12 r19 h17) fun h20 =>
      if hR h20 v0 4 = 0 then none else
      b2 (f_mBook_delay (hR h20 v0 4) v1 h20) fun r25 h23 =>
      b1 (f_mDraft_number y12 r25 h23) fun h26 =>
      b1 (f_mDraft_number y12 (w64 (v3 - 1)) h26) fun h28 =>
      f_mSide_laysAck_b108_lp FU v0 v1 v3 y12 0 h28
    else none
  ) else
  some (0, h)
def f_mSide_laysAck_b24 (k24 : Nat → Int → Int → Int → Hp → Option (Int × Hp)) (v0 : Nat) (v1 : Int) (v2 : Int) (v3 : Int) (h : Hp) : Option (Int × Hp) :=
  if v3 ≤ 0 then (
    f_mSide_laysAck_b44 v0 v1 v3 h
  ) else
  b2 (f_mSide_ackSize v0 v1 v3 h) fun r9 h7 =>
  if r9 ≤ v2 then (
    f_mSide_laysAck_b44 v0 v1 v3 h7
  ) else
  k24 v0 v1 v2 (w32 (v3 + (-1))) h7
def f_mSide_laysAck_b24_lp : Nat → Nat → Int → Int → Int → Hp → Option (Int × Hp)
  | 0, _, _, _, _, _ => none
  | n + 1, v0, v1, v2, v3, h => f_mSide_laysAck_b24 (f_mSide_laysAck_b24_lp n) v0 v1 v2 v3 h
def f_mSide_laysAck (v0 : Nat) (v1 : Int) (v2 : Int) (h : Hp) : Option (Int × Hp) :=
  if hR h v0 4 = 0 then none else
  if hR h (hR h v0 4) 35 = 0 then none else
  if ix v1 (ln h (hR h (hR h v0 4) 35)) then
    if (hI h (hR h (hR h v0 4) 35) v1.toNat) ≠ 0 then (
      if hR h (hR h v0 4) 30 = 0 then none else
      if ix v1 (ln h (hR h (hR h v0 4) 30)) then
        lt1 (hI h (hR h (hR h v0 4) 30) v1.toNat) fun y6 =>
        f_mSide_laysAck_b24_lp FU v0 v1 v2 y6 h
      else none
    ) else
    some (0, h)
  else none
def f_mBook_flight_b67 (k4 : Nat → Int → Int → Hp → Option (Int × Hp)) (k16 : Nat → Int → Int → Int → Hp → Option (Int × Hp)) (v0 : Nat) (v2 : Int) (v3 : Int) (s0 : Int) (s1 : Int) (h : Hp) : Option (Int × Hp) :=
  lt1 (w32 (s0 + s1)) fun y13 =>
  k16 v0 y13 v2 (w32 (v3 + 1)) h
def f_mBook_flight_b66 (k4 : Nat → Int → Int → Hp → Option (Int × Hp)) (k16 : Nat → Int → Int → Int → Hp → Option (Int × Hp)) (v0 : Nat) (v2 : Int) (v3 : Int) (s0 : Int) (h : Hp) : Option (Int × Hp) :=
  f_mBook_flight_b67 k4 k16 v0 v2 v3 s0 0 h
def f_mBook_flight_b16 (k4 : Nat → Int → Int → Hp → Option (Int × Hp)) (k16 : Nat → Int → Int → Int → Hp → Option (Int × Hp)) (v0 : Nat) (v1 : Int) (v2 : Int) (v3 : Int) (h : Hp) : Option (Int × Hp) :=
  if hR h v0 3 = 0 then none else
  if ix v2 (ln h (hR h v0 3)) then
    if (hI h (hR h v0 3) v2.toNat) ≤ v3 then (
      k4 v0 v1 (w32 (v2 + 1)) h
    ) else
    b2 (f_mBook_isOut v0 v2 v3 h) fun r8 h6 =>
    if r8 = 0 then (
      f_mBook_flight_b66 k4 k16 v0 v2 v3 v1 h6
    ) else
    if hR h6 v0 8 = 0 then none else
    if ix (w32 ((w32 (4096 * v2)) + v3)) (ln h6 (hR h6 v0 8)) then
      if (hI h6 (hR h6 v0 8) ((w32 ((w32 (4096 * v2)) + v3)).toNat)) = 0 then (
        f_mBook_flight_b66 k4 k16 v0 v2 v3 v1 h6
      ) else
      if hR h6 v0 4 = 0 then none else
      if ix (w32 ((w32 (4096 * v2)) + v3)) (ln h6 (hR h6 v0 4)) then
        f_mBook_flight_b67 k4 k16 v0 v2 v3 v1 (hI h6 (hR h6 v0 4) ((w32 ((w32 (4096 * v2)) + v3)).toNat)) h6
      else none
    else none
  else none
def f_mBook_flight_b16_lp (k4 : Nat → Int → Int → Hp → Option (Int × Hp)) : Nat → Nat → Int → Int → Int → Hp → Option (Int × Hp)
  | 0, _, _, _, _, _ => none
  | n + 1, v0, v1, v2, v3, h => f_mBook_flight_b16 k4 (f_mBook_flight_b16_lp k4 n) v0 v1 v2 v3 h
def f_mBook_flight_b4 (k4 : Nat → Int → Int → Hp → Option (Int × Hp)) (v0 : Nat) (v1 : Int) (v2 : Int) (h : Hp) : Option (Int × Hp) :=
  if 3 ≤ v2 then (
    some (v1, h)
  ) else
  if hR h v0 10 = 0 then none else
  if ix v2 (ln h (hR h v0 10)) then
    lt1 (hI h (hR h v0 10) v2.toNat) fun y3 =>
    f_mBook_flight_b16_lp k4 FU v0 v1 v2 y3 h
  else none
def f_mBook_flight_b4_lp : Nat → Nat → Int → Int → Hp → Option (Int × Hp)
  | 0, _, _, _, _ => none
  | n + 1, v0, v1, v2, h => f_mBook_flight_b4 (f_mBook_flight_b4_lp n) v0 v1 v2 h
def f_mBook_flight (v0 : Nat) (h : Hp) : Option (Int × Hp) :=
  f_mBook_flight_b4_lp FU v0 0 0 h
def f_mCargo_grow_b50 (k50 : Nat → Nat → Nat → Nat → Nat → Nat → Int → Hp → Option (Hp)) (v0 : Nat) (v1 : Nat) (v2 : Nat) (v3 : Nat) (v4 : Nat) (v5 : Nat) (v6 : Int) (h : Hp) : Option (Hp) :=
  if (hI h v0 0) ≤ v6 then (
    lt1 (sR h v0 1 v1) fun h26 =>
    lt1 (sR h26 v0 2 v2) fun h27 =>
    lt1 (sR h27 v0 3 v3) fun h28 =>
    lt1 (sR h28 v0 4 v4) fun h29 =>
    lt1 (sR h29 v0 5 v5) fun h30 =>
    some h30
  ) else
  if hR h v0 1 = 0 then none else
  if ix v6 (ln h (hR h v0 1)) then
    if v1 = 0 then none else
    if ix v6 (ln h v1) then
      lt1 (sI h v1 v6.toNat (i8 (hI h (hR h v0 1) v6.toNat))) fun h35 =>
      if hR h35 v0 2 = 0 then none else
      if ix v6 (ln h35 (hR h35 v0 2)) then
        if v2 = 0 then none else
        if ix v6 (ln h35 v2) then
          lt1 (sI h35 v2 v6.toNat (hI h35 (hR h35 v0 2) v6.toNat)) fun h40 =>
          if hR h40 v0 3 = 0 then none else
          if ix v6 (ln h40 (hR h40 v0 3)) then
            if v3 = 0 then none else
            if ix v6 (ln h40 v3) then
              lt1 (sJ h40 v3 v6.toNat (hJ h40 (hR h40 v0 3) v6.toNat)) fun h45 =>
              if hR h45 v0 4 = 0 then none else
              if ix v6 (ln h45 (hR h45 v0 4)) then
                if v4 = 0 then none else
                if ix v6 (ln h45 v4) then
                  lt1 (sJ h45 v4 v6.toNat (hJ h45 (hR h45 v0 4) v6.toNat)) fun h50 =>
                  if hR h50 v0 5 = 0 then none else
                  if ix v6 (ln h50 (hR h50 v0 5)) then
                    if v5 = 0 then none else
                    if ix v6 (ln h50 v5) then
                      lt1 (sI h50 v5 v6.toNat (i8 (hI h50 (hR h50 v0 5) v6.toNat))) fun h55 =>
                      k50 v0 v1 v2 v3 v4 v5 (w32 (v6 + 1)) h55
                    else none
                  else none
                else none
              else none
            else none
          else none
        else none
      else none
    else none
  else none
def f_mCargo_grow_b50_lp : Nat → Nat → Nat → Nat → Nat → Nat → Nat → Int → Hp → Option (Hp)
  | 0, _, _, _, _, _, _, _, _ => none
  | n + 1, v0, v1, v2, v3, v4, v5, v6, h => f_mCargo_grow_b50 (f_mCargo_grow_b50_lp n) v0 v1 v2 v3 v4 v5 v6 h
def f_mCargo_grow (v0 : Nat) (h : Hp) : Option (Hp) :=
  if (0 : Int) ≤ (w32 (2 * (hI h v0 0))) ∧ hN h + 1 ≤ CN ∧ hZ h + (w32 (2 * (hI h v0 0))).toNat ≤ CZ then
    lt1 (nwC h 102 ((w32 (2 * (hI h v0 0))).toNat) ((w32 (2 * (hI h v0 0))).toNat)) fun h2 =>
    lt1 (hN h) fun y4 =>
    if (0 : Int) ≤ (w32 (2 * (hI h2 v0 0))) ∧ hN h2 + 1 ≤ CN ∧ hZ h2 + (w32 (2 * (hI h2 v0 0))).toNat ≤ CZ then
      lt1 (nwC h2 101 ((w32 (2 * (hI h2 v0 0))).toNat) ((w32 (2 * (hI h2 v0 0))).toNat)) fun h7 =>
      lt1 (hN h2) fun y9 =>
      if (0 : Int) ≤ (w32 (2 * (hI h7 v0 0))) ∧ hN h7 + 1 ≤ CN ∧ hZ h7 + (w32 (2 * (hI h7 v0 0))).toNat ≤ CZ then
        lt1 (nwC h7 105 ((w32 (2 * (hI h7 v0 0))).toNat) ((w32 (2 * (hI h7 v0 0))).toNat)) fun h12 =>
        lt1 (hN h7) fun y14 =>
        if (0 : Int) ≤ (w32 (2 * (hI h12 v0 0))) ∧ hN h12 + 1 ≤ CN ∧ hZ h12 + (w32 (2 * (hI h12 v0 0))).toNat ≤ CZ then
          lt1 (nwC h12 105 ((w32 (2 * (hI h12 v0 0))).toNat) ((w32 (2 * (hI h12 v0 0))).toNat)) fun h17 =>
          lt1 (hN h12) fun y19 =>
          if (0 : Int) ≤ (w32 (2 * (hI h17 v0 0))) ∧ hN h17 + 1 ≤ CN ∧ hZ h17 + (w32 (2 * (hI h17 v0 0))).toNat ≤ CZ then
            lt1 (nwC h17 102 ((w32 (2 * (hI h17 v0 0))).toNat) ((w32 (2 * (hI h17 v0 0))).toNat)) fun h22 =>
            lt1 (hN h17) fun y24 =>
            f_mCargo_grow_b50_lp FU v0 y4 y9 y14 y19 y24 0 h22
          else none
        else none
      else none
    else none
  else none
def f_mCargo_add_b79 (v0 : Nat) (s0 : Nat) (s1 : Int) (s2 : Int) (h : Hp) : Option (Hp) :=
  if s0 = 0 then none else
  if ix s1 (ln h s0) then
    lt1 (sI h s0 s1.toNat (i8 (i8 (w32 s2)))) fun h18 =>
    lt1 (sI h18 v0 0 (w32 ((hI h18 v0 0) + 1))) fun h19 =>
    some h19
  else none
def f_mCargo_add_b16 (v0 : Nat) (v1 : Int) (v2 : Int) (v4 : Int) (v6 : Int) (v7 : Int) (h : Hp) : Option (Hp) :=
  if hR h v0 1 = 0 then none else
  if ix (hI h v0 0) (ln h (hR h v0 1)) then
    lt1 (sI h (hR h v0 1) ((hI h v0 0).toNat) (i8 (i8 v1))) fun h6 =>
    if hR h6 v0 3 = 0 then none else
    if ix (hI h6 v0 0) (ln h6 (hR h6 v0 3)) then
      lt1 (sJ h6 (hR h6 v0 3) ((hI h6 v0 0).toNat) v2) fun h9 =>
      if hR h9 v0 4 = 0 then none else
      if ix (hI h9 v0 0) (ln h9 (hR h9 v0 4)) then
        lt1 (sJ h9 (hR h9 v0 4) ((hI h9 v0 0).toNat) v4) fun h12 =>
        if hR h12 v0 2 = 0 then none else
        if ix (hI h12 v0 0) (ln h12 (hR h12 v0 2)) then
          lt1 (sI h12 (hR h12 v0 2) ((hI h12 v0 0).toNat) v6) fun h15 =>
          if v1 ≠ 8 then (
            f_mCargo_add_b79 v0 (hR h15 v0 5) (hI h15 v0 0) 0 h15
          ) else
          f_mCargo_add_b79 v0 (hR h15 v0 5) (hI h15 v0 0) v7 h15
        else none
      else none
    else none
  else none
def f_mCargo_add (v0 : Nat) (v1 : Int) (v2 : Int) (v4 : Int) (v6 : Int) (v7 : Int) (h : Hp) : Option (Hp) :=
  if hR h v0 1 = 0 then none else
  if (hI h v0 0) ≠ (ln h (hR h v0 1) : Int) then (
    f_mCargo_add_b16 v0 v1 v2 v4 v6 v7 h
  ) else
  b1 (f_mCargo_grow v0 h) fun h2 =>
  f_mCargo_add_b16 v0 v1 v2 v4 v6 v7 h2
def f_mSide_laysCrypto_b154 (k10 : Nat → Int → Int → Nat → Int → Hp → Option (Hp)) (k92 : Nat → Int → Int → Nat → Int → Int → Int → Int → Int → Hp → Option (Hp)) (v0 : Nat) (v1 : Int) (v2 : Int) (v3 : Nat) (v5 : Int) (v6 : Int) (v7 : Int) (v8 : Int) (v9 : Int) (h : Hp) : Option (Hp) :=
  k92 v0 v1 v2 v3 v5 v6 v7 v8 (w32 (v9 + 1)) h
def f_mSide_laysCrypto_b272 (k10 : Nat → Int → Int → Nat → Int → Hp → Option (Hp)) (v0 : Nat) (v1 : Int) (v2 : Int) (v3 : Nat) (v4 : Int) (v6 : Int) (v9 : Int) (h : Hp) : Option (Hp) :=
  if hR h v0 45 = 0 then none else
  if ix v1 (ln h (hR h v0 45)) then
    if hR h (hR h v0 45) v1.toNat = 0 then none else
    b1 (f_mCargo_add (hR h (hR h v0 45) v1.toNat) 6 0 v6 v9 0 h) fun h38 =>
    k10 v0 v1 v2 v3 v4 h38
  else none
def f_mSide_laysCrypto_b226 (k10 : Nat → Int → Int → Nat → Int → Hp → Option (Hp)) (k226 : Nat → Int → Int → Nat → Int → Int → Int → Int → Int → Hp → Option (Hp)) (v0 : Nat) (v1 : Int) (v2 : Int) (v3 : Nat) (v4 : Int) (v6 : Int) (v7 : Int) (v9 : Int) (v10 : Int) (h : Hp) : Option (Hp) :=
  if v9 ≤ v10 then (
    if v7 ≠ 0 then (
      f_mSide_laysCrypto_b272 k10 v0 v1 v2 v3 v4 v6 v9 h
    ) else
    if hR h v0 29 = 0 then none else
    if ix v1 (ln h (hR h v0 29)) then
      lt1 (sI h (hR h v0 29) v1.toNat (w32 (v6 + v9))) fun h31 =>
      f_mSide_laysCrypto_b272 k10 v0 v1 v2 v3 v4 v6 v9 h31
    else none
  ) else
  if hR h v0 28 = 0 then none else
  if ix (w32 ((w32 ((w32 (1024 * v1)) + v6)) + v10)) (ln h (hR h v0 28)) then
    lt1 (sI h (hR h v0 28) ((w32 ((w32 ((w32 (1024 * v1)) + v6)) + v10)).toNat) (i8 1)) fun h34 =>
    k226 v0 v1 v2 v3 v4 v6 v7 v9 (w32 (v10 + 1)) h34
  else none
def f_mSide_laysCrypto_b226_lp (k10 : Nat → Int → Int → Nat → Int → Hp → Option (Hp)) : Nat → Nat → Int → Int → Nat → Int → Int → Int → Int → Int → Hp → Option (Hp)
  | 0, _, _, _, _, _, _, _, _, _, _ => none
  | n + 1, v0, v1, v2, v3, v4, v6, v7, v9, v10, h => f_mSide_laysCrypto_b226 k10 (f_mSide_laysCrypto_b226_lp k10 n) v0 v1 v2 v3 v4 v6 v7 v9 v10 h
def f_mSide_laysCrypto_b170 (k10 : Nat → Int → Int → Nat → Int → Hp → Option (Hp)) (v0 : Nat) (v1 : Int) (v2 : Int) (v3 : Nat) (v6 : Int) (v7 : Int) (v9 : Int) (s0 : Int) (h : Hp) : Option (Hp) :=
  if s0 ≠ 0 then (
    if v3 = 0 then none else
    b1 (f_mDraft_put v3 6 1 h) fun h20 =>
    b1 (f_mDraft_number v3 v6 h20) fun h22 =>
    b1 (f_mDraft_number v3 v9 h22) fun h24 =>
    if hR h24 v0 3 = 0 then none else
    b1 (f_mDraft_bytes v3 (hR h24 (hR h24 v0 3) 9) (w32 ((w32 (1024 * v1)) + v6)) v9 h24) fun h27 =>
    f_mSide_laysCrypto_b226_lp k10 FU v0 v1 v2 v3 s0 v6 v7 v9 0 h27
  ) else
  k10 v0 v1 v2 v3 s0 h
def f_mSide_laysCrypto_b160 (k10 : Nat → Int → Int → Nat → Int → Hp → Option (Hp)) (v0 : Nat) (v1 : Int) (v2 : Int) (v3 : Nat) (v6 : Int) (v7 : Int) (v9 : Int) (h : Hp) : Option (Hp) :=
  if v9 ≤ 0 then (
    f_mSide_laysCrypto_b170 k10 v0 v1 v2 v3 v6 v7 v9 0 h
  ) else
  f_mSide_laysCrypto_b170 k10 v0 v1 v2 v3 v6 v7 v9 1 h
def f_mSide_laysCrypto_b92 (k10 : Nat → Int → Int → Nat → Int → Hp → Option (Hp)) (k92 : Nat → Int → Int → Nat → Int → Int → Int → Int → Int → Hp → Option (Hp)) (v0 : Nat) (v1 : Int) (v2 : Int) (v3 : Nat) (v5 : Int) (v6 : Int) (v7 : Int) (v8 : Int) (v9 : Int) (h : Hp) : Option (Hp) :=
  if v8 ≤ v9 then (
    f_mSide_laysCrypto_b160 k10 v0 v1 v2 v3 v6 v7 v9 h
  ) else
  if v7 = 0 then (
    if hR h v0 3 = 0 then none else
    if hR h (hR h v0 3) 10 = 0 then none else
    if ix v1 (ln h (hR h (hR h v0 3) 10)) then
      if (hI h (hR h (hR h v0 3) 10) v1.toNat) ≤ (w32 (v6 + v9)) then (
        f_mSide_laysCrypto_b160 k10 v0 v1 v2 v3 v6 v7 v9 h
      ) else
      f_mSide_laysCrypto_b154 k10 k92 v0 v1 v2 v3 v5 v6 v7 v8 v9 h
    else none
  ) else
  if v5 ≤ (w32 (v6 + v9)) then (
    f_mSide_laysCrypto_b160 k10 v0 v1 v2 v3 v6 v7 v9 h
  ) else
  if hR h v0 28 = 0 then none else
  if ix (w32 ((w32 ((w32 (1024 * v1)) + v6)) + v9)) (ln h (hR h v0 28)) then
    if (hI h (hR h v0 28) ((w32 ((w32 ((w32 (1024 * v1)) + v6)) + v9)).toNat)) ≠ 2 then (
      f_mSide_laysCrypto_b160 k10 v0 v1 v2 v3 v6 v7 v9 h
    ) else
    f_mSide_laysCrypto_b154 k10 k92 v0 v1 v2 v3 v5 v6 v7 v8 v9 h
  else none
def f_mSide_laysCrypto_b92_lp (k10 : Nat → Int → Int → Nat → Int → Hp → Option (Hp)) : Nat → Nat → Int → Int → Nat → Int → Int → Int → Int → Int → Hp → Option (Hp)
  | 0, _, _, _, _, _, _, _, _, _, _ => none
  | n + 1, v0, v1, v2, v3, v5, v6, v7, v8, v9, h => f_mSide_laysCrypto_b92 k10 (f_mSide_laysCrypto_b92_lp k10 n) v0 v1 v2 v3 v5 v6 v7 v8 v9 h
def f_mSide_laysCrypto_b68 (k10 : Nat → Int → Int → Nat → Int → Hp → Option (Hp)) (v0 : Nat) (v1 : Int) (v2 : Int) (v3 : Nat) (v5 : Int) (v6 : Int) (s0 : Int) (h : Hp) : Option (Hp) :=
  if v3 = 0 then none else
  b2 (f_mWire_needs v6 h) fun r12 h10 =>
  lt1 (w32 ((w32 ((w32 ((w32 (v2 - (hI h v3 1))) - 1)) - r12)) - 2)) fun y13 =>
  f_mSide_laysCrypto_b92_lp k10 FU v0 v1 v2 v3 v5 v6 s0 y13 0 h10
def f_mSide_laysCrypto_b56 (k10 : Nat → Int → Int → Nat → Int → Hp → Option (Hp)) (v0 : Nat) (v1 : Int) (v2 : Int) (v3 : Nat) (v5 : Int) (v6 : Int) (h : Hp) : Option (Hp) :=
  if v5 ≤ v6 then (
    f_mSide_laysCrypto_b68 k10 v0 v1 v2 v3 v5 v6 0 h
  ) else
  f_mSide_laysCrypto_b68 k10 v0 v1 v2 v3 v5 v6 1 h
def f_mSide_laysCrypto_b26 (k10 : Nat → Int → Int → Nat → Int → Hp → Option (Hp)) (k26 : Nat → Int → Int → Nat → Int → Int → Hp → Option (Hp)) (v0 : Nat) (v1 : Int) (v2 : Int) (v3 : Nat) (v5 : Int) (v6 : Int) (h : Hp) : Option (Hp) :=
  if v5 ≤ v6 then (
    f_mSide_laysCrypto_b56 k10 v0 v1 v2 v3 v5 v6 h
  ) else
  if hR h v0 28 = 0 then none else
  if ix (w32 ((w32 (1024 * v1)) + v6)) (ln h (hR h v0 28)) then
    if (hI h (hR h v0 28) ((w32 ((w32 (1024 * v1)) + v6)).toNat)) = 2 then (
      f_mSide_laysCrypto_b56 k10 v0 v1 v2 v3 v5 v6 h
    ) else
    k26 v0 v1 v2 v3 v5 (w32 (v6 + 1)) h
  else none
def f_mSide_laysCrypto_b26_lp (k10 : Nat → Int → Int → Nat → Int → Hp → Option (Hp)) : Nat → Nat → Int → Int → Nat → Int → Int → Hp → Option (Hp)
  | 0, _, _, _, _, _, _, _ => none
  | n + 1, v0, v1, v2, v3, v5, v6, h => f_mSide_laysCrypto_b26 k10 (f_mSide_laysCrypto_b26_lp k10 n) v0 v1 v2 v3 v5 v6 h
def f_mSide_laysCrypto_b10 (k10 : Nat → Int → Int → Nat → Int → Hp → Option (Hp)) (v0 : Nat) (v1 : Int) (v2 : Int) (v3 : Nat) (v4 : Int) (h : Hp) : Option (Hp) :=
  if v4 = 0 then (
    some h
  ) else
  if hR h v0 29 = 0 then none else
  if ix v1 (ln h (hR h v0 29)) then
    lt1 (hI h (hR h v0 29) v1.toNat) fun y6 =>
    f_mSide_laysCrypto_b26_lp k10 FU v0 v1 v2 v3 y6 0 h
  else none
def f_mSide_laysCrypto_b10_lp : Nat → Nat → Int → Int → Nat → Int → Hp → Option (Hp)
  | 0, _, _, _, _, _, _ => none
  | n + 1, v0, v1, v2, v3, v4, h => f_mSide_laysCrypto_b10 (f_mSide_laysCrypto_b10_lp n) v0 v1 v2 v3 v4 h
def f_mSide_laysCrypto (v0 : Nat) (v1 : Int) (v2 : Int) (h : Hp) : Option (Hp) :=
  if hR h v0 47 = 0 then none else
  if ix v1 (ln h (hR h v0 47)) then
    lt1 (hR h (hR h v0 47) v1.toNat) fun y3 =>
    f_mSide_laysCrypto_b10_lp FU v0 v1 v2 y3 1 h
  else none
def f_mStreams_bytes_b38 (v0 : Nat) (s0 : Int) (s1 : Int) (h : Hp) : Option (Int × Hp) :=
  b2 (f_mWire_needs (hI h v0 54) h) fun r20 h18 =>
  some (w32 ((w32 ((w32 (s0 + s1)) + r20)) + (hI h18 v0 54)), h18)
def f_mStreams_bytes_b108 (v0 : Nat) (v1 : Int) (h : Hp) : Option (Int × Hp) :=
  if (hI h v0 50) ≠ 4 then (
    some (v1, h)
  ) else
  b2 (f_mWire_needs (hJ h v0 53) h) fun r17 h15 =>
  some (w32 (v1 + r17), h15)
def f_mStreams_bytes_b98 (v0 : Nat) (v1 : Int) (h : Hp) : Option (Int × Hp) :=
  b2 (f_mWire_needs (hJ h v0 52) h) fun r13 h11 =>
  lt1 (w32 (v1 + r13)) fun y14 =>
  f_mStreams_bytes_b108 v0 y14 h11
def f_mStreams_bytes (v0 : Nat) (h : Hp) : Option (Int × Hp) :=
  if (hI h v0 50) ≠ 8 then (
    b2 (f_mWire_needs (hJ h v0 51) h) fun r3 h1 =>
    lt1 (w32 (1 + r3)) fun y4 =>
    if (hI h1 v0 50) = 4 then (
      f_mStreams_bytes_b98 v0 y4 h1
    ) else
    if (hI h1 v0 50) = 5 then (
      f_mStreams_bytes_b98 v0 y4 h1
    ) else
    if (hI h1 v0 50) = 17 then (
      f_mStreams_bytes_b98 v0 y4 h1
    ) else
    if (hI h1 v0 50) ≠ 21 then (
      f_mStreams_bytes_b108 v0 y4 h1
    ) else
    f_mStreams_bytes_b98 v0 y4 h1
  ) else
  b2 (f_mWire_needs (hJ h v0 51) h) fun r7 h5 =>
  if (hJ h5 v0 52) ≤ 0 then (
    f_mStreams_bytes_b38 v0 (w32 (1 + r7)) 0 h5
  ) else
  b2 (f_mWire_needs (hJ h5 v0 52) h5) fun r10 h8 =>
  f_mStreams_bytes_b38 v0 (w32 (1 + r7)) r10 h8
def f_mStreams_lays (v0 : Nat) (v1 : Int) (v2 : Int) (v4 : Int) (v6 : Int) (v8 : Int) (h : Hp) : Option (Int × Hp) :=
  lt1 (sI h v0 50 v1) fun h1 =>
  lt1 (sJ h1 v0 51 v2) fun h2 =>
  lt1 (sJ h2 v0 52 v4) fun h3 =>
  lt1 (sJ h3 v0 53 v6) fun h4 =>
  lt1 (sI h4 v0 54 0) fun h5 =>
  b2 (f_mStreams_bytes v0 h5) fun r8 h6 =>
  if v8 < r8 then (
    some (0, h6)
  ) else
  some (1, h6)
def f_mStreams_fillsResets_b73 (k2 : Nat → Int → Int → Int → Hp → Option (Int × Hp)) (v0 : Nat) (v1 : Int) (v2 : Int) (v3 : Int) (h : Hp) : Option (Int × Hp) :=
  k2 v0 v1 v2 (w32 (v3 + 1)) h
def f_mStreams_fillsResets_b144 (k81 : Nat → Int → Int → Int → Hp → Option (Int × Hp)) (v0 : Nat) (v1 : Int) (v2 : Int) (v3 : Int) (h : Hp) : Option (Int × Hp) :=
  k81 v0 v1 v2 (w32 (v3 + 1)) h
def f_mStreams_fillsResets_b81 (k81 : Nat → Int → Int → Int → Hp → Option (Int × Hp)) (v0 : Nat) (v1 : Int) (v2 : Int) (v3 : Int) (h : Hp) : Option (Int × Hp) :=
  if 256 ≤ v3 then (
    some (0, h)
  ) else
  b2 (f_mStreams_at v1 v3 h) fun r20 h18 =>
  if hR h18 v0 36 = 0 then none else
  if ix r20 (ln h18 (hR h18 v0 36)) then
    if (hI h18 (hR h18 v0 36) r20.toNat) = 0 then (
      f_mStreams_fillsResets_b144 k81 v0 v1 v2 v3 h18
    ) else
    b2 (f_mStreams_receiving v0 r20 h18) fun r25 h23 =>
    if 2 ≤ r25 then (
      f_mStreams_fillsResets_b144 k81 v0 v1 v2 v3 h23
    ) else
    if hR h23 v0 37 = 0 then none else
    if ix r20 (ln h23 (hR h23 v0 37)) then
      b2 (f_mStreams_lays v0 5 v3 (hJ h23 (hR h23 v0 37) r20.toNat) 0 v2 h23) fun r30 h28 =>
      if r30 = 0 then (
        f_mStreams_fillsResets_b144 k81 v0 v1 v2 v3 h28
      ) else
      if hR h28 v0 36 = 0 then none else
      if ix r20 (ln h28 (hR h28 v0 36)) then
        lt1 (sI h28 (hR h28 v0 36) r20.toNat 0) fun h33 =>
        some (1, h33)
      else none
    else none
  else none
def f_mStreams_fillsResets_b81_lp : Nat → Nat → Int → Int → Int → Hp → Option (Int × Hp)
  | 0, _, _, _, _, _ => none
  | n + 1, v0, v1, v2, v3, h => f_mStreams_fillsResets_b81 (f_mStreams_fillsResets_b81_lp n) v0 v1 v2 v3 h
def f_mStreams_fillsResets_b2 (k2 : Nat → Int → Int → Int → Hp → Option (Int × Hp)) (v0 : Nat) (v1 : Int) (v2 : Int) (v3 : Int) (h : Hp) : Option (Int × Hp) :=
  if 256 ≤ v3 then (
    f_mStreams_fillsResets_b81_lp FU v0 v1 v2 0 h
  ) else
  b2 (f_mStreams_at v1 v3 h) fun r3 h1 =>
  if hR h1 v0 17 = 0 then none else
  if ix r3 (ln h1 (hR h1 v0 17)) then
    if (hI h1 (hR h1 v0 17) r3.toNat) = 0 then (
      f_mStreams_fillsResets_b73 k2 v0 v1 v2 v3 h1
    ) else
    if hR h1 v0 16 = 0 then none else
    if ix r3 (ln h1 (hR h1 v0 16)) then
      if (hI h1 (hR h1 v0 16) r3.toNat) ≠ 1 then (
        f_mStreams_fillsResets_b73 k2 v0 v1 v2 v3 h1
      ) else
      if hR h1 v0 18 = 0 then none else
      if ix r3 (ln h1 (hR h1 v0 18)) then
        if hR h1 v0 24 = 0 then none else
        if ix r3 (ln h1 (hR h1 v0 24)) then
          b2 (f_mStreams_lays v0 4 v3 (hJ h1 (hR h1 v0 18) r3.toNat) (hI h1 (hR h1 v0 24) r3.toNat) v2 h1) fun r14 h12 =>
          if r14 = 0 then (
            f_mStreams_fillsResets_b73 k2 v0 v1 v2 v3 h12
          ) else
          if hR h12 v0 17 = 0 then none else
          if ix r3 (ln h12 (hR h12 v0 17)) then
            lt1 (sI h12 (hR h12 v0 17) r3.toNat 0) fun h17 =>
            some (1, h17)
          else none
        else none
      else none
    else none
  else none
def f_mStreams_fillsResets_b2_lp : Nat → Nat → Int → Int → Int → Hp → Option (Int × Hp)
  | 0, _, _, _, _, _ => none
  | n + 1, v0, v1, v2, v3, h => f_mStreams_fillsResets_b2 (f_mStreams_fillsResets_b2_lp n) v0 v1 v2 v3 h
def f_mStreams_fillsResets (v0 : Nat) (v1 : Int) (v2 : Int) (h : Hp) : Option (Int × Hp) :=
  f_mStreams_fillsResets_b2_lp FU v0 v1 v2 0 h
def f_mStreams_fillsGrants_b165 (k109 : Nat → Int → Int → Int → Hp → Option (Int × Hp)) (v0 : Nat) (v1 : Int) (v2 : Int) (v3 : Int) (h : Hp) : Option (Int × Hp) :=
  k109 v0 v1 v2 (w32 (v3 + 1)) h
def f_mStreams_fillsGrants_b109 (k109 : Nat → Int → Int → Int → Hp → Option (Int × Hp)) (v0 : Nat) (v1 : Int) (v2 : Int) (v3 : Int) (h : Hp) : Option (Int × Hp) :=
  if 2 ≤ v3 then (
    some (0, h)
  ) else
  if hR h v0 7 = 0 then none else
  if ix (w32 ((w32 (2 * v1)) + v3)) (ln h (hR h v0 7)) then
    if (hI h (hR h v0 7) ((w32 ((w32 (2 * v1)) + v3)).toNat)) = 0 then (
      f_mStreams_fillsGrants_b165 k109 v0 v1 v2 v3 h
    ) else
    if hR h v0 6 = 0 then none else
    if ix (w32 ((w32 (2 * v1)) + v3)) (ln h (hR h v0 6)) then
      b2 (f_mStreams_lays v0 (w32 (18 + v3)) (hI h (hR h v0 6) ((w32 ((w32 (2 * v1)) + v3)).toNat)) 0 0 v2 h) fun r33 h31 =>
      if r33 = 0 then (
        f_mStreams_fillsGrants_b165 k109 v0 v1 v2 v3 h31
      ) else
      if hR h31 v0 7 = 0 then none else
      if ix (w32 ((w32 (2 * v1)) + v3)) (ln h31 (hR h31 v0 7)) then
        lt1 (sI h31 (hR h31 v0 7) ((w32 ((w32 (2 * v1)) + v3)).toNat) 0) fun h36 =>
        some (1, h36)
      else none
    else none
  else none
def f_mStreams_fillsGrants_b109_lp : Nat → Nat → Int → Int → Int → Hp → Option (Int × Hp)
  | 0, _, _, _, _, _ => none
  | n + 1, v0, v1, v2, v3, h => f_mStreams_fillsGrants_b109 (f_mStreams_fillsGrants_b109_lp n) v0 v1 v2 v3 h
def f_mStreams_fillsGrants_b101 (k38 : Nat → Int → Int → Int → Hp → Option (Int × Hp)) (v0 : Nat) (v1 : Int) (v2 : Int) (v3 : Int) (h : Hp) : Option (Int × Hp) :=
  k38 v0 v1 v2 (w32 (v3 + 1)) h
def f_mStreams_fillsGrants_b38 (k38 : Nat → Int → Int → Int → Hp → Option (Int × Hp)) (v0 : Nat) (v1 : Int) (v2 : Int) (v3 : Int) (h : Hp) : Option (Int × Hp) :=
  if 256 ≤ v3 then (
    f_mStreams_fillsGrants_b109_lp FU v0 v1 v2 0 h
  ) else
  b2 (f_mStreams_at v1 v3 h) fun r13 h11 =>
  if hR h11 v0 34 = 0 then none else
  if ix r13 (ln h11 (hR h11 v0 34)) then
    if (hI h11 (hR h11 v0 34) r13.toNat) = 0 then (
      f_mStreams_fillsGrants_b101 k38 v0 v1 v2 v3 h11
    ) else
    b2 (f_mStreams_receiving v0 r13 h11) fun r18 h16 =>
    if r18 ≠ 0 then (
      f_mStreams_fillsGrants_b101 k38 v0 v1 v2 v3 h16
    ) else
    if hR h16 v0 33 = 0 then none else
    if ix r13 (ln h16 (hR h16 v0 33)) then
      b2 (f_mStreams_lays v0 17 v3 (hJ h16 (hR h16 v0 33) r13.toNat) 0 v2 h16) fun r23 h21 =>
      if r23 = 0 then (
        f_mStreams_fillsGrants_b101 k38 v0 v1 v2 v3 h21
      ) else
      if hR h21 v0 34 = 0 then none else
      if ix r13 (ln h21 (hR h21 v0 34)) then
        lt1 (sI h21 (hR h21 v0 34) r13.toNat 0) fun h26 =>
        some (1, h26)
      else none
    else none
  else none
def f_mStreams_fillsGrants_b38_lp : Nat → Nat → Int → Int → Int → Hp → Option (Int × Hp)
  | 0, _, _, _, _, _ => none
  | n + 1, v0, v1, v2, v3, h => f_mStreams_fillsGrants_b38 (f_mStreams_fillsGrants_b38_lp n) v0 v1 v2 v3 h
def f_mStreams_fillsGrants_b36 (v0 : Nat) (v1 : Int) (v2 : Int) (h : Hp) : Option (Int × Hp) :=
  f_mStreams_fillsGrants_b38_lp FU v0 v1 v2 0 h
def f_mStreams_fillsGrants (v0 : Nat) (v1 : Int) (v2 : Int) (h : Hp) : Option (Int × Hp) :=
  if hR h v0 10 = 0 then none else
  if ix v1 (ln h (hR h v0 10)) then
    if (hI h (hR h v0 10) v1.toNat) = 0 then (
      f_mStreams_fillsGrants_b36 v0 v1 v2 h
    ) else
    if hR h v0 9 = 0 then none else
    if ix v1 (ln h (hR h v0 9)) then
      b2 (f_mStreams_lays v0 16 (hJ h (hR h v0 9) v1.toNat) 0 0 v2 h) fun r7 h5 =>
      if r7 = 0 then (
        f_mStreams_fillsGrants_b36 v0 v1 v2 h5
      ) else
      if hR h5 v0 10 = 0 then none else
      if ix v1 (ln h5 (hR h5 v0 10)) then
        lt1 (sI h5 (hR h5 v0 10) v1.toNat 0) fun h10 =>
        some (1, h10)
      else none
    else none
  else none
def f_mStreams_waits (v0 : Nat) (v1 : Int) (v2 : Int) (h : Hp) : Option (Int × Hp) :=
  b2 (f_mStreams_isOpenSending v0 v1 v2 h) fun r3 h1 =>
  if r3 = 0 then (
    some (0, h1)
  ) else
  b2 (f_mStreams_at v1 v2 h1) fun r6 h4 =>
  if hR h1 v0 24 = 0 then none else
  if ix r6 (ln h4 (hR h1 v0 24)) then
    b2 (f_mStreams_at v1 v2 h4) fun r11 h9 =>
    if hR h4 v0 23 = 0 then none else
    if ix r11 (ln h9 (hR h4 v0 23)) then
      if (hI h9 (hR h4 v0 23) r11.toNat) ≤ (hI h4 (hR h1 v0 24) r6.toNat) then (
        some (0, h9)
      ) else
      some (1, h9)
    else none
  else none
def f_mStreams_fillsBlocked_b215 (k115 : Nat → Int → Int → Int → Hp → Option (Int × Hp)) (v0 : Nat) (v1 : Int) (v2 : Int) (v4 : Int) (h : Hp) : Option (Int × Hp) :=
  k115 v0 v1 v2 (w32 (v4 + 1)) h
def f_mStreams_fillsBlocked_b333 (k224 : Nat → Int → Int → Int → Hp → Option (Int × Hp)) (v0 : Nat) (v1 : Int) (v2 : Int) (v4 : Int) (h : Hp) : Option (Int × Hp) :=
  k224 v0 v1 v2 (w32 (v4 + 1)) h
def f_mStreams_fillsBlocked_b224 (k224 : Nat → Int → Int → Int → Hp → Option (Int × Hp)) (v0 : Nat) (v1 : Int) (v2 : Int) (v4 : Int) (h : Hp) : Option (Int × Hp) :=
  if 2 ≤ v4 then (
    some (0, h)
  ) else
  lt1 (w32 ((w32 ((w32 (3 * v1)) + 1)) + v4)) fun y42 =>
  if hR h v0 8 = 0 then none else
  if ix (w32 ((w32 (2 * v1)) + v4)) (ln h (hR h v0 8)) then
    if (hI h (hR h v0 8) ((w32 ((w32 (2 * v1)) + v4)).toNat)) = 0 then (
      f_mStreams_fillsBlocked_b333 k224 v0 v1 v2 v4 h
    ) else
    if hR h v0 4 = 0 then none else
    if ix (w32 ((w32 (2 * v1)) + v4)) (ln h (hR h v0 4)) then
      if hR h v0 2 = 0 then none else
      if ix y42 (ln h (hR h v0 2)) then
        if (hI h (hR h v0 4) ((w32 ((w32 (2 * v1)) + v4)).toNat)) < (hJ h (hR h v0 2) y42.toNat) then (
          f_mStreams_fillsBlocked_b333 k224 v0 v1 v2 v4 h
        ) else
        if hR h v0 3 = 0 then none else
        if ix y42 (ln h (hR h v0 3)) then
          if ix y42 (ln h (hR h v0 2)) then
            if (hJ h (hR h v0 3) y42.toNat) = (hJ h (hR h v0 2) y42.toNat) then (
              f_mStreams_fillsBlocked_b333 k224 v0 v1 v2 v4 h
            ) else
            if ix y42 (ln h (hR h v0 2)) then
              b2 (f_mStreams_lays v0 (w32 (22 + v4)) (hJ h (hR h v0 2) y42.toNat) 0 0 v2 h) fun r55 h53 =>
              if r55 = 0 then (
                f_mStreams_fillsBlocked_b333 k224 v0 v1 v2 v4 h53
              ) else
              if hR h53 v0 2 = 0 then none else
              if ix y42 (ln h53 (hR h53 v0 2)) then
                if hR h53 v0 3 = 0 then none else
                if ix y42 (ln h53 (hR h53 v0 3)) then
                  lt1 (sJ h53 (hR h53 v0 3) y42.toNat (hJ h53 (hR h53 v0 2) y42.toNat)) fun h60 =>
                  some (1, h60)
                else none
              else none
            else none
          else none
        else none
      else none
    else none
  else none
def f_mStreams_fillsBlocked_b224_lp : Nat → Nat → Int → Int → Int → Hp → Option (Int × Hp)
  | 0, _, _, _, _, _ => none
  | n + 1, v0, v1, v2, v4, h => f_mStreams_fillsBlocked_b224 (f_mStreams_fillsBlocked_b224_lp n) v0 v1 v2 v4 h
def f_mStreams_fillsBlocked_b115 (k115 : Nat → Int → Int → Int → Hp → Option (Int × Hp)) (v0 : Nat) (v1 : Int) (v2 : Int) (v4 : Int) (h : Hp) : Option (Int × Hp) :=
  if 256 ≤ v4 then (
    f_mStreams_fillsBlocked_b224_lp FU v0 v1 v2 0 h
  ) else
  b2 (f_mStreams_at v1 v4 h) fun r22 h20 =>
  b2 (f_mStreams_waits v0 v1 v4 h20) fun r25 h23 =>
  if r25 = 0 then (
    f_mStreams_fillsBlocked_b215 k115 v0 v1 v2 v4 h23
  ) else
  if hR h23 v0 24 = 0 then none else
  if ix r22 (ln h23 (hR h23 v0 24)) then
    if hR h23 v0 13 = 0 then none else
    if ix r22 (ln h23 (hR h23 v0 13)) then
      if (hI h23 (hR h23 v0 24) r22.toNat) ≠ (hJ h23 (hR h23 v0 13) r22.toNat) then (
        f_mStreams_fillsBlocked_b215 k115 v0 v1 v2 v4 h23
      ) else
      if hR h23 v0 19 = 0 then none else
      if ix r22 (ln h23 (hR h23 v0 19)) then
        if ix r22 (ln h23 (hR h23 v0 13)) then
          if (hJ h23 (hR h23 v0 19) r22.toNat) = (hJ h23 (hR h23 v0 13) r22.toNat) then (
            f_mStreams_fillsBlocked_b215 k115 v0 v1 v2 v4 h23
          ) else
          if ix r22 (ln h23 (hR h23 v0 13)) then
            b2 (f_mStreams_lays v0 21 v4 (hJ h23 (hR h23 v0 13) r22.toNat) 0 v2 h23) fun r36 h34 =>
            if r36 = 0 then (
              f_mStreams_fillsBlocked_b215 k115 v0 v1 v2 v4 h34
            ) else
            if hR h34 v0 13 = 0 then none else
            if ix r22 (ln h34 (hR h34 v0 13)) then
              if hR h34 v0 19 = 0 then none else
              if ix r22 (ln h34 (hR h34 v0 19)) then
                lt1 (sJ h34 (hR h34 v0 19) r22.toNat (hJ h34 (hR h34 v0 13) r22.toNat)) fun h41 =>
                some (1, h41)
              else none
            else none
          else none
        else none
      else none
    else none
  else none
def f_mStreams_fillsBlocked_b115_lp : Nat → Nat → Int → Int → Int → Hp → Option (Int × Hp)
  | 0, _, _, _, _, _ => none
  | n + 1, v0, v1, v2, v4, h => f_mStreams_fillsBlocked_b115 (f_mStreams_fillsBlocked_b115_lp n) v0 v1 v2 v4 h
def f_mStreams_fillsBlocked_b112 (v0 : Nat) (v1 : Int) (v2 : Int) (h : Hp) : Option (Int × Hp) :=
  f_mStreams_fillsBlocked_b115_lp FU v0 v1 v2 0 h
def f_mStreams_fillsBlocked_b31 (v0 : Nat) (v1 : Int) (v2 : Int) (v3 : Int) (h : Hp) : Option (Int × Hp) :=
  if v3 = 0 then (
    f_mStreams_fillsBlocked_b112 v0 v1 v2 h
  ) else
  if hR h v0 44 = 0 then none else
  if ix v1 (ln h (hR h v0 44)) then
    if hR h v0 2 = 0 then none else
    if ix (w32 (3 * v1)) (ln h (hR h v0 2)) then
      if (hI h (hR h v0 44) v1.toNat) ≠ (hJ h (hR h v0 2) ((w32 (3 * v1)).toNat)) then (
        f_mStreams_fillsBlocked_b112 v0 v1 v2 h
      ) else
      if hR h v0 3 = 0 then none else
      if ix (w32 (3 * v1)) (ln h (hR h v0 3)) then
        if ix (w32 (3 * v1)) (ln h (hR h v0 2)) then
          if (hJ h (hR h v0 3) ((w32 (3 * v1)).toNat)) = (hJ h (hR h v0 2) ((w32 (3 * v1)).toNat)) then (
            f_mStreams_fillsBlocked_b112 v0 v1 v2 h
          ) else
          if ix (w32 (3 * v1)) (ln h (hR h v0 2)) then
            b2 (f_mStreams_lays v0 20 (hJ h (hR h v0 2) ((w32 (3 * v1)).toNat)) 0 0 v2 h) fun r14 h12 =>
            if r14 = 0 then (
              f_mStreams_fillsBlocked_b112 v0 v1 v2 h12
            ) else
            if hR h12 v0 2 = 0 then none else
            if ix (w32 (3 * v1)) (ln h12 (hR h12 v0 2)) then
              if hR h12 v0 3 = 0 then none else
              if ix (w32 (3 * v1)) (ln h12 (hR h12 v0 3)) then
                lt1 (sJ h12 (hR h12 v0 3) ((w32 (3 * v1)).toNat) (hJ h12 (hR h12 v0 2) ((w32 (3 * v1)).toNat))) fun h19 =>
                some (1, h19)
              else none
            else none
          else none
        else none
      else none
    else none
  else none
def f_mStreams_fillsBlocked_b5 (k5 : Nat → Int → Int → Int → Int → Hp → Option (Int × Hp)) (v0 : Nat) (v1 : Int) (v2 : Int) (v3 : Int) (v4 : Int) (h : Hp) : Option (Int × Hp) :=
  if 256 ≤ v4 then (
    f_mStreams_fillsBlocked_b31 v0 v1 v2 v3 h
  ) else
  if v3 ≠ 0 then (
    f_mStreams_fillsBlocked_b31 v0 v1 v2 v3 h
  ) else
  b2 (f_mStreams_waits v0 v1 v4 h) fun r3 h1 =>
  k5 v0 v1 v2 r3 (w32 (v4 + 1)) h1
def f_mStreams_fillsBlocked_b5_lp : Nat → Nat → Int → Int → Int → Int → Hp → Option (Int × Hp)
  | 0, _, _, _, _, _, _ => none
  | n + 1, v0, v1, v2, v3, v4, h => f_mStreams_fillsBlocked_b5 (f_mStreams_fillsBlocked_b5_lp n) v0 v1 v2 v3 v4 h
def f_mStreams_fillsBlocked (v0 : Nat) (v1 : Int) (v2 : Int) (h : Hp) : Option (Int × Hp) :=
  f_mStreams_fillsBlocked_b5_lp FU v0 v1 v2 0 0 h
def f_mStreams_allowed_b46 (v0 : Nat) (s0 : Int) (h : Hp) : Option (Int × Hp) :=
  if 0 ≤ s0 then (
    some (s0, h)
  ) else
  some (0, h)
def f_mStreams_allowed (v0 : Nat) (v1 : Int) (v2 : Int) (h : Hp) : Option (Int × Hp) :=
  if hR h v0 13 = 0 then none else
  if ix v2 (ln h (hR h v0 13)) then
    if hR h v0 24 = 0 then none else
    if ix v2 (ln h (hR h v0 24)) then
      lt1 (w64 ((hJ h (hR h v0 13) v2.toNat) - (hI h (hR h v0 24) v2.toNat))) fun y5 =>
      if hR h v0 2 = 0 then none else
      if ix (w32 (3 * v1)) (ln h (hR h v0 2)) then
        if hR h v0 44 = 0 then none else
        if ix v1 (ln h (hR h v0 44)) then
          lt1 (w64 ((hJ h (hR h v0 2) ((w32 (3 * v1)).toNat)) - (hI h (hR h v0 44) v1.toNat))) fun y10 =>
          if y10 ≤ y5 then (
            f_mStreams_allowed_b46 v0 y10 h
          ) else
          f_mStreams_allowed_b46 v0 y5 h
        else none
      else none
    else none
  else none
def f_mStreams_fillsBytes_b78 (k9 : Nat → Int → Int → Int → Int → Int → Int → Int → Int → Int → Hp → Option (Int × Hp)) (v0 : Nat) (v1 : Int) (v2 : Int) (v3 : Int) (v4 : Int) (v5 : Int) (v7 : Int) (v8 : Int) (v9 : Int) (s0 : Int) (h : Hp) : Option (Int × Hp) :=
  if s0 ≠ 0 then (
    if hR h v0 41 = 0 then none else
    if ix v9 (ln h (hR h v0 41)) then
      if hR h v0 55 = 0 then none else
      if ix v8 (ln h (hR h v0 55)) then
        lt1 (sI h (hR h v0 55) v8.toNat (iAnd (hI h (hR h v0 41) v9.toNat) 255)) fun h12 =>
        if hR h12 v0 43 = 0 then none else
        if ix v9 (ln h12 (hR h12 v0 43)) then
          lt1 (hI h12 (hR h12 v0 43) v9.toNat) fun y15 =>
          k9 v0 v1 v2 v3 v4 v5 v7 (w32 (v8 + 1)) y15 s0 h12
        else none
      else none
    else none
  ) else
  k9 v0 v1 v2 v3 v4 v5 v7 v8 v9 s0 h
def f_mStreams_fillsBytes_b46 (k9 : Nat → Int → Int → Int → Int → Int → Int → Int → Int → Int → Hp → Option (Int × Hp)) (v0 : Nat) (v1 : Int) (v2 : Int) (v3 : Int) (v4 : Int) (v5 : Int) (v7 : Int) (v8 : Int) (v9 : Int) (s0 : Int) (h : Hp) : Option (Int × Hp) :=
  if s0 ≠ 0 then (
    lt1 (sI h v0 54 (w32 (v8 + 1))) fun h4 =>
    b2 (f_mStreams_bytes v0 h4) fun r7 h5 =>
    if v7 < r7 then (
      f_mStreams_fillsBytes_b78 k9 v0 v1 v2 v3 v4 v5 v7 v8 v9 0 h5
    ) else
    f_mStreams_fillsBytes_b78 k9 v0 v1 v2 v3 v4 v5 v7 v8 v9 1 h5
  ) else
  k9 v0 v1 v2 v3 v4 v5 v7 v8 v9 s0 h
def f_mStreams_fillsBytes_b45 (k9 : Nat → Int → Int → Int → Int → Int → Int → Int → Int → Int → Hp → Option (Int × Hp)) (v0 : Nat) (v1 : Int) (v2 : Int) (v3 : Int) (v4 : Int) (v5 : Int) (v7 : Int) (v8 : Int) (v9 : Int) (h : Hp) : Option (Int × Hp) :=
  f_mStreams_fillsBytes_b46 k9 v0 v1 v2 v3 v4 v5 v7 v8 v9 0 h
def f_mStreams_fillsBytes_b205 (v0 : Nat) (v2 : Int) (v9 : Int) (h : Hp) : Option (Int × Hp) :=
  if v9 ≠ (-1) then (
    some (1, h)
  ) else
  if hR h v0 14 = 0 then none else
  if ix v2 (ln h (hR h v0 14)) then
    if (hI h (hR h v0 14) v2.toNat) = 0 then (
      some (1, h)
    ) else
    lt1 (sJ h v0 53 1) fun h34 =>
    if hR h34 v0 15 = 0 then none else
    if ix v2 (ln h34 (hR h34 v0 15)) then
      if (hI h34 (hR h34 v0 15) v2.toNat) = 3 then (
        some (1, h34)
      ) else
      if ix v2 (ln h34 (hR h34 v0 15)) then
        lt1 (sI h34 (hR h34 v0 15) v2.toNat 1) fun h38 =>
        some (1, h38)
      else none
    else none
  else none
def f_mStreams_fillsBytes_b140 (k140 : Nat → Int → Int → Int → Int → Int → Int → Hp → Option (Int × Hp)) (v0 : Nat) (v1 : Int) (v2 : Int) (v4 : Int) (v8 : Int) (v9 : Int) (v11 : Int) (h : Hp) : Option (Int × Hp) :=
  if v8 ≤ v11 then (
    if v4 ≠ 0 then (
      f_mStreams_fillsBytes_b205 v0 v2 v9 h
    ) else
    if hR h v0 24 = 0 then none else
    if ix v2 (ln h (hR h v0 24)) then
      if ix v2 (ln h (hR h v0 24)) then
        lt1 (sI h (hR h v0 24) v2.toNat (w32 ((hI h (hR h v0 24) v2.toNat) + v8))) fun h19 =>
        if hR h19 v0 44 = 0 then none else
        if ix v1 (ln h19 (hR h19 v0 44)) then
          if ix v1 (ln h19 (hR h19 v0 44)) then
            lt1 (sI h19 (hR h19 v0 44) v1.toNat (w32 ((hI h19 (hR h19 v0 44) v1.toNat) + v8))) fun h23 =>
            if hR h23 v0 22 = 0 then none else
            if ix v2 (ln h23 (hR h23 v0 22)) then
              lt1 (sI h23 (hR h23 v0 22) v2.toNat v9) fun h26 =>
              f_mStreams_fillsBytes_b205 v0 v2 v9 h26
            else none
          else none
        else none
      else none
    else none
  ) else
  b1 (f_mStreams_remark v0 v2 v9 1 h) fun h27 =>
  if hR h27 v0 43 = 0 then none else
  if ix v9 (ln h27 (hR h27 v0 43)) then
    lt1 (hI h27 (hR h27 v0 43) v9.toNat) fun y31 =>
    k140 v0 v1 v2 v4 v8 y31 (w32 (v11 + 1)) h27
  else none
def f_mStreams_fillsBytes_b140_lp : Nat → Nat → Int → Int → Int → Int → Int → Int → Hp → Option (Int × Hp)
  | 0, _, _, _, _, _, _, _, _ => none
  | n + 1, v0, v1, v2, v4, v8, v9, v11, h => f_mStreams_fillsBytes_b140 (f_mStreams_fillsBytes_b140_lp n) v0 v1 v2 v4 v8 v9 v11 h
def f_mStreams_fillsBytes_b9 (k9 : Nat → Int → Int → Int → Int → Int → Int → Int → Int → Int → Hp → Option (Int × Hp)) (v0 : Nat) (v1 : Int) (v2 : Int) (v3 : Int) (v4 : Int) (v5 : Int) (v7 : Int) (v8 : Int) (v9 : Int) (v10 : Int) (h : Hp) : Option (Int × Hp) :=
  if v10 = 0 then (
    lt1 (sI h v0 54 v8) fun h1 =>
    if v8 ≠ 0 then (
      f_mStreams_fillsBytes_b140_lp FU v0 v1 v2 v4 v8 v3 0 h1
    ) else
    some (0, h1)
  ) else
  if v5 ≤ v8 then (
    f_mStreams_fillsBytes_b45 k9 v0 v1 v2 v3 v4 v5 v7 v8 v9 h
  ) else
  if v9 = (-1) then (
    f_mStreams_fillsBytes_b45 k9 v0 v1 v2 v3 v4 v5 v7 v8 v9 h
  ) else
  if hR h v0 42 = 0 then none else
  if ix v9 (ln h (hR h v0 42)) then
    if (hI h (hR h v0 42) v9.toNat) ≠ v4 then (
      f_mStreams_fillsBytes_b45 k9 v0 v1 v2 v3 v4 v5 v7 v8 v9 h
    ) else
    f_mStreams_fillsBytes_b46 k9 v0 v1 v2 v3 v4 v5 v7 v8 v9 1 h
  else none
def f_mStreams_fillsBytes_b9_lp : Nat → Nat → Int → Int → Int → Int → Int → Int → Int → Int → Int → Hp → Option (Int × Hp)
  | 0, _, _, _, _, _, _, _, _, _, _, _ => none
  | n + 1, v0, v1, v2, v3, v4, v5, v7, v8, v9, v10, h => f_mStreams_fillsBytes_b9 (f_mStreams_fillsBytes_b9_lp n) v0 v1 v2 v3 v4 v5 v7 v8 v9 v10 h
def f_mStreams_fillsBytes (v0 : Nat) (v1 : Int) (v2 : Int) (v3 : Int) (v4 : Int) (v5 : Int) (v7 : Int) (h : Hp) : Option (Int × Hp) :=
  f_mStreams_fillsBytes_b9_lp FU v0 v1 v2 v3 v4 v5 v7 0 v3 1 h
def f_mStreams_fillsStream_b205 (v0 : Nat) (v1 : Int) (v2 : Int) (v3 : Int) (v4 : Int) (v5 : Int) (v6 : Int) (v7 : Int) (v8 : Int) (v10 : Int) (h : Hp) : Option (Int × Hp) :=
  lt1 (sI h v0 50 8) fun h28 =>
  lt1 (sJ h28 v0 51 v2) fun h29 =>
  lt1 (sJ h29 v0 52 v7) fun h30 =>
  lt1 (sJ h30 v0 53 0) fun h31 =>
  lt1 (sI h31 v0 54 0) fun h32 =>
  if v10 = 0 then (
    b2 (f_mStreams_fillsBytes v0 v1 v4 v6 v5 v8 v3 h32) fun r35 h33 =>
    if r35 = 0 ∨ r35 = 1 then some (r35, h33) else none
  ) else
  lt1 (sJ h32 v0 53 1) fun h37 =>
  b2 (f_mStreams_bytes v0 h37) fun r40 h38 =>
  if r40 ≤ v3 then (
    if hR h38 v0 15 = 0 then none else
    if ix v4 (ln h38 (hR h38 v0 15)) then
      lt1 (sI h38 (hR h38 v0 15) v4.toNat 1) fun h43 =>
      some (1, h43)
    else none
  ) else
  some (0, h38)
def f_mStreams_fillsStream_b181 (v0 : Nat) (v1 : Int) (v2 : Int) (v3 : Int) (v4 : Int) (v5 : Int) (v6 : Int) (v7 : Int) (v8 : Int) (v10 : Int) (s0 : Int) (h : Hp) : Option (Int × Hp) :=
  if v10 = 0 then (
    if v8 ≠ 0 then (
      f_mStreams_fillsStream_b205 v0 v1 v2 v3 v4 v5 v6 v7 v8 v10 h
    ) else
    some (0, h)
  ) else
  if s0 ≠ 0 then (
    f_mStreams_fillsStream_b205 v0 v1 v2 v3 v4 v5 v6 v7 v8 v10 h
  ) else
  some (0, h)
def f_mStreams_fillsStream_b176 (v0 : Nat) (v1 : Int) (v2 : Int) (v3 : Int) (v4 : Int) (v5 : Int) (v6 : Int) (v7 : Int) (v8 : Int) (v10 : Int) (h : Hp) : Option (Int × Hp) :=
  f_mStreams_fillsStream_b181 v0 v1 v2 v3 v4 v5 v6 v7 v8 v10 1 h
def f_mStreams_fillsStream_b180 (v0 : Nat) (v1 : Int) (v2 : Int) (v3 : Int) (v4 : Int) (v5 : Int) (v6 : Int) (v7 : Int) (v8 : Int) (v10 : Int) (h : Hp) : Option (Int × Hp) :=
  f_mStreams_fillsStream_b181 v0 v1 v2 v3 v4 v5 v6 v7 v8 v10 0 h
def f_mStreams_fillsStream_b143 (v0 : Nat) (v1 : Int) (v2 : Int) (v3 : Int) (v4 : Int) (v5 : Int) (v6 : Int) (v7 : Int) (v8 : Int) (s0 : Int) (h : Hp) : Option (Int × Hp) :=
  if hR h v0 14 = 0 then none else
  if ix v4 (ln h (hR h v0 14)) then
    if (hI h (hR h v0 14) v4.toNat) = 0 then (
      f_mStreams_fillsStream_b180 v0 v1 v2 v3 v4 v5 v6 v7 v8 s0 h
    ) else
    if hR h v0 15 = 0 then none else
    if ix v4 (ln h (hR h v0 15)) then
      if (hI h (hR h v0 15) v4.toNat) = 0 then (
        f_mStreams_fillsStream_b176 v0 v1 v2 v3 v4 v5 v6 v7 v8 s0 h
      ) else
      if ix v4 (ln h (hR h v0 15)) then
        if (hI h (hR h v0 15) v4.toNat) ≠ 2 then (
          f_mStreams_fillsStream_b180 v0 v1 v2 v3 v4 v5 v6 v7 v8 s0 h
        ) else
        f_mStreams_fillsStream_b176 v0 v1 v2 v3 v4 v5 v6 v7 v8 s0 h
      else none
    else none
  else none
def f_mStreams_fillsStream_b130 (v0 : Nat) (v1 : Int) (v2 : Int) (v3 : Int) (v4 : Int) (v5 : Int) (v6 : Int) (v7 : Int) (s0 : Int) (h : Hp) : Option (Int × Hp) :=
  if v6 ≠ (-1) then (
    f_mStreams_fillsStream_b143 v0 v1 v2 v3 v4 v5 v6 v7 s0 0 h
  ) else
  f_mStreams_fillsStream_b143 v0 v1 v2 v3 v4 v5 v6 v7 s0 1 h
def f_mStreams_fillsStream_b111 (v0 : Nat) (v1 : Int) (v2 : Int) (v3 : Int) (v4 : Int) (v5 : Int) (v6 : Int) (v7 : Int) (h : Hp) : Option (Int × Hp) :=
  if v5 ≠ 2 then (
    b2 (f_mStreams_allowed v0 v1 v4 h) fun r22 h20 =>
    f_mStreams_fillsStream_b130 v0 v1 v2 v3 v4 v5 v6 v7 r22 h20
  ) else
  f_mStreams_fillsStream_b130 v0 v1 v2 v3 v4 v5 v6 v7 65536 h
def f_mStreams_fillsStream_b79 (k79 : Nat → Int → Int → Int → Int → Int → Int → Int → Hp → Option (Int × Hp)) (v0 : Nat) (v1 : Int) (v2 : Int) (v3 : Int) (v4 : Int) (v5 : Int) (v6 : Int) (v7 : Int) (h : Hp) : Option (Int × Hp) :=
  if v5 ≠ 2 then (
    f_mStreams_fillsStream_b111 v0 v1 v2 v3 v4 v5 v6 v7 h
  ) else
  if hR h v0 42 = 0 then none else
  if ix v6 (ln h (hR h v0 42)) then
    if (hI h (hR h v0 42) v6.toNat) = 2 then (
      f_mStreams_fillsStream_b111 v0 v1 v2 v3 v4 v5 v6 v7 h
    ) else
    if hR h v0 43 = 0 then none else
    if ix v6 (ln h (hR h v0 43)) then
      lt1 (hI h (hR h v0 43) v6.toNat) fun y19 =>
      k79 v0 v1 v2 v3 v4 v5 y19 (w32 (v7 + 1)) h
    else none
  else none
def f_mStreams_fillsStream_b79_lp : Nat → Nat → Int → Int → Int → Int → Int → Int → Int → Hp → Option (Int × Hp)
  | 0, _, _, _, _, _, _, _, _, _ => none
  | n + 1, v0, v1, v2, v3, v4, v5, v6, v7, h => f_mStreams_fillsStream_b79 (f_mStreams_fillsStream_b79_lp n) v0 v1 v2 v3 v4 v5 v6 v7 h
def f_mStreams_fillsStream_b77 (v0 : Nat) (v1 : Int) (v2 : Int) (v3 : Int) (v4 : Int) (v5 : Int) (v6 : Int) (s0 : Int) (h : Hp) : Option (Int × Hp) :=
  f_mStreams_fillsStream_b79_lp FU v0 v1 v2 v3 v4 v5 v6 s0 h
def f_mStreams_fillsStream_b58 (v0 : Nat) (v1 : Int) (v2 : Int) (v3 : Int) (v4 : Int) (v5 : Int) (s0 : Int) (h : Hp) : Option (Int × Hp) :=
  if v5 ≠ 2 then (
    if hR h v0 24 = 0 then none else
    if ix v4 (ln h (hR h v0 24)) then
      f_mStreams_fillsStream_b77 v0 v1 v2 v3 v4 v5 s0 (hI h (hR h v0 24) v4.toNat) h
    else none
  ) else
  f_mStreams_fillsStream_b77 v0 v1 v2 v3 v4 v5 s0 0 h
def f_mStreams_fillsStream_b33 (v0 : Nat) (v1 : Int) (v2 : Int) (v3 : Int) (v4 : Int) (s0 : Int) (h : Hp) : Option (Int × Hp) :=
  if s0 ≠ 2 then (
    if hR h v0 22 = 0 then none else
    if ix v4 (ln h (hR h v0 22)) then
      f_mStreams_fillsStream_b58 v0 v1 v2 v3 v4 s0 (hI h (hR h v0 22) v4.toNat) h
    else none
  ) else
  if hR h v0 20 = 0 then none else
  if ix v4 (ln h (hR h v0 20)) then
    f_mStreams_fillsStream_b58 v0 v1 v2 v3 v4 s0 (hI h (hR h v0 20) v4.toNat) h
  else none
def f_mStreams_fillsStream (v0 : Nat) (v1 : Int) (v2 : Int) (v3 : Int) (h : Hp) : Option (Int × Hp) :=
  b2 (f_mStreams_isOpenSending v0 v1 v2 h) fun r3 h1 =>
  if r3 ≠ 0 then (
    b2 (f_mStreams_at v1 v2 h1) fun r6 h4 =>
    if hR h4 v0 26 = 0 then none else
    if ix r6 (ln h4 (hR h4 v0 26)) then
      if (hI h4 (hR h4 v0 26) r6.toNat) ≤ 0 then (
        f_mStreams_fillsStream_b33 v0 v1 v2 v3 r6 0 h4
      ) else
      f_mStreams_fillsStream_b33 v0 v1 v2 v3 r6 2 h4
    else none
  ) else
  some (0, h1)
def f_mStreams_fills_b31 (k31 : Nat → Int → Int → Int → Hp → Option (Int × Hp)) (v0 : Nat) (v1 : Int) (v2 : Int) (v3 : Int) (h : Hp) : Option (Int × Hp) :=
  if 256 < v3 then (
    some (0, h)
  ) else
  if hR h v0 11 = 0 then none else
  if ix v1 (ln h (hR h v0 11)) then
    lt1 (iRem (w32 ((w32 ((hI h (hR h v0 11) v1.toNat) + v3)) + 256)) 256) fun y12 =>
    b2 (f_mStreams_fillsStream v0 v1 y12 v2 h) fun r15 h13 =>
    if r15 = 0 then (
      k31 v0 v1 v2 (w32 (v3 + 1)) h13
    ) else
    if hR h13 v0 11 = 0 then none else
    if ix v1 (ln h13 (hR h13 v0 11)) then
      lt1 (sI h13 (hR h13 v0 11) v1.toNat y12) fun h18 =>
      some (1, h18)
    else none
  else none
def f_mStreams_fills_b31_lp : Nat → Nat → Int → Int → Int → Hp → Option (Int × Hp)
  | 0, _, _, _, _, _ => none
  | n + 1, v0, v1, v2, v3, h => f_mStreams_fills_b31 (f_mStreams_fills_b31_lp n) v0 v1 v2 v3 h
def f_mStreams_fills (v0 : Nat) (v1 : Int) (v2 : Int) (h : Hp) : Option (Int × Hp) :=
  b2 (f_mStreams_fillsResets v0 v1 v2 h) fun r3 h1 =>
  if r3 ≠ 0 then (
    some (1, h1)
  ) else
  b2 (f_mStreams_fillsGrants v0 v1 v2 h1) fun r6 h4 =>
  if r6 ≠ 0 then (
    some (1, h4)
  ) else
  b2 (f_mStreams_fillsBlocked v0 v1 v2 h4) fun r9 h7 =>
  if r9 = 0 then (
    f_mStreams_fills_b31_lp FU v0 v1 v2 1 h7
  ) else
  some (1, h7)
def f_mStreams_writeTo_b69 (v0 : Nat) (v1 : Nat) (h : Hp) : Option (Hp) :=
  if (hI h v0 50) ≠ 4 then (
    some h
  ) else
  if v1 = 0 then none else
  b1 (f_mDraft_number v1 (hJ h v0 53) h) fun h10 =>
  some h10
def f_mStreams_writeTo_b142 (v0 : Nat) (v1 : Nat) (h : Hp) : Option (Hp) :=
  if v1 = 0 then none else
  b1 (f_mDraft_number v1 (hI h v0 54) h) fun h21 =>
  b1 (f_mDraft_bytes v1 (hR h21 v0 55) 0 (hI h21 v0 54) h21) fun h23 =>
  some h23
def f_mStreams_writeTo_b103 (v0 : Nat) (v1 : Nat) (s0 : Nat) (s1 : Int) (s2 : Int) (h : Hp) : Option (Hp) :=
  if s0 = 0 then none else
  b1 (f_mDraft_put s0 (w32 ((w32 ((w32 (s1 + s2)) + 2)) + (w32 (hJ h v0 53)))) 1 h) fun h13 =>
  if v1 = 0 then none else
  b1 (f_mDraft_number v1 (hJ h13 v0 51) h13) fun h16 =>
  if (hJ h16 v0 52) ≤ 0 then (
    f_mStreams_writeTo_b142 v0 v1 h16
  ) else
  b1 (f_mDraft_number v1 (hJ h16 v0 52) h16) fun h18 =>
  f_mStreams_writeTo_b142 v0 v1 h18
def f_mStreams_writeTo_b61 (v0 : Nat) (v1 : Nat) (h : Hp) : Option (Hp) :=
  if v1 = 0 then none else
  b1 (f_mDraft_number v1 (hJ h v0 52) h) fun h7 =>
  f_mStreams_writeTo_b69 v0 v1 h7
def f_mStreams_writeTo (v0 : Nat) (v1 : Nat) (h : Hp) : Option (Hp) :=
  if (hI h v0 50) = 8 then (
    if (hJ h v0 52) ≤ 0 then (
      f_mStreams_writeTo_b103 v0 v1 v1 8 0 h
    ) else
    f_mStreams_writeTo_b103 v0 v1 v1 8 4 h
  ) else
  if v1 = 0 then none else
  b1 (f_mDraft_put v1 (hI h v0 50) 1 h) fun h2 =>
  b1 (f_mDraft_number v1 (hJ h2 v0 51) h2) fun h4 =>
  if (hI h4 v0 50) = 4 then (
    f_mStreams_writeTo_b61 v0 v1 h4
  ) else
  if (hI h4 v0 50) = 5 then (
    f_mStreams_writeTo_b61 v0 v1 h4
  ) else
  if (hI h4 v0 50) = 17 then (
    f_mStreams_writeTo_b61 v0 v1 h4
  ) else
  if (hI h4 v0 50) ≠ 21 then (
    f_mStreams_writeTo_b69 v0 v1 h4
  ) else
  f_mStreams_writeTo_b61 v0 v1 h4
def f_mSide_laysLast_b106 (k106 : Nat → Int → Nat → Hp → Option (Hp)) (v0 : Nat) (v1 : Int) (v2 : Nat) (h : Hp) : Option (Hp) :=
  if v2 = 0 then none else
  if hR h v0 2 = 0 then none else
  b2 (f_mStreams_fills (hR h v0 2) (hI h v0 0) (w32 (v1 - (hI h v2 1))) h) fun r28 h26 =>
  if r28 = 0 then (
    some h26
  ) else
  if hR h26 v0 2 = 0 then none else
  b1 (f_mStreams_writeTo (hR h26 v0 2) v2 h26) fun h30 =>
  if hR h30 v0 45 = 0 then none else
  if ix 2 (ln h30 (hR h30 v0 45)) then
    if hR h30 v0 2 = 0 then none else
    if hR h30 (hR h30 v0 45) (Int.toNat 2) = 0 then none else
    b1 (f_mCargo_add (hR h30 (hR h30 v0 45) (Int.toNat 2)) (hI h30 (hR h30 v0 2) 50) (hJ h30 (hR h30 v0 2) 51) (hJ h30 (hR h30 v0 2) 52) (hI h30 (hR h30 v0 2) 54) (hJ h30 (hR h30 v0 2) 53) h30) fun h36 =>
    k106 v0 v1 v2 h36
  else none
def f_mSide_laysLast_b106_lp : Nat → Nat → Int → Nat → Hp → Option (Hp)
  | 0, _, _, _, _ => none
  | n + 1, v0, v1, v2, h => f_mSide_laysLast_b106 (f_mSide_laysLast_b106_lp n) v0 v1 v2 h
def f_mSide_laysLast_b50 (v0 : Nat) (v1 : Int) (v2 : Nat) (h : Hp) : Option (Hp) :=
  if (hI h v0 32) = 0 then (
    f_mSide_laysLast_b106_lp FU v0 v1 v2 h
  ) else
  if v2 = 0 then none else
  if (w32 (v1 - (hI h v2 1))) < 9 then (
    f_mSide_laysLast_b106_lp FU v0 v1 v2 h
  ) else
  lt1 (sI h v0 32 0) fun h14 =>
  b1 (f_mDraft_put v2 27 1 h14) fun h15 =>
  b1 (f_mDraft_put v2 (hJ h15 v0 33) 8 h15) fun h17 =>
  if hR h17 v0 45 = 0 then none else
  if ix 2 (ln h17 (hR h17 v0 45)) then
    if hR h17 (hR h17 v0 45) (Int.toNat 2) = 0 then none else
    b1 (f_mCargo_add (hR h17 (hR h17 v0 45) (Int.toNat 2)) 27 0 0 0 0 h17) fun h22 =>
    f_mSide_laysLast_b106_lp FU v0 v1 v2 h22
  else none
def f_mSide_laysLast (v0 : Nat) (v1 : Int) (h : Hp) : Option (Hp) :=
  if hR h v0 47 = 0 then none else
  if ix 2 (ln h (hR h v0 47)) then
    lt1 (hR h (hR h v0 47) (Int.toNat 2)) fun y3 =>
    if (hI h v0 30) = 0 then (
      f_mSide_laysLast_b50 v0 v1 y3 h
    ) else
    if y3 = 0 then none else
    if v1 ≤ (hI h y3 1) then (
      f_mSide_laysLast_b50 v0 v1 y3 h
    ) else
    lt1 (sI h v0 30 0) fun h5 =>
    b1 (f_mDraft_put y3 30 1 h5) fun h6 =>
    if hR h6 v0 45 = 0 then none else
    if ix 2 (ln h6 (hR h6 v0 45)) then
      if hR h6 (hR h6 v0 45) (Int.toNat 2) = 0 then none else
      b1 (f_mCargo_add (hR h6 (hR h6 v0 45) (Int.toNat 2)) 30 0 0 0 0 h6) fun h11 =>
      f_mSide_laysLast_b50 v0 v1 y3 h11
    else none
  else none
def f_mBook_due_b51 (v0 : Nat) (h : Hp) : Option (Int × Hp) :=
  some (1, h)
def f_mBook_due (v0 : Nat) (v1 : Int) (h : Hp) : Option (Int × Hp) :=
  if hR h v0 35 = 0 then none else
  if ix v1 (ln h (hR h v0 35)) then
    if (hI h (hR h v0 35) v1.toNat) ≠ 0 then (
      if v1 < 2 then (
        f_mBook_due_b51 v0 h
      ) else
      if ix v1 (ln h (hR h v0 35)) then
        if 1 < (hI h (hR h v0 35) v1.toNat) then (
          f_mBook_due_b51 v0 h
        ) else
        if hR h v0 37 = 0 then none else
        if ix v1 (ln h (hR h v0 37)) then
          if (hI h (hR h v0 37) v1.toNat) ≠ 0 then (
            f_mBook_due_b51 v0 h
          ) else
          if hR h v0 36 = 0 then none else
          if ix v1 (ln h (hR h v0 36)) then
            if (w32 ((hI h v0 0) - (hI h (hR h v0 36) v1.toNat))) < 25 then (
              some (0, h)
            ) else
            f_mBook_due_b51 v0 h
          else none
        else none
      else none
    ) else
    some (0, h)
  else none
def f_mSide_laysFrames_b251 (v0 : Nat) (v1 : Int) (v4 : Nat) (s0 : Nat) (s1 : Int) (s2 : Int) (h : Hp) : Option (Hp) :=
  if s0 = 0 then none else
  if ix s1 (ln h s0) then
    if ¬ (s2 = 0 ∨ s2 = 1) then none else
    lt1 (sI h s0 s1.toNat s2) fun h59 =>
    if hR h59 v0 50 = 0 then none else
    if ix v1 (ln h59 (hR h59 v0 50)) then
      if (hI h59 (hR h59 v0 50) v1.toNat) = 0 then (
        some h59
      ) else
      if hR h59 v0 48 = 0 then none else
      if ix v1 (ln h59 (hR h59 v0 48)) then
        if (hI h59 (hR h59 v0 48) v1.toNat) ≠ 0 then (
          some h59
        ) else
        if hR h59 v0 4 = 0 then none else
        b2 (f_mBook_due (hR h59 v0 4) v1 h59) fun r68 h66 =>
        if r68 ≠ 0 then (
          some h66
        ) else
        if v4 = 0 then none else
        lt1 (sI h66 v4 1 0) fun h70 =>
        if hR h70 v0 50 = 0 then none else
        if ix v1 (ln h70 (hR h70 v0 50)) then
          lt1 (sI h70 (hR h70 v0 50) v1.toNat 0) fun h73 =>
          some h73
        else none
      else none
    else none
  else none
def f_mSide_laysFrames_b231 (v0 : Nat) (v1 : Int) (v4 : Nat) (v5 : Int) (h : Hp) : Option (Hp) :=
  if v4 = 0 then none else
  if (hI h v4 1) ≤ v5 then (
    f_mSide_laysFrames_b251 v0 v1 v4 (hR h v0 48) v1 0 h
  ) else
  f_mSide_laysFrames_b251 v0 v1 v4 (hR h v0 48) v1 1 h
def f_mSide_laysFrames_b196 (v0 : Nat) (v1 : Int) (v2 : Int) (v4 : Nat) (v5 : Int) (h : Hp) : Option (Hp) :=
  if v4 = 0 then none else
  if (hI h v4 1) ≠ v5 then (
    f_mSide_laysFrames_b231 v0 v1 v4 v5 h
  ) else
  if hR h v0 34 = 0 then none else
  if ix v1 (ln h (hR h v0 34)) then
    if (hI h (hR h v0 34) v1.toNat) ≤ 0 then (
      f_mSide_laysFrames_b231 v0 v1 v4 v5 h
    ) else
    if v2 ≤ (hI h v4 1) then (
      f_mSide_laysFrames_b231 v0 v1 v4 v5 h
    ) else
    b1 (f_mDraft_put v4 1 1 h) fun h54 =>
    f_mSide_laysFrames_b231 v0 v1 v4 v5 h54
  else none
def f_mSide_laysFrames_b177 (v0 : Nat) (v1 : Int) (v2 : Int) (v4 : Nat) (v5 : Int) (h : Hp) : Option (Hp) :=
  if 2 ≤ v1 then (
    b1 (f_mSide_laysLast v0 v2 h) fun h47 =>
    f_mSide_laysFrames_b196 v0 v1 v2 v4 v5 h47
  ) else
  b1 (f_mSide_laysCrypto v0 v1 v2 h) fun h49 =>
  f_mSide_laysFrames_b196 v0 v1 v2 v4 v5 h49
def f_mSide_laysFrames_b132 (v0 : Nat) (v1 : Int) (v2 : Int) (v4 : Nat) (h : Hp) : Option (Hp) :=
  b2 (f_mSide_laysAck v0 v1 v2 h) fun r33 h31 =>
  if hR h v0 50 = 0 then none else
  if ix v1 (ln h31 (hR h v0 50)) then
    if ¬ (r33 = 0 ∨ r33 = 1) then none else
    lt1 (sI h31 (hR h v0 50) v1.toNat r33) fun h36 =>
    if v4 = 0 then none else
    lt1 (hI h36 v4 1) fun y39 =>
    if hR h36 v0 34 = 0 then none else
    if ix v1 (ln h36 (hR h36 v0 34)) then
      if 0 < (hI h36 (hR h36 v0 34) v1.toNat) then (
        f_mSide_laysFrames_b177 v0 v1 v2 v4 y39 h36
      ) else
      if hR h36 v0 4 = 0 then none else
      b2 (f_mBook_flight (hR h36 v0 4) h36) fun r45 h43 =>
      if hR h43 v0 4 = 0 then none else
      if (hI h43 (hR h43 v0 4) 24) ≤ r45 then (
        f_mSide_laysFrames_b196 v0 v1 v2 v4 y39 h43
      ) else
      f_mSide_laysFrames_b177 v0 v1 v2 v4 y39 h43
    else none
  else none
def f_mSide_laysFrames (v0 : Nat) (v1 : Int) (v2 : Int) (v3 : Int) (h : Hp) : Option (Hp) :=
  if hR h v0 47 = 0 then none else
  if ix v1 (ln h (hR h v0 47)) then
    lt1 (hR h (hR h v0 47) v1.toNat) fun y3 =>
    if hR h v0 48 = 0 then none else
    if ix v1 (ln h (hR h v0 48)) then
      lt1 (sI h (hR h v0 48) v1.toNat 0) fun h6 =>
      if hR h6 v0 49 = 0 then none else
      if ix v1 (ln h6 (hR h6 v0 49)) then
        lt1 (sI h6 (hR h6 v0 49) v1.toNat 0) fun h9 =>
        if hR h9 v0 50 = 0 then none else
        if ix v1 (ln h9 (hR h9 v0 50)) then
          lt1 (sI h9 (hR h9 v0 50) v1.toNat 0) fun h12 =>
          if hR h12 v0 4 = 0 then none else
          if hR h12 (hR h12 v0 4) 3 = 0 then none else
          if ix v1 (ln h12 (hR h12 (hR h12 v0 4) 3)) then
            if hR h12 v0 45 = 0 then none else
            if ix v1 (ln h12 (hR h12 v0 45)) then
              if hR h12 (hR h12 v0 45) v1.toNat = 0 then none else
              if hR h12 v0 44 = 0 then none else
              if ix (w32 ((w32 (4097 * v1)) + (hI h12 (hR h12 (hR h12 v0 4) 3) v1.toNat))) (ln h12 (hR h12 v0 44)) then
                lt1 (sI h12 (hR h12 v0 44) ((w32 ((w32 (4097 * v1)) + (hI h12 (hR h12 (hR h12 v0 4) 3) v1.toNat))).toNat) (hI h12 (hR h12 (hR h12 v0 45) v1.toNat) 0)) fun h21 =>
                if (hI h21 v0 8) ≠ 3 then (
                  if (hI h21 v0 8) ≠ 2 then (
                    f_mSide_laysFrames_b132 v0 v1 v2 y3 h21
                  ) else
                  if v1 ≠ 2 then (
                    f_mSide_laysFrames_b132 v0 v1 v2 y3 h21
                  ) else
                  if v3 = 0 then (
                    f_mSide_laysFrames_b132 v0 v1 v2 y3 h21
                  ) else
                  if (hI h21 v0 43) ≤ 0 then (
                    f_mSide_laysFrames_b132 v0 v1 v2 y3 h21
                  ) else
                  if v2 < (hI h21 v0 43) then (
                    f_mSide_laysFrames_b132 v0 v1 v2 y3 h21
                  ) else
                  if y3 = 0 then none else
                  b1 (f_mDraft_bytes y3 (hR h21 v0 42) 0 (hI h21 v0 43) h21) fun h23 =>
                  lt1 (sI h23 v0 43 0) fun h25 =>
                  if hR h25 v0 48 = 0 then none else
                  if ix v1 (ln h25 (hR h25 v0 48)) then
                    lt1 (sI h25 (hR h25 v0 48) v1.toNat 1) fun h28 =>
                    some h28
                  else none
                ) else
                b1 (f_mSide_laysClose v0 v1 v2 h21) fun h29 =>
                some h29
              else none
            else none
          else none
        else none
      else none
    else none
  else none
def f_mSide_cut (v0 : Nat) (v1 : Int) (h : Hp) : Option (Int × Hp) :=
  if hR h v0 4 = 0 then none else
  if hR h (hR h v0 4) 3 = 0 then none else
  if ix v1 (ln h (hR h (hR h v0 4) 3)) then
    if hR h (hR h v0 4) 12 = 0 then none else
    if ix v1 (ln h (hR h (hR h v0 4) 12)) then
      lt1 (w64 ((hI h (hR h (hR h v0 4) 3) v1.toNat) - (hI h (hR h (hR h v0 4) 12) v1.toNat))) fun y6 =>
      if 32768 < y6 then (
        if 8388608 < y6 then (
          some (4, h)
        ) else
        some (3, h)
      ) else
      some (2, h)
    else none
  else none
def f_mSide_pad (v0 : Nat) (v1 : Int) (h : Hp) : Option (Hp) :=
  if hR h v0 47 = 0 then none else
  if ix v1 (ln h (hR h v0 47)) then
    if hR h (hR h v0 47) v1.toNat = 0 then none else
    b1 (f_mDraft_put (hR h (hR h v0 47) v1.toNat) 0 1 h) fun h4 =>
    if hR h4 v0 49 = 0 then none else
    if ix v1 (ln h4 (hR h4 v0 49)) then
      lt1 (sI h4 (hR h4 v0 49) v1.toNat 1) fun h8 =>
      some h8
    else none
  else none
def f_mSide_sizeOf (v0 : Nat) (v1 : Int) (h : Hp) : Option (Int × Hp) :=
  b2 (f_mSide_headerOf v1 h) fun r3 h1 =>
  b2 (f_mSide_cut v0 v1 h1) fun r6 h4 =>
  if hR h4 v0 47 = 0 then none else
  if ix v1 (ln h4 (hR h4 v0 47)) then
    if hR h4 (hR h4 v0 47) v1.toNat = 0 then none else
    some (w32 ((w32 ((w32 (r3 + r6)) + (hI h4 (hR h4 (hR h4 v0 47) v1.toNat) 1))) + 16), h4)
  else none
def f_mSeals_seal_b35 (k35 : Nat → Nat → Int → Int → Hp → Option (Hp)) (v0 : Nat) (v5 : Nat) (v8 : Int) (v9 : Int) (h : Hp) : Option (Hp) :=
  if 16 ≤ v9 then (
    some h
  ) else
  if hR h v0 23 = 0 then none else
  if ix v9 (ln h (hR h v0 23)) then
    if v5 = 0 then none else
    if ix (w32 (v8 + v9)) (ln h v5) then
      lt1 (sI h v5 ((w32 (v8 + v9)).toNat) (hI h (hR h v0 23) v9.toNat)) fun h11 =>
      k35 v0 v5 v8 (w32 (v9 + 1)) h11
    else none
  else none
def f_mSeals_seal_b35_lp : Nat → Nat → Nat → Int → Int → Hp → Option (Hp)
  | 0, _, _, _, _, _ => none
  | n + 1, v0, v5, v8, v9, h => f_mSeals_seal_b35 (f_mSeals_seal_b35_lp n) v0 v5 v8 v9 h
def f_mSeals_seal (v0 : Nat) (v1 : Nat) (v2 : Int) (v3 : Int) (v5 : Nat) (v6 : Int) (v7 : Int) (v8 : Int) (h : Hp) : Option (Hp) :=
  b1 (f_mSeals_nonceOf v0 v1 v2 v3 h) fun h1 =>
  b1 (f_mSeals_change v0 v5 (w32 (v6 + v7)) v8 h1) fun h3 =>
  b1 (f_mSeals_tagOf v0 v5 v6 v7 v8 h3) fun h5 =>
  f_mSeals_seal_b35_lp FU v0 v5 v8 0 h5
def f_mBook_send_b106 (v0 : Nat) (v5 : Int) (s0 : Nat) (s1 : Int) (s2 : Int) (h : Hp) : Option (Int × Hp) :=
  if s0 = 0 then none else
  if ix s1 (ln h s0) then
    if ¬ (s2 = 0 ∨ s2 = 1) then none else
    lt1 (sI h s0 s1.toNat s2) fun h32 =>
    some (v5, h32)
  else none
def f_mBook_send (v0 : Nat) (v1 : Int) (v2 : Int) (v3 : Int) (v4 : Int) (h : Hp) : Option (Int × Hp) :=
  if hR h v0 3 = 0 then none else
  if ix v1 (ln h (hR h v0 3)) then
    lt1 (hI h (hR h v0 3) v1.toNat) fun y3 =>
    lt1 (w32 ((w32 (4096 * v1)) + y3)) fun y4 =>
    if hR h v0 4 = 0 then none else
    if ix y4 (ln h (hR h v0 4)) then
      lt1 (sI h (hR h v0 4) y4.toNat v2) fun h7 =>
      if hR h7 v0 5 = 0 then none else
      if ix y4 (ln h7 (hR h7 v0 5)) then
        lt1 (sI h7 (hR h7 v0 5) y4.toNat (hI h7 v0 0)) fun h10 =>
        if hR h10 v0 6 = 0 then none else
        if ix y4 (ln h10 (hR h10 v0 6)) then
          lt1 (sI h10 (hR h10 v0 6) y4.toNat (i8 0)) fun h13 =>
          if hR h13 v0 7 = 0 then none else
          if ix y4 (ln h13 (hR h13 v0 7)) then
            if ¬ (v3 = 0 ∨ v3 = 1) then none else
            lt1 (sI h13 (hR h13 v0 7) y4.toNat v3) fun h16 =>
            if hR h16 v0 8 = 0 then none else
            if ix y4 (ln h16 (hR h16 v0 8)) then
              if ¬ (v4 = 0 ∨ v4 = 1) then none else
              lt1 (sI h16 (hR h16 v0 8) y4.toNat v4) fun h20 =>
              if hR h20 v0 3 = 0 then none else
              if ix v1 (ln h20 (hR h20 v0 3)) then
                if ix v1 (ln h20 (hR h20 v0 3)) then
                  lt1 (sI h20 (hR h20 v0 3) v1.toNat (w32 ((hI h20 (hR h20 v0 3) v1.toNat) + 1))) fun h25 =>
                  lt1 (sI h25 v0 14 (hI h25 v0 0)) fun h26 =>
                  b2 (f_mBook_flight v0 h26) fun r29 h27 =>
                  if r29 ≤ (w32 ((hI h27 v0 24) - 1200)) then (
                    f_mBook_send_b106 v0 y3 (hR h26 v0 9) y4 0 h27
                  ) else
                  f_mBook_send_b106 v0 y3 (hR h26 v0 9) y4 1 h27
                else none
              else none
            else none
          else none
        else none
      else none
    else none
  else none
def f_mBook_written (v0 : Nat) (v1 : Int) (h : Hp) : Option (Hp) :=
  if hR h v0 35 = 0 then none else
  if ix v1 (ln h (hR h v0 35)) then
    lt1 (sI h (hR h v0 35) v1.toNat 0) fun h3 =>
    if hR h3 v0 37 = 0 then none else
    if ix v1 (ln h3 (hR h3 v0 37)) then
      lt1 (sI h3 (hR h3 v0 37) v1.toNat 0) fun h6 =>
      some h6
    else none
  else none
def f_mSide_sendsPacket_b415 (v0 : Nat) (h : Hp) : Option (Hp) :=
  lt1 (sI h v0 41 1) fun h79 =>
  some h79
def f_mSide_sendsPacket_b397 (v0 : Nat) (h : Hp) : Option (Hp) :=
  if (hI h v0 41) ≠ 0 then (
    f_mSide_sendsPacket_b415 v0 h
  ) else
  if hR h v0 4 = 0 then none else
  lt1 (sI h v0 40 (hI h (hR h v0 4) 0)) fun h78 =>
  f_mSide_sendsPacket_b415 v0 h78
def f_mSide_sendsPacket_b368 (v0 : Nat) (v1 : Int) (h : Hp) : Option (Hp) :=
  if hR h v0 48 = 0 then none else
  if ix v1 (ln h (hR h v0 48)) then
    if (hI h (hR h v0 48) v1.toNat) ≠ 0 then (
      if hR h v0 34 = 0 then none else
      if ix v1 (ln h (hR h v0 34)) then
        if (hI h (hR h v0 34) v1.toNat) ≤ 0 then (
          f_mSide_sendsPacket_b397 v0 h
        ) else
        if ix v1 (ln h (hR h v0 34)) then
          if ix v1 (ln h (hR h v0 34)) then
            lt1 (sI h (hR h v0 34) v1.toNat (w32 ((hI h (hR h v0 34) v1.toNat) - 1))) fun h76 =>
            f_mSide_sendsPacket_b397 v0 h76
          else none
        else none
      else none
    ) else
    some h
  else none
def f_mSide_sendsPacket_b347 (v0 : Nat) (v1 : Int) (s0 : Nat) (s1 : Int) (s2 : Int) (s3 : Int) (s4 : Int) (h : Hp) : Option (Hp) :=
  if s0 = 0 then none else
  b2 (f_mBook_send s0 s1 s2 s3 s4 h) fun r64 h62 =>
  if hR h62 v0 50 = 0 then none else
  if ix v1 (ln h62 (hR h62 v0 50)) then
    if (hI h62 (hR h62 v0 50) v1.toNat) = 0 then (
      f_mSide_sendsPacket_b368 v0 v1 h62
    ) else
    if hR h62 v0 4 = 0 then none else
    b1 (f_mBook_written (hR h62 v0 4) v1 h62) fun h68 =>
    f_mSide_sendsPacket_b368 v0 v1 h68
  else none
def f_mSide_sendsPacket_b342 (v0 : Nat) (v1 : Int) (s0 : Nat) (s1 : Int) (s2 : Int) (s3 : Int) (h : Hp) : Option (Hp) :=
  f_mSide_sendsPacket_b347 v0 v1 s0 s1 s2 s3 1 h
def f_mSide_sendsPacket_b177 (v0 : Nat) (v1 : Int) (v2 : Int) (v3 : Int) (v4 : Int) (v5 : Nat) (h : Hp) : Option (Hp) :=
  if hR h v0 52 = 0 then none else
  lt1 (hI h (hR h v0 52) 1) fun y36 =>
  b1 (f_mDraft_put (hR h v0 52) v4 v3 h) fun h37 =>
  if hR h37 v0 52 = 0 then none else
  lt1 (w32 ((hI h37 (hR h37 v0 52) 1) - v2)) fun y40 =>
  if v5 = 0 then none else
  b1 (f_mDraft_bytes (hR h37 v0 52) (hR h37 v5 0) 0 (hI h37 v5 1) h37) fun h42 =>
  if hR h42 v0 52 = 0 then none else
  if hR h42 v0 1 = 0 then none else
  b1 (f_mSeals_seal (hR h42 v0 1) (hR h42 v0 18) (w32 (192 * v1)) v4 (hR h42 (hR h42 v0 52) 0) v2 y40 (hI h42 (hR h42 v0 52) 1) h42) fun h46 =>
  if hR h46 v0 52 = 0 then none else
  lt1 (sI h46 (hR h46 v0 52) 1 (w32 ((hI h46 (hR h46 v0 52) 1) + 16))) fun h49 =>
  if hR h49 v0 52 = 0 then none else
  if hR h49 v0 1 = 0 then none else
  b2 (f_mSeals_shield (hR h49 v0 1) (hR h49 v0 18) (w32 (192 * v1)) (hR h49 (hR h49 v0 52) 0) v2 y36 1 h49) fun r54 h52 =>
  if hR h52 v0 52 = 0 then none else
  if hR h52 v0 48 = 0 then none else
  if ix v1 (ln h52 (hR h52 v0 48)) then
    if ix v1 (ln h52 (hR h52 v0 48)) then
      if (hI h52 (hR h52 v0 48) v1.toNat) ≠ 0 then (
        f_mSide_sendsPacket_b342 v0 v1 (hR h52 v0 4) v1 (w32 ((hI h52 (hR h52 v0 52) 1) - v2)) (hI h52 (hR h52 v0 48) v1.toNat) h52
      ) else
      if hR h52 v0 49 = 0 then none else
      if ix v1 (ln h52 (hR h52 v0 49)) then
        if (hI h52 (hR h52 v0 49) v1.toNat) = 0 then (
          f_mSide_sendsPacket_b347 v0 v1 (hR h52 v0 4) v1 (w32 ((hI h52 (hR h52 v0 52) 1) - v2)) (hI h52 (hR h52 v0 48) v1.toNat) 0 h52
        ) else
        f_mSide_sendsPacket_b342 v0 v1 (hR h52 v0 4) v1 (w32 ((hI h52 (hR h52 v0 52) 1) - v2)) (hI h52 (hR h52 v0 48) v1.toNat) h52
      else none
    else none
  else none
def f_mSide_sendsPacket_b158 (v0 : Nat) (v1 : Int) (v2 : Int) (v3 : Int) (v4 : Int) (v5 : Nat) (h : Hp) : Option (Hp) :=
  if v5 = 0 then none else
  if hR h v0 52 = 0 then none else
  b1 (f_mDraft_sized (hR h v0 52) (w32 ((w32 (v3 + (hI h v5 1))) + 16)) 2 h) fun h82 =>
  f_mSide_sendsPacket_b177 v0 v1 v2 v3 v4 v5 h82
def f_mSide_sendsPacket_b96 (v0 : Nat) (v1 : Int) (v2 : Int) (v3 : Int) (v4 : Int) (v5 : Nat) (h : Hp) : Option (Hp) :=
  if hR h v0 52 = 0 then none else
  b1 (f_mDraft_bytes (hR h v0 52) (hR h v0 13) 0 (hI h v0 14) h) fun h23 =>
  if 2 ≤ v1 then (
    f_mSide_sendsPacket_b177 v0 v1 v2 v3 v4 v5 h23
  ) else
  if hR h23 v0 52 = 0 then none else
  b1 (f_mDraft_put (hR h23 v0 52) 8 1 h23) fun h26 =>
  if hR h26 v0 3 = 0 then none else
  if hR h26 v0 52 = 0 then none else
  b1 (f_mDraft_bytes (hR h26 v0 52) (hR h26 (hR h26 v0 3) 3) 0 8 h26) fun h30 =>
  if v1 ≠ 0 then (
    f_mSide_sendsPacket_b158 v0 v1 v2 v3 v4 v5 h30
  ) else
  if hR h30 v0 52 = 0 then none else
  b1 (f_mDraft_put (hR h30 v0 52) 0 1 h30) fun h33 =>
  f_mSide_sendsPacket_b158 v0 v1 v2 v3 v4 v5 h33
def f_mSide_sendsPacket_b65 (v0 : Nat) (v1 : Int) (v2 : Int) (v3 : Int) (v4 : Int) (v5 : Nat) (s0 : Nat) (s1 : Int) (h : Hp) : Option (Hp) :=
  if s0 = 0 then none else
  b1 (f_mDraft_put s0 s1 1 h) fun h14 =>
  if 2 ≤ v1 then (
    f_mSide_sendsPacket_b96 v0 v1 v2 v3 v4 v5 h14
  ) else
  if hR h14 v0 52 = 0 then none else
  b1 (f_mDraft_put (hR h14 v0 52) 1 4 h14) fun h17 =>
  if hR h17 v0 52 = 0 then none else
  b1 (f_mDraft_put (hR h17 v0 52) (hI h17 v0 14) 1 h17) fun h20 =>
  f_mSide_sendsPacket_b96 v0 v1 v2 v3 v4 v5 h20
def f_mSide_sendsPacket (v0 : Nat) (v1 : Int) (h : Hp) : Option (Hp) :=
  if hR h v0 52 = 0 then none else
  lt1 (hI h (hR h v0 52) 1) fun y2 =>
  b2 (f_mSide_cut v0 v1 h) fun r5 h3 =>
  if hR h3 v0 4 = 0 then none else
  if hR h3 (hR h3 v0 4) 3 = 0 then none else
  if ix v1 (ln h3 (hR h3 (hR h3 v0 4) 3)) then
    lt1 (hI h3 (hR h3 (hR h3 v0 4) 3) v1.toNat) fun y9 =>
    if hR h3 v0 47 = 0 then none else
    if ix v1 (ln h3 (hR h3 v0 47)) then
      lt1 (hR h3 (hR h3 v0 47) v1.toNat) fun y12 =>
      if v1 ≠ 2 then (
        f_mSide_sendsPacket_b65 v0 v1 y2 r5 y9 y12 (hR h3 v0 52) (w32 ((w32 ((w32 (192 + (w32 (32 * v1)))) + r5)) - 1)) h3
      ) else
      f_mSide_sendsPacket_b65 v0 v1 y2 r5 y9 y12 (hR h3 v0 52) (w32 ((w32 (64 + r5)) - 1)) h3
    else none
  else none
def f_mSide_sends_b211 (k94 : Nat → Int → Int → Int → Int → Int → Hp → Option (Int × Hp)) (v0 : Nat) (v1 : Int) (v2 : Int) (v3 : Int) (v4 : Int) (v5 : Int) (h : Hp) : Option (Int × Hp) :=
  k94 v0 v1 v2 v3 v4 (w32 (v5 + 1)) h
def f_mSide_sends_b298 (k273 : Nat → Int → Hp → Option (Int × Hp)) (v0 : Nat) (v5 : Int) (h : Hp) : Option (Int × Hp) :=
  k273 v0 (w32 (v5 + 1)) h
def f_mSide_sends_b332 (v0 : Nat) (h : Hp) : Option (Int × Hp) :=
  if (hI h v0 0) ≠ 0 then (
    some (1, h)
  ) else
  if hR h v0 47 = 0 then none else
  if ix 1 (ln h (hR h v0 47)) then
    if hR h (hR h v0 47) (Int.toNat 1) = 0 then none else
    if (hI h (hR h (hR h v0 47) (Int.toNat 1)) 1) ≤ 0 then (
      some (1, h)
    ) else
    b1 (f_mSide_discard v0 0 h) fun h45 =>
    some (1, h45)
  else none
def f_mSide_sends_b273 (k273 : Nat → Int → Hp → Option (Int × Hp)) (v0 : Nat) (v5 : Int) (h : Hp) : Option (Int × Hp) :=
  if 3 ≤ v5 then (
    if hR h v0 52 = 0 then none else
    lt1 (sI h v0 12 (w32 ((hI h v0 12) + (hI h (hR h v0 52) 1)))) fun h35 =>
    if (hI h35 v0 51) = 0 then (
      f_mSide_sends_b332 v0 h35
    ) else
    lt1 (sI h35 v0 36 0) fun h36 =>
    f_mSide_sends_b332 v0 h36
  ) else
  if hR h v0 47 = 0 then none else
  if ix v5 (ln h (hR h v0 47)) then
    if hR h (hR h v0 47) v5.toNat = 0 then none else
    if (hI h (hR h (hR h v0 47) v5.toNat) 1) ≤ 0 then (
      f_mSide_sends_b298 k273 v0 v5 h
    ) else
    b1 (f_mSide_sendsPacket v0 v5 h) fun h40 =>
    f_mSide_sends_b298 k273 v0 v5 h40
  else none
def f_mSide_sends_b273_lp : Nat → Nat → Int → Hp → Option (Int × Hp)
  | 0, _, _, _ => none
  | n + 1, v0, v5, h => f_mSide_sends_b273 (f_mSide_sends_b273_lp n) v0 v5 h
def f_mSide_sends_b262 (v0 : Nat) (h : Hp) : Option (Int × Hp) :=
  if hR h v0 52 = 0 then none else
  lt1 (sI h (hR h v0 52) 1 0) fun h33 =>
  f_mSide_sends_b273_lp FU v0 0 h33
def f_mSide_sends_b168 (k94 : Nat → Int → Int → Int → Int → Int → Hp → Option (Int × Hp)) (k168 : Nat → Int → Int → Int → Int → Hp → Option (Int × Hp)) (v0 : Nat) (v1 : Int) (v2 : Int) (v3 : Int) (v5 : Int) (h : Hp) : Option (Int × Hp) :=
  b2 (f_mSide_cut v0 v5 h) fun r49 h47 =>
  if hR h47 v0 47 = 0 then none else
  if ix v5 (ln h47 (hR h47 v0 47)) then
    if hR h47 (hR h47 v0 47) v5.toNat = 0 then none else
    if 4 ≤ (w32 (r49 + (hI h47 (hR h47 (hR h47 v0 47) v5.toNat) 1))) then (
      b2 (f_mSide_sizeOf v0 v5 h47) fun r55 h53 =>
      lt1 (w32 (v3 + r55)) fun y56 =>
      f_mSide_sends_b211 k94 v0 v1 v2 y56 v5 v5 h53
    ) else
    b1 (f_mSide_pad v0 v5 h47) fun h57 =>
    k168 v0 v1 v2 v3 v5 h57
  else none
def f_mSide_sends_b168_lp (k94 : Nat → Int → Int → Int → Int → Int → Hp → Option (Int × Hp)) : Nat → Nat → Int → Int → Int → Int → Hp → Option (Int × Hp)
  | 0, _, _, _, _, _, _ => none
  | n + 1, v0, v1, v2, v3, v5, h => f_mSide_sends_b168 k94 (f_mSide_sends_b168_lp k94 n) v0 v1 v2 v3 v5 h
def f_mSide_sends_b245 (k245 : Nat → Int → Int → Int → Hp → Option (Int × Hp)) (v0 : Nat) (v2 : Int) (v3 : Int) (v4 : Int) (h : Hp) : Option (Int × Hp) :=
  if v2 ≤ v3 then (
    f_mSide_sends_b262 v0 h
  ) else
  b1 (f_mSide_pad v0 v4 h) fun h30 =>
  k245 v0 v2 (w32 (v3 + 1)) v4 h30
def f_mSide_sends_b245_lp : Nat → Nat → Int → Int → Int → Hp → Option (Int × Hp)
  | 0, _, _, _, _, _ => none
  | n + 1, v0, v2, v3, v4, h => f_mSide_sends_b245 (f_mSide_sends_b245_lp n) v0 v2 v3 v4 h
def f_mSide_sends_b94 (k94 : Nat → Int → Int → Int → Int → Int → Hp → Option (Int × Hp)) (v0 : Nat) (v1 : Int) (v2 : Int) (v3 : Int) (v4 : Int) (v5 : Int) (h : Hp) : Option (Int × Hp) :=
  if 3 ≤ v5 then (
    if 0 ≤ v4 then (
      if hR h v0 47 = 0 then none else
      if ix 0 (ln h (hR h v0 47)) then
        if hR h (hR h v0 47) (Int.toNat 0) = 0 then none else
        if (hI h (hR h (hR h v0 47) (Int.toNat 0)) 1) ≤ 0 then (
          f_mSide_sends_b262 v0 h
        ) else
        if hR h v0 48 = 0 then none else
        if ix 0 (ln h (hR h v0 48)) then
          if (hI h (hR h v0 48) (Int.toNat 0)) = 0 then (
            f_mSide_sends_b262 v0 h
          ) else
          f_mSide_sends_b245_lp FU v0 v2 v3 v4 h
        else none
      else none
    ) else
    some (0, h)
  ) else
  if hR h v0 47 = 0 then none else
  if ix v5 (ln h (hR h v0 47)) then
    if hR h (hR h v0 47) v5.toNat = 0 then none else
    lt1 (sI h (hR h (hR h v0 47) v5.toNat) 1 0) fun h17 =>
    b2 (f_mSide_headerOf v5 h17) fun r20 h18 =>
    lt1 (w32 ((w32 ((w32 (v2 - v3)) - r20)) - 20)) fun y21 =>
    b2 (f_mSide_hasGuards v0 v5 h18) fun r24 h22 =>
    if r24 = 0 then (
      f_mSide_sends_b211 k94 v0 v1 v2 v3 v4 v5 h22
    ) else
    if 4 ≤ y21 then (
      b1 (f_mSide_laysFrames v0 v5 y21 v1 h22) fun h25 =>
      if hR h25 v0 47 = 0 then none else
      if ix v5 (ln h25 (hR h25 v0 47)) then
        if hR h25 (hR h25 v0 47) v5.toNat = 0 then none else
        if (hI h25 (hR h25 (hR h25 v0 47) v5.toNat) 1) ≠ 0 then (
          f_mSide_sends_b168_lp k94 FU v0 v1 v2 v3 v5 h25
        ) else
        f_mSide_sends_b211 k94 v0 v1 v2 v3 v4 v5 h25
      else none
    ) else
    f_mSide_sends_b211 k94 v0 v1 v2 v3 v4 v5 h22
  else none
def f_mSide_sends_b94_lp : Nat → Nat → Int → Int → Int → Int → Int → Hp → Option (Int × Hp)
  | 0, _, _, _, _, _, _, _ => none
  | n + 1, v0, v1, v2, v3, v4, v5, h => f_mSide_sends_b94 (f_mSide_sends_b94_lp n) v0 v1 v2 v3 v4 v5 h
def f_mSide_sends_b81 (v0 : Nat) (v1 : Int) (v2 : Int) (h : Hp) : Option (Int × Hp) :=
  lt1 (sI h v0 51 0) fun h8 =>
  f_mSide_sends_b94_lp FU v0 v1 v2 0 (-1) 0 h8
def f_mSide_sends_b30 (v0 : Nat) (s0 : Nat) (s1 : Int) (h : Hp) : Option (Int × Hp) :=
  if s0 = 0 then none else
  lt1 (sI h s0 9 s1) fun h7 =>
  some (0, h7)
def f_mSide_sends (v0 : Nat) (v1 : Int) (h : Hp) : Option (Int × Hp) :=
  b2 (f_mSide_isFull v0 h) fun r3 h1 =>
  if r3 = 0 then (
    if (hI h1 v0 0) ≠ 1 then (
      f_mSide_sends_b81 v0 v1 1200 h1
    ) else
    if (hI h1 v0 10) ≠ 0 then (
      f_mSide_sends_b81 v0 v1 1200 h1
    ) else
    if 1200 ≤ (w32 ((w32 (3 * (hI h1 v0 11))) - (hI h1 v0 12))) then (
      f_mSide_sends_b81 v0 v1 1200 h1
    ) else
    lt1 (w32 ((w32 (3 * (hI h1 v0 11))) - (hI h1 v0 12))) fun y4 =>
    f_mSide_sends_b81 v0 v1 y4 h1
  ) else
  lt1 (sI h1 v0 8 5) fun h5 =>
  if (hI h5 v0 9) ≠ 0 then (
    f_mSide_sends_b30 v0 v0 (hI h5 v0 9) h5
  ) else
  f_mSide_sends_b30 v0 v0 50000 h5
def f_mP_ticks_b26 (k12 : Nat → Int → Hp → Option (Hp)) (k26 : Nat → Int → Int → Hp → Option (Hp)) (v0 : Nat) (v1 : Int) (v2 : Int) (h : Hp) : Option (Hp) :=
  if hR h v0 10 = 0 then none else
  if ix v1 (ln h (hR h v0 10)) then
    if (hI h (hR h v0 10) v1.toNat) ≤ v2 then (
      k12 v0 (w32 (v1 + 1)) h
    ) else
    b2 (f_mP_place v0 v1 v2 h) fun r23 h21 =>
    if hR h v0 14 = 0 then none else
    if ix r23 (ln h21 (hR h v0 14)) then
      if (w32 ((hI h v0 8) - (hI h21 (hR h v0 14) r23.toNat))) < (hI h21 v0 9) then (
        k26 v0 v1 (w32 (v2 + 1)) h21
      ) else
      b2 (f_mP_delivers v0 v1 v2 h21) fun r28 h26 =>
      k26 v0 v1 v2 h26
    else none
  else none
def f_mP_ticks_b26_lp (k12 : Nat → Int → Hp → Option (Hp)) : Nat → Nat → Int → Int → Hp → Option (Hp)
  | 0, _, _, _, _ => none
  | n + 1, v0, v1, v2, h => f_mP_ticks_b26 k12 (f_mP_ticks_b26_lp k12 n) v0 v1 v2 h
def f_mP_ticks_b176 (k83 : Nat → Int → Hp → Option (Hp)) (k123 : Nat → Int → Nat → Int → Int → Hp → Option (Hp)) (v0 : Nat) (v1 : Int) (v2 : Nat) (v3 : Int) (v4 : Int) (h : Hp) : Option (Hp) :=
  k123 v0 v1 v2 v3 (w32 (v4 + 1)) h
def f_mP_ticks_b145 (k83 : Nat → Int → Hp → Option (Hp)) (k123 : Nat → Int → Nat → Int → Int → Hp → Option (Hp)) (v0 : Nat) (v1 : Int) (v2 : Nat) (v4 : Int) (s0 : Nat) (s1 : Int) (h : Hp) : Option (Hp) :=
  if s0 = 0 then none else
  b2 (f_mSide_sends s0 s1 h) fun r14 h12 =>
  if r14 = 0 then (
    f_mP_ticks_b176 k83 k123 v0 v1 v2 r14 v4 h12
  ) else
  if v2 = 0 then none else
  if hR h12 v2 52 = 0 then none else
  b1 (f_mP_lies v0 v1 (hR h12 (hR h12 v2 52) 0) (hI h12 (hR h12 v2 52) 1) (hI h12 v0 8) h12) fun h17 =>
  f_mP_ticks_b176 k83 k123 v0 v1 v2 r14 v4 h17
def f_mP_ticks_b182 (k83 : Nat → Int → Hp → Option (Hp)) (v0 : Nat) (v1 : Int) (h : Hp) : Option (Hp) :=
  k83 v0 (w32 (v1 + 1)) h
def f_mP_ticks_b123 (k83 : Nat → Int → Hp → Option (Hp)) (k123 : Nat → Int → Nat → Int → Int → Hp → Option (Hp)) (v0 : Nat) (v1 : Int) (v2 : Nat) (v3 : Int) (v4 : Int) (h : Hp) : Option (Hp) :=
  if 16 ≤ v4 then (
    f_mP_ticks_b182 k83 v0 v1 h
  ) else
  if v3 = 0 then (
    f_mP_ticks_b182 k83 v0 v1 h
  ) else
  if v4 ≠ 0 then (
    f_mP_ticks_b145 k83 k123 v0 v1 v2 v4 v2 0 h
  ) else
  f_mP_ticks_b145 k83 k123 v0 v1 v2 v4 v2 1 h
def f_mP_ticks_b123_lp (k83 : Nat → Int → Hp → Option (Hp)) : Nat → Nat → Int → Nat → Int → Int → Hp → Option (Hp)
  | 0, _, _, _, _, _, _ => none
  | n + 1, v0, v1, v2, v3, v4, h => f_mP_ticks_b123 k83 (f_mP_ticks_b123_lp k83 n) v0 v1 v2 v3 v4 h
def f_mP_ticks_b119 (k83 : Nat → Int → Hp → Option (Hp)) (v0 : Nat) (v1 : Int) (v2 : Nat) (s0 : Int) (h : Hp) : Option (Hp) :=
  f_mP_ticks_b123_lp k83 FU v0 v1 v2 s0 0 h
def f_mP_ticks_b114 (k83 : Nat → Int → Hp → Option (Hp)) (v0 : Nat) (v1 : Int) (v2 : Nat) (h : Hp) : Option (Hp) :=
  f_mP_ticks_b119 k83 v0 v1 v2 1 h
def f_mP_ticks_b83 (k83 : Nat → Int → Hp → Option (Hp)) (v0 : Nat) (v1 : Int) (h : Hp) : Option (Hp) :=
  if 2 ≤ v1 then (
    some h
  ) else
  if hR h v0 7 = 0 then none else
  if ix v1 (ln h (hR h v0 7)) then
    lt1 (hR h (hR h v0 7) v1.toNat) fun y4 =>
    if y4 = 0 then none else
    b1 (f_mSide_tick y4 h) fun h6 =>
    b2 (f_mSide_isAlive y4 h6) fun r10 h8 =>
    if r10 ≠ 0 then (
      f_mP_ticks_b114 k83 v0 v1 y4 h8
    ) else
    if (hI h8 y4 8) ≠ 3 then (
      f_mP_ticks_b119 k83 v0 v1 y4 0 h8
    ) else
    f_mP_ticks_b114 k83 v0 v1 y4 h8
  else none
def f_mP_ticks_b83_lp : Nat → Nat → Int → Hp → Option (Hp)
  | 0, _, _, _ => none
  | n + 1, v0, v1, h => f_mP_ticks_b83 (f_mP_ticks_b83_lp n) v0 v1 h
def f_mP_ticks_b81 (v0 : Nat) (h : Hp) : Option (Hp) :=
  f_mP_ticks_b83_lp FU v0 0 h
def f_mP_ticks_b12 (k12 : Nat → Int → Hp → Option (Hp)) (v0 : Nat) (v1 : Int) (h : Hp) : Option (Hp) :=
  if 2 ≤ v1 then (
    f_mP_ticks_b81 v0 h
  ) else
  if (hI h v0 9) ≤ 0 then (
    f_mP_ticks_b81 v0 h
  ) else
  f_mP_ticks_b26_lp k12 FU v0 v1 0 h
def f_mP_ticks_b12_lp : Nat → Nat → Int → Hp → Option (Hp)
  | 0, _, _, _ => none
  | n + 1, v0, v1, h => f_mP_ticks_b12 (f_mP_ticks_b12_lp n) v0 v1 h
def f_mP_ticks (v0 : Nat) (h : Hp) : Option (Hp) :=
  lt1 (sI h v0 8 (w32 ((hI h v0 8) + 1))) fun h1 =>
  f_mP_ticks_b12_lp FU v0 0 h1
def f_mP_tick_b53 (k53 : Nat → Int → Int → Hp → Option (Int × Hp)) (v0 : Nat) (v1 : Int) (v2 : Int) (h : Hp) : Option (Int × Hp) :=
  if v1 ≤ v2 then (
    some (hI h v0 8, h)
  ) else
  b1 (f_mP_ticks v0 h) fun h9 =>
  k53 v0 v1 (w32 (v2 + 1)) h9
def f_mP_tick_b53_lp : Nat → Nat → Int → Int → Hp → Option (Int × Hp)
  | 0, _, _, _, _ => none
  | n + 1, v0, v1, v2, h => f_mP_tick_b53 (f_mP_tick_b53_lp n) v0 v1 v2 h
def f_mP_tick_b42 (v0 : Nat) (v1 : Int) (s0 : Nat) (s1 : Int) (h : Hp) : Option (Int × Hp) :=
  if s0 = 0 then none else
  b2 (f_mP_fails s0 s1 2 h) fun r8 h6 =>
  if r8 = 0 then (
    f_mP_tick_b53_lp FU v0 v1 0 h6
  ) else
  some (0, h6)
def f_mP_tick_b18 (v0 : Nat) (v1 : Int) (s0 : Nat) (s1 : Int) (h : Hp) : Option (Int × Hp) :=
  if s0 = 0 then none else
  b2 (f_mP_fails s0 s1 1 h) fun r4 h2 =>
  if r4 ≠ 0 then (
    some (0, h2)
  ) else
  if (w32 ((hI h2 v0 8) + v1)) ≤ 200000 then (
    f_mP_tick_b42 v0 v1 v0 0 h2
  ) else
  f_mP_tick_b42 v0 v1 v0 1 h2
def f_mP_tick_b13 (v0 : Nat) (v1 : Int) (s0 : Nat) (h : Hp) : Option (Int × Hp) :=
  f_mP_tick_b18 v0 v1 s0 1 h
def f_mP_tick (v0 : Nat) (v1 : Int) (h : Hp) : Option (Int × Hp) :=
  if v1 < 1 then (
    f_mP_tick_b13 v0 v1 v0 h
  ) else
  if v1 ≤ 1000 then (
    f_mP_tick_b18 v0 v1 v0 0 h
  ) else
  f_mP_tick_b13 v0 v1 v0 h
def f_mP_line_b22 (v0 : Nat) (v1 : Int) (v2 : Int) (s0 : Nat) (s1 : Int) (h : Hp) : Option (Int × Hp) :=
  if s0 = 0 then none else
  b2 (f_mP_fails s0 s1 1 h) fun r7 h5 =>
  if r7 = 0 then (
    if v2 ≠ 0 then (
      if v2 ≠ 1 then (
        if hR h5 v0 17 = 0 then none else
        if ix v1 (ln h5 (hR h5 v0 17)) then
          some (hI h5 (hR h5 v0 17) v1.toNat, h5)
        else none
      ) else
      if hR h5 v0 16 = 0 then none else
      if ix v1 (ln h5 (hR h5 v0 16)) then
        some (hI h5 (hR h5 v0 16) v1.toNat, h5)
      else none
    ) else
    if hR h5 v0 10 = 0 then none else
    if ix v1 (ln h5 (hR h5 v0 10)) then
      some (hI h5 (hR h5 v0 10) v1.toNat, h5)
    else none
  ) else
  some (0, h5)
def f_mP_line_b17 (v0 : Nat) (v1 : Int) (v2 : Int) (s0 : Nat) (h : Hp) : Option (Int × Hp) :=
  f_mP_line_b22 v0 v1 v2 s0 1 h
def f_mP_line (v0 : Nat) (v1 : Int) (v2 : Int) (h : Hp) : Option (Int × Hp) :=
  b2 (f_mP_no v1 h) fun r3 h1 =>
  if r3 ≠ 0 then (
    f_mP_line_b17 v0 v1 v2 v0 h1
  ) else
  if v2 < 0 then (
    f_mP_line_b17 v0 v1 v2 v0 h1
  ) else
  if v2 ≤ 2 then (
    f_mP_line_b22 v0 v1 v2 v0 0 h1
  ) else
  f_mP_line_b17 v0 v1 v2 v0 h1
def f_mP_at_b48 (v0 : Nat) (v1 : Int) (v2 : Int) (v3 : Int) (s0 : Nat) (s1 : Int) (h : Hp) : Option (Int × Hp) :=
  if s0 = 0 then none else
  b2 (f_mP_fails s0 s1 2 h) fun r18 h16 =>
  if r18 = 0 then (
    b2 (f_mP_place v0 v1 v2 h16) fun r21 h19 =>
    if v3 ≠ (-1) then (
      if v3 ≠ (-2) then (
        if hR h19 v0 15 = 0 then none else
        if ix (w32 ((w32 (1200 * r21)) + v3)) (ln h19 (hR h19 v0 15)) then
          some (iAnd (hI h19 (hR h19 v0 15) ((w32 ((w32 (1200 * r21)) + v3)).toNat)) 255, h19)
        else none
      ) else
      if hR h19 v0 14 = 0 then none else
      if ix r21 (ln h19 (hR h19 v0 14)) then
        some (hI h19 (hR h19 v0 14) r21.toNat, h19)
      else none
    ) else
    if hR h19 v0 13 = 0 then none else
    if ix r21 (ln h19 (hR h19 v0 13)) then
      some (hI h19 (hR h19 v0 13) r21.toNat, h19)
    else none
  ) else
  some (0, h16)
def f_mP_at_b43 (v0 : Nat) (v1 : Int) (v2 : Int) (v3 : Int) (s0 : Nat) (h : Hp) : Option (Int × Hp) :=
  f_mP_at_b48 v0 v1 v2 v3 s0 1 h
def f_mP_at (v0 : Nat) (v1 : Int) (v2 : Int) (v3 : Int) (h : Hp) : Option (Int × Hp) :=
  b2 (f_mP_no v1 h) fun r3 h1 =>
  b2 (f_mP_fails v0 r3 1 h1) fun r6 h4 =>
  if r6 ≠ 0 then (
    some (0, h4)
  ) else
  b2 (f_mP_isNone v0 v1 v2 h4) fun r9 h7 =>
  if r9 ≠ 0 then (
    f_mP_at_b43 v0 v1 v2 v3 v0 h7
  ) else
  if v3 < (-2) then (
    f_mP_at_b43 v0 v1 v2 v3 v0 h7
  ) else
  b2 (f_mP_place v0 v1 v2 h7) fun r12 h10 =>
  if hR h7 v0 13 = 0 then none else
  if ix r12 (ln h10 (hR h7 v0 13)) then
    if v3 < (hI h10 (hR h7 v0 13) r12.toNat) then (
      f_mP_at_b48 v0 v1 v2 v3 v0 0 h10
    ) else
    f_mP_at_b43 v0 v1 v2 v3 v0 h10
  else none
def f_mP_look_b23 (v0 : Nat) (v1 : Int) (v2 : Int) (s0 : Nat) (s1 : Int) (h : Hp) : Option (Int × Hp) :=
  if s0 = 0 then none else
  b2 (f_mP_fails s0 s1 1 h) fun r7 h5 =>
  if r7 = 0 then (
    if hR h5 v0 7 = 0 then none else
    if ix v1 (ln h5 (hR h5 v0 7)) then
      lt1 (hR h5 (hR h5 v0 7) v1.toNat) fun y10 =>
      if v2 = 0 then (
        if y10 = 0 then none else
        some (hI h5 y10 8, h5)
      ) else
      if v2 = 1 then (
        if y10 = 0 then none else
        some (hI h5 y10 9, h5)
      ) else
      if v2 = 2 then (
        if y10 = 0 then none else
        if hR h5 y10 4 = 0 then none else
        if (hI h5 (hR h5 y10 4) 1) = 0 then (
          some (0, h5)
        ) else
        some (1, h5)
      ) else
      if v2 = 3 then (
        if y10 = 0 then none else
        if (hI h5 y10 10) = 0 then (
          some (0, h5)
        ) else
        some (1, h5)
      ) else
      if v2 = 4 then (
        if y10 = 0 then none else
        if hR h5 y10 3 = 0 then none else
        some (hI h5 (hR h5 y10 3) 6, h5)
      ) else
      if v2 = 5 then (
        if y10 = 0 then none else
        if hR h5 y10 3 = 0 then none else
        some (hI h5 (hR h5 y10 3) 18, h5)
      ) else
      if v2 = 6 then (
        if y10 = 0 then none else
        some (hI h5 y10 11, h5)
      ) else
      if v2 = 7 then (
        if y10 = 0 then none else
        some (hI h5 y10 12, h5)
      ) else
      if v2 = 8 then (
        if y10 = 0 then none else
        if hR h5 y10 34 = 0 then none else
        if ix 0 (ln h5 (hR h5 y10 34)) then
          if ix 1 (ln h5 (hR h5 y10 34)) then
            if ix 2 (ln h5 (hR h5 y10 34)) then
              some (w32 ((w32 ((hI h5 (hR h5 y10 34) (Int.toNat 0)) + (hI h5 (hR h5 y10 34) (Int.toNat 1)))) + (hI h5 (hR h5 y10 34) (Int.toNat 2))), h5)
            else none
          else none
        else none
      ) else
      if y10 = 0 then none else
      if hR h5 y10 45 = 0 then none else
      if ix 0 (ln h5 (hR h5 y10 45)) then
        if hR h5 (hR h5 y10 45) (Int.toNat 0) = 0 then none else
        if ix 1 (ln h5 (hR h5 y10 45)) then
          if hR h5 (hR h5 y10 45) (Int.toNat 1) = 0 then none else
          if ix 2 (ln h5 (hR h5 y10 45)) then
            if hR h5 (hR h5 y10 45) (Int.toNat 2) = 0 then none else
            some (w32 ((w32 ((hI h5 (hR h5 (hR h5 y10 45) (Int.toNat 0)) 0) + (hI h5 (hR h5 (hR h5 y10 45) (Int.toNat 1)) 0))) + (hI h5 (hR h5 (hR h5 y10 45) (Int.toNat 2)) 0)), h5)
          else none
        else none
      else none
    else none
  ) else
  some (0, h5)
def f_mP_look_b18 (v0 : Nat) (v1 : Int) (v2 : Int) (s0 : Nat) (h : Hp) : Option (Int × Hp) :=
  f_mP_look_b23 v0 v1 v2 s0 1 h
def f_mP_look (v0 : Nat) (v1 : Int) (v2 : Int) (h : Hp) : Option (Int × Hp) :=
  b2 (f_mP_no v1 h) fun r3 h1 =>
  if r3 ≠ 0 then (
    f_mP_look_b18 v0 v1 v2 v0 h1
  ) else
  if v2 < 0 then (
    f_mP_look_b18 v0 v1 v2 v0 h1
  ) else
  if v2 ≤ 9 then (
    f_mP_look_b23 v0 v1 v2 v0 0 h1
  ) else
  f_mP_look_b18 v0 v1 v2 v0 h1
def f_mBook_look (v0 : Nat) (v1 : Int) (h : Hp) : Option (Int × Hp) :=
  if v1 = 0 then (
    some (hI h v0 0, h)
  ) else
  if v1 = 1 then (
    b2 (f_mBook_flight v0 h) fun r7 h5 =>
    some (r7, h5)
  ) else
  if v1 = 2 then (
    some (hI h v0 24, h)
  ) else
  if v1 = 3 then (
    some (hI h v0 25, h)
  ) else
  if v1 = 4 then (
    some (hI h v0 26, h)
  ) else
  if v1 = 5 then (
    some (hI h v0 18, h)
  ) else
  if v1 = 6 then (
    some (hI h v0 19, h)
  ) else
  if v1 = 7 then (
    some (hI h v0 20, h)
  ) else
  if v1 = 8 then (
    some (hI h v0 21, h)
  ) else
  if v1 = 9 then (
    some (hI h v0 23, h)
  ) else
  b2 (f_mBook_limit v0 h) fun r26 h24 =>
  some (r26, h24)
def f_mP_book_b23 (v0 : Nat) (v1 : Int) (v2 : Int) (s0 : Nat) (s1 : Int) (h : Hp) : Option (Int × Hp) :=
  if s0 = 0 then none else
  b2 (f_mP_fails s0 s1 1 h) fun r7 h5 =>
  if r7 = 0 then (
    if hR h5 v0 7 = 0 then none else
    if ix v1 (ln h5 (hR h5 v0 7)) then
      if hR h5 (hR h5 v0 7) v1.toNat = 0 then none else
      if hR h5 (hR h5 (hR h5 v0 7) v1.toNat) 4 = 0 then none else
      b2 (f_mBook_look (hR h5 (hR h5 (hR h5 v0 7) v1.toNat) 4) v2 h5) fun r14 h12 =>
      some (r14, h12)
    else none
  ) else
  some (0, h5)
def f_mP_book_b18 (v0 : Nat) (v1 : Int) (v2 : Int) (s0 : Nat) (h : Hp) : Option (Int × Hp) :=
  f_mP_book_b23 v0 v1 v2 s0 1 h
def f_mP_book (v0 : Nat) (v1 : Int) (v2 : Int) (h : Hp) : Option (Int × Hp) :=
  b2 (f_mP_no v1 h) fun r3 h1 =>
  if r3 ≠ 0 then (
    f_mP_book_b18 v0 v1 v2 v0 h1
  ) else
  if v2 < 0 then (
    f_mP_book_b18 v0 v1 v2 v0 h1
  ) else
  if v2 ≤ 10 then (
    f_mP_book_b23 v0 v1 v2 v0 0 h1
  ) else
  f_mP_book_b18 v0 v1 v2 v0 h1
def f_mBook_outs_b57 (k10 : Nat → Int → Int → Int → Int → Hp → Option (Int × Hp)) (v0 : Nat) (v1 : Int) (v2 : Int) (v4 : Int) (s0 : Int) (s1 : Int) (h : Hp) : Option (Int × Hp) :=
  lt1 (w32 (s0 + s1)) fun y11 =>
  k10 v0 v1 v2 y11 (w32 (v4 + 1)) h
def f_mBook_outs_b56 (k10 : Nat → Int → Int → Int → Int → Hp → Option (Int × Hp)) (v0 : Nat) (v1 : Int) (v2 : Int) (v4 : Int) (s0 : Int) (h : Hp) : Option (Int × Hp) :=
  f_mBook_outs_b57 k10 v0 v1 v2 v4 s0 0 h
def f_mBook_outs_b52 (k10 : Nat → Int → Int → Int → Int → Hp → Option (Int × Hp)) (v0 : Nat) (v1 : Int) (v2 : Int) (v4 : Int) (s0 : Int) (h : Hp) : Option (Int × Hp) :=
  f_mBook_outs_b57 k10 v0 v1 v2 v4 s0 1 h
def f_mBook_outs_b10 (k10 : Nat → Int → Int → Int → Int → Hp → Option (Int × Hp)) (v0 : Nat) (v1 : Int) (v2 : Int) (v3 : Int) (v4 : Int) (h : Hp) : Option (Int × Hp) :=
  if hR h v0 3 = 0 then none else
  if ix v1 (ln h (hR h v0 3)) then
    if (hI h (hR h v0 3) v1.toNat) ≤ v4 then (
      some (v3, h)
    ) else
    b2 (f_mBook_isOut v0 v1 v4 h) fun r8 h6 =>
    if r8 = 0 then (
      f_mBook_outs_b56 k10 v0 v1 v2 v4 v3 h6
    ) else
    if v2 ≠ 0 then (
      f_mBook_outs_b52 k10 v0 v1 v2 v4 v3 h6
    ) else
    if hR h6 v0 7 = 0 then none else
    if ix (w32 ((w32 (4096 * v1)) + v4)) (ln h6 (hR h6 v0 7)) then
      if (hI h6 (hR h6 v0 7) ((w32 ((w32 (4096 * v1)) + v4)).toNat)) = 0 then (
        f_mBook_outs_b56 k10 v0 v1 v2 v4 v3 h6
      ) else
      f_mBook_outs_b52 k10 v0 v1 v2 v4 v3 h6
    else none
  else none
def f_mBook_outs_b10_lp : Nat → Nat → Int → Int → Int → Int → Hp → Option (Int × Hp)
  | 0, _, _, _, _, _, _ => none
  | n + 1, v0, v1, v2, v3, v4, h => f_mBook_outs_b10 (f_mBook_outs_b10_lp n) v0 v1 v2 v3 v4 h
def f_mBook_outs (v0 : Nat) (v1 : Int) (v2 : Int) (h : Hp) : Option (Int × Hp) :=
  if hR h v0 10 = 0 then none else
  if ix v1 (ln h (hR h v0 10)) then
    lt1 (hI h (hR h v0 10) v1.toNat) fun y3 =>
    f_mBook_outs_b10_lp FU v0 v1 v2 0 y3 h
  else none
def f_mBook_space_b137 (v0 : Nat) (s0 : Nat) (s1 : Int) (h : Hp) : Option (Int × Hp) :=
  if s0 = 0 then none else
  b2 (f_mBook_patience s0 s1 h) fun r47 h45 =>
  some (r47, h45)
def f_mBook_space_b136 (v0 : Nat) (s0 : Nat) (h : Hp) : Option (Int × Hp) :=
  f_mBook_space_b137 v0 s0 0 h
def f_mBook_space (v0 : Nat) (v1 : Int) (v2 : Int) (h : Hp) : Option (Int × Hp) :=
  if v2 = 0 then (
    if hR h v0 3 = 0 then none else
    if ix v1 (ln h (hR h v0 3)) then
      some (hI h (hR h v0 3) v1.toNat, h)
    else none
  ) else
  if v2 = 1 then (
    if hR h v0 12 = 0 then none else
    if ix v1 (ln h (hR h v0 12)) then
      some (hI h (hR h v0 12) v1.toNat, h)
    else none
  ) else
  if v2 = 2 then (
    if hR h v0 13 = 0 then none else
    if ix v1 (ln h (hR h v0 13)) then
      some (hI h (hR h v0 13) v1.toNat, h)
    else none
  ) else
  if v2 = 3 then (
    b2 (f_mBook_probeTime v0 v1 h) fun r17 h15 =>
    some (r17, h15)
  ) else
  if v2 = 4 then (
    b2 (f_mBook_outs v0 v1 1 h) fun r22 h20 =>
    some (r22, h20)
  ) else
  if v2 = 5 then (
    b2 (f_mBook_outs v0 v1 0 h) fun r27 h25 =>
    some (r27, h25)
  ) else
  if v2 = 6 then (
    if hR h v0 30 = 0 then none else
    if ix v1 (ln h (hR h v0 30)) then
      some (hI h (hR h v0 30) v1.toNat, h)
    else none
  ) else
  if v2 = 7 then (
    if hR h v0 35 = 0 then none else
    if ix v1 (ln h (hR h v0 35)) then
      some (hI h (hR h v0 35) v1.toNat, h)
    else none
  ) else
  if v2 = 8 then (
    if v1 ≠ 2 then (
      f_mBook_space_b136 v0 v0 h
    ) else
    if (hI h v0 1) = 0 then (
      f_mBook_space_b136 v0 v0 h
    ) else
    f_mBook_space_b137 v0 v0 1 h
  ) else
  if v2 = 9 then (
    if hR h v0 11 = 0 then none else
    if ix v1 (ln h (hR h v0 11)) then
      if (hI h (hR h v0 11) v1.toNat) = 0 then (
        some (0, h)
      ) else
      some (1, h)
    else none
  ) else
  if hR h v0 33 = 0 then none else
  if ix v1 (ln h (hR h v0 33)) then
    some (hJ h (hR h v0 33) v1.toNat, h)
  else none
def f_mP_space_b32 (v0 : Nat) (v1 : Int) (v2 : Int) (v3 : Int) (s0 : Nat) (s1 : Int) (h : Hp) : Option (Int × Hp) :=
  if s0 = 0 then none else
  b2 (f_mP_fails s0 s1 1 h) fun r7 h5 =>
  if r7 = 0 then (
    if v3 ≠ 11 then (
      if hR h5 v0 7 = 0 then none else
      if ix v1 (ln h5 (hR h5 v0 7)) then
        if hR h5 (hR h5 v0 7) v1.toNat = 0 then none else
        if hR h5 (hR h5 (hR h5 v0 7) v1.toNat) 4 = 0 then none else
        b2 (f_mBook_space (hR h5 (hR h5 (hR h5 v0 7) v1.toNat) 4) v2 v3 h5) fun r14 h12 =>
        some (r14, h12)
      else none
    ) else
    if hR h5 v0 7 = 0 then none else
    if ix v1 (ln h5 (hR h5 v0 7)) then
      if hR h5 (hR h5 v0 7) v1.toNat = 0 then none else
      b2 (f_mSide_hasGuards (hR h5 (hR h5 v0 7) v1.toNat) v2 h5) fun r20 h18 =>
      if r20 = 0 then (
        some (0, h18)
      ) else
      some (1, h18)
    else none
  ) else
  some (0, h5)
def f_mP_space_b27 (v0 : Nat) (v1 : Int) (v2 : Int) (v3 : Int) (s0 : Nat) (h : Hp) : Option (Int × Hp) :=
  f_mP_space_b32 v0 v1 v2 v3 s0 1 h
def f_mP_space (v0 : Nat) (v1 : Int) (v2 : Int) (v3 : Int) (h : Hp) : Option (Int × Hp) :=
  b2 (f_mP_no v1 h) fun r3 h1 =>
  if r3 ≠ 0 then (
    f_mP_space_b27 v0 v1 v2 v3 v0 h1
  ) else
  if v2 < 0 then (
    f_mP_space_b27 v0 v1 v2 v3 v0 h1
  ) else
  if 2 < v2 then (
    f_mP_space_b27 v0 v1 v2 v3 v0 h1
  ) else
  if v3 < 0 then (
    f_mP_space_b27 v0 v1 v2 v3 v0 h1
  ) else
  if v3 ≤ 11 then (
    f_mP_space_b32 v0 v1 v2 v3 v0 0 h1
  ) else
  f_mP_space_b27 v0 v1 v2 v3 v0 h1
def f_mStreams_look_III_b31 (v0 : Nat) (v1 : Int) (v2 : Int) (v3 : Int) (h : Hp) : Option (Int × Hp) :=
  b2 (f_mStreams_at v1 v2 h) fun r9 h7 =>
  if v3 = 0 then (
    b2 (f_mStreams_sending v0 r9 h7) fun r14 h12 =>
    some (r14, h12)
  ) else
  if v3 = 1 then (
    if hR h7 v0 23 = 0 then none else
    if ix r9 (ln h7 (hR h7 v0 23)) then
      some (hI h7 (hR h7 v0 23) r9.toNat, h7)
    else none
  ) else
  if v3 = 2 then (
    if hR h7 v0 24 = 0 then none else
    if ix r9 (ln h7 (hR h7 v0 24)) then
      some (hI h7 (hR h7 v0 24) r9.toNat, h7)
    else none
  ) else
  if v3 = 3 then (
    if hR h7 v0 13 = 0 then none else
    if ix r9 (ln h7 (hR h7 v0 13)) then
      some (hJ h7 (hR h7 v0 13) r9.toNat, h7)
    else none
  ) else
  if v3 = 4 then (
    if hR h7 v0 16 = 0 then none else
    if ix r9 (ln h7 (hR h7 v0 16)) then
      if (hI h7 (hR h7 v0 16) r9.toNat) ≤ 0 then (
        some (0, h7)
      ) else
      if hR h7 v0 18 = 0 then none else
      if ix r9 (ln h7 (hR h7 v0 18)) then
        some (hJ h7 (hR h7 v0 18) r9.toNat, h7)
      else none
    else none
  ) else
  if v3 = 5 then (
    if hR h7 v0 26 = 0 then none else
    if ix r9 (ln h7 (hR h7 v0 26)) then
      some (hI h7 (hR h7 v0 26) r9.toNat, h7)
    else none
  ) else
  if v3 = 6 then (
    if hR h7 v0 25 = 0 then none else
    if ix r9 (ln h7 (hR h7 v0 25)) then
      some (hI h7 (hR h7 v0 25) r9.toNat, h7)
    else none
  ) else
  if v3 = 7 then (
    if hR h7 v0 14 = 0 then none else
    if ix r9 (ln h7 (hR h7 v0 14)) then
      if (hI h7 (hR h7 v0 14) r9.toNat) ≠ 0 then (
        if hR h7 v0 15 = 0 then none else
        if ix r9 (ln h7 (hR h7 v0 15)) then
          some (w32 (1 + (hI h7 (hR h7 v0 15) r9.toNat)), h7)
        else none
      ) else
      some (0, h7)
    else none
  ) else
  if v3 = 8 then (
    b2 (f_mStreams_receiving v0 r9 h7) fun r51 h49 =>
    some (r51, h49)
  ) else
  if v3 = 9 then (
    if hR h7 v0 29 = 0 then none else
    if ix r9 (ln h7 (hR h7 v0 29)) then
      some (hI h7 (hR h7 v0 29) r9.toNat, h7)
    else none
  ) else
  if v3 = 10 then (
    if hR h7 v0 30 = 0 then none else
    if ix r9 (ln h7 (hR h7 v0 30)) then
      some (hI h7 (hR h7 v0 30) r9.toNat, h7)
    else none
  ) else
  if v3 = 11 then (
    if hR h7 v0 27 = 0 then none else
    if ix r9 (ln h7 (hR h7 v0 27)) then
      some (hJ h7 (hR h7 v0 27) r9.toNat, h7)
    else none
  ) else
  if v3 = 12 then (
    if hR h7 v0 28 = 0 then none else
    if ix r9 (ln h7 (hR h7 v0 28)) then
      some (hJ h7 (hR h7 v0 28) r9.toNat, h7)
    else none
  ) else
  if v3 = 13 then (
    if hR h7 v0 33 = 0 then none else
    if ix r9 (ln h7 (hR h7 v0 33)) then
      some (hJ h7 (hR h7 v0 33) r9.toNat, h7)
    else none
  ) else
  if hR h7 v0 31 = 0 then none else
  if ix r9 (ln h7 (hR h7 v0 31)) then
    if (hI h7 (hR h7 v0 31) r9.toNat) = 0 then (
      some (0, h7)
    ) else
    if hR h7 v0 32 = 0 then none else
    if ix r9 (ln h7 (hR h7 v0 32)) then
      some (hJ h7 (hR h7 v0 32) r9.toNat, h7)
    else none
  else none
def f_mStreams_look_III_b27 (v0 : Nat) (h : Hp) : Option (Int × Hp) :=
  some ((-1), h)
def f_mStreams_look_III (v0 : Nat) (v1 : Int) (v2 : Int) (v3 : Int) (h : Hp) : Option (Int × Hp) :=
  if 8 ≤ v3 then (
    b2 (f_mStreams_hasReceiving v0 v1 v2 h) fun r3 h1 =>
    if r3 ≠ 0 then (
      f_mStreams_look_III_b31 v0 v1 v2 v3 h1
    ) else
    f_mStreams_look_III_b27 v0 h1
  ) else
  b2 (f_mStreams_hasSending v0 v1 v2 h) fun r6 h4 =>
  if r6 ≠ 0 then (
    f_mStreams_look_III_b31 v0 v1 v2 v3 h4
  ) else
  f_mStreams_look_III_b27 v0 h4
def f_mP_stream_b23 (v0 : Nat) (v1 : Int) (v2 : Int) (v3 : Int) (s0 : Nat) (s1 : Int) (h : Hp) : Option (Int × Hp) :=
  if s0 = 0 then none else
  b2 (f_mP_fails s0 s1 1 h) fun r7 h5 =>
  if r7 = 0 then (
    if hR h5 v0 6 = 0 then none else
    b2 (f_mStreams_look_III (hR h5 v0 6) v1 v2 v3 h5) fun r11 h9 =>
    some (r11, h9)
  ) else
  some (0, h5)
def f_mP_stream_b18 (v0 : Nat) (v1 : Int) (v2 : Int) (v3 : Int) (s0 : Nat) (h : Hp) : Option (Int × Hp) :=
  f_mP_stream_b23 v0 v1 v2 v3 s0 1 h
def f_mP_stream (v0 : Nat) (v1 : Int) (v2 : Int) (v3 : Int) (h : Hp) : Option (Int × Hp) :=
  b2 (f_mP_no v1 h) fun r3 h1 =>
  if r3 ≠ 0 then (
    f_mP_stream_b18 v0 v1 v2 v3 v0 h1
  ) else
  if v3 < 0 then (
    f_mP_stream_b18 v0 v1 v2 v3 v0 h1
  ) else
  if v3 ≤ 14 then (
    f_mP_stream_b23 v0 v1 v2 v3 v0 0 h1
  ) else
  f_mP_stream_b18 v0 v1 v2 v3 v0 h1
def f_mStreams_look_II_b118 (v0 : Nat) (v1 : Int) (v2 : Int) (h : Hp) : Option (Int × Hp) :=
  if hR h v0 2 = 0 then none else
  if ix (w32 ((w32 ((w32 (3 * v1)) + v2)) - 6)) (ln h (hR h v0 2)) then
    some (hJ h (hR h v0 2) ((w32 ((w32 ((w32 (3 * v1)) + v2)) - 6)).toNat), h)
  else none
def f_mStreams_look_II_b132 (v0 : Nat) (v1 : Int) (v2 : Int) (h : Hp) : Option (Int × Hp) :=
  if hR h v0 5 = 0 then none else
  if ix (w32 ((w32 ((w32 (2 * v1)) + v2)) - 9)) (ln h (hR h v0 5)) then
    some (hI h (hR h v0 5) ((w32 ((w32 ((w32 (2 * v1)) + v2)) - 9)).toNat), h)
  else none
def f_mStreams_look_II_b104 (v0 : Nat) (v1 : Int) (v2 : Int) (h : Hp) : Option (Int × Hp) :=
  if hR h v0 4 = 0 then none else
  if ix (w32 ((w32 ((w32 (2 * v1)) + v2)) - 5)) (ln h (hR h v0 4)) then
    some (hI h (hR h v0 4) ((w32 ((w32 ((w32 (2 * v1)) + v2)) - 5)).toNat), h)
  else none
def f_mStreams_look_II_b147 (v0 : Nat) (v1 : Int) (v2 : Int) (h : Hp) : Option (Int × Hp) :=
  if hR h v0 6 = 0 then none else
  if ix (w32 ((w32 ((w32 (2 * v1)) + v2)) - 11)) (ln h (hR h v0 6)) then
    some (hI h (hR h v0 6) ((w32 ((w32 ((w32 (2 * v1)) + v2)) - 11)).toNat), h)
  else none
def f_mStreams_look_II (v0 : Nat) (v1 : Int) (v2 : Int) (h : Hp) : Option (Int × Hp) :=
  if v2 = 0 then (
    if hR h v0 44 = 0 then none else
    if ix v1 (ln h (hR h v0 44)) then
      some (hI h (hR h v0 44) v1.toNat, h)
    else none
  ) else
  if v2 = 1 then (
    if hR h v0 2 = 0 then none else
    if ix (w32 (3 * v1)) (ln h (hR h v0 2)) then
      some (hJ h (hR h v0 2) ((w32 (3 * v1)).toNat), h)
    else none
  ) else
  if v2 = 2 then (
    b2 (f_mStreams_received v0 v1 h) fun r13 h11 =>
    some (r13, h11)
  ) else
  if v2 = 3 then (
    b2 (f_mStreams_consumed v0 v1 h) fun r18 h16 =>
    some (r18, h16)
  ) else
  if v2 = 4 then (
    if hR h v0 9 = 0 then none else
    if ix v1 (ln h (hR h v0 9)) then
      some (hJ h (hR h v0 9) v1.toNat, h)
    else none
  ) else
  if v2 = 5 then (
    f_mStreams_look_II_b104 v0 v1 v2 h
  ) else
  if v2 = 6 then (
    f_mStreams_look_II_b104 v0 v1 v2 h
  ) else
  if v2 = 7 then (
    f_mStreams_look_II_b118 v0 v1 v2 h
  ) else
  if v2 = 8 then (
    f_mStreams_look_II_b118 v0 v1 v2 h
  ) else
  if v2 = 9 then (
    f_mStreams_look_II_b132 v0 v1 v2 h
  ) else
  if v2 = 10 then (
    f_mStreams_look_II_b132 v0 v1 v2 h
  ) else
  if v2 = 11 then (
    f_mStreams_look_II_b147 v0 v1 v2 h
  ) else
  if v2 = 12 then (
    f_mStreams_look_II_b147 v0 v1 v2 h
  ) else
  if hR h v0 40 = 0 then none else
  if ix v1 (ln h (hR h v0 40)) then
    some (hI h (hR h v0 40) v1.toNat, h)
  else none
def f_mP_streams_b23 (v0 : Nat) (v1 : Int) (v2 : Int) (s0 : Nat) (s1 : Int) (h : Hp) : Option (Int × Hp) :=
  if s0 = 0 then none else
  b2 (f_mP_fails s0 s1 1 h) fun r7 h5 =>
  if r7 = 0 then (
    if hR h5 v0 6 = 0 then none else
    b2 (f_mStreams_look_II (hR h5 v0 6) v1 v2 h5) fun r11 h9 =>
    some (r11, h9)
  ) else
  some (0, h5)
def f_mP_streams_b18 (v0 : Nat) (v1 : Int) (v2 : Int) (s0 : Nat) (h : Hp) : Option (Int × Hp) :=
  f_mP_streams_b23 v0 v1 v2 s0 1 h
def f_mP_streams (v0 : Nat) (v1 : Int) (v2 : Int) (h : Hp) : Option (Int × Hp) :=
  b2 (f_mP_no v1 h) fun r3 h1 =>
  if r3 ≠ 0 then (
    f_mP_streams_b18 v0 v1 v2 v0 h1
  ) else
  if v2 < 0 then (
    f_mP_streams_b18 v0 v1 v2 v0 h1
  ) else
  if v2 ≤ 13 then (
    f_mP_streams_b23 v0 v1 v2 v0 0 h1
  ) else
  f_mP_streams_b18 v0 v1 v2 v0 h1
def f_law_feed (v0 : Nat) (v1 : Int) (v2 : Int) (v3 : Int) (v4 : Int) (v5 : Int) (v6 : Nat) (h : Hp) : Option (Int × Hp) :=
  if v0 = 0 then none else
  bt2 (f_cP_feed v0 v1 v2 v3 v4 v5 h) (fun a4 h5 =>
    if kd h5 a4 = 30 then (
      some (1, h5)
    ) else
    none) fun r9 h2 =>
  if v6 = 0 then none else
  if ix 0 (ln h2 v6) then
    lt1 (sJ h2 v6 (Int.toNat 0) r9) fun h12 =>
    some (0, h12)
  else none
def f_law_end (v0 : Nat) (v1 : Int) (v2 : Nat) (h : Hp) : Option (Int × Hp) :=
  if v0 = 0 then none else
  bt2 (f_cP_end v0 v1 h) (fun a4 h5 =>
    if kd h5 a4 = 32 then (
      some (1, h5)
    ) else
    none) fun r9 h2 =>
  if v2 = 0 then none else
  if ix 0 (ln h2 v2) then
    lt1 (sJ h2 v2 (Int.toNat 0) r9) fun h12 =>
    some (0, h12)
  else none
def f_law_key (v0 : Nat) (v1 : Int) (h : Hp) : Option (Int × Hp) :=
  if v0 = 0 then none else
  bt (f_cP_key v0 v1 h) (fun a4 h5 =>
    if kd h5 a4 = 32 then (
      some (1, h5)
    ) else
    if kd h5 a4 = 30 then (
      some (2, h5)
    ) else
    none) fun h2 =>
  some (0, h2)
def f_law_random (v0 : Nat) (v1 : Int) (h : Hp) : Option (Int × Hp) :=
  if v0 = 0 then none else
  bt (f_cP_random v0 v1 h) (fun a4 h5 =>
    if kd h5 a4 = 32 then (
      some (1, h5)
    ) else
    if kd h5 a4 = 30 then (
      some (2, h5)
    ) else
    none) fun h2 =>
  some (0, h2)
def f_law_parameter (v0 : Nat) (v1 : Int) (v2 : Int) (v3 : Int) (h : Hp) : Option (Int × Hp) :=
  if v0 = 0 then none else
  bt (f_cP_parameter v0 v1 v2 v3 h) (fun a4 h5 =>
    if kd h5 a4 = 32 then (
      some (1, h5)
    ) else
    if kd h5 a4 = 30 then (
      some (2, h5)
    ) else
    none) fun h2 =>
  some (0, h2)
def f_law_begin (v0 : Nat) (h : Hp) : Option (Int × Hp) :=
  if v0 = 0 then none else
  bt (f_cP_begin v0 h) (fun a4 h5 =>
    if kd h5 a4 = 30 then (
      some (1, h5)
    ) else
    none) fun h2 =>
  some (0, h2)
def f_law_open (v0 : Nat) (v1 : Int) (v2 : Int) (v3 : Nat) (h : Hp) : Option (Int × Hp) :=
  if v0 = 0 then none else
  bt2 (f_cP_open v0 v1 v2 h) (fun a4 h5 =>
    if kd h5 a4 = 32 then (
      some (1, h5)
    ) else
    none) fun r9 h2 =>
  if v3 = 0 then none else
  if ix 0 (ln h2 v3) then
    lt1 (sJ h2 v3 (Int.toNat 0) r9) fun h12 =>
    some (0, h12)
  else none
def f_law_write (v0 : Nat) (v1 : Int) (v2 : Int) (v3 : Nat) (h : Hp) : Option (Int × Hp) :=
  if v0 = 0 then none else
  bt2 (f_cP_write v0 v1 v2 h) (fun a4 h5 =>
    if kd h5 a4 = 32 then (
      some (1, h5)
    ) else
    none) fun r9 h2 =>
  if v3 = 0 then none else
  if ix 0 (ln h2 v3) then
    lt1 (sJ h2 v3 (Int.toNat 0) r9) fun h12 =>
    some (0, h12)
  else none
def f_law_finish_b16 (s0 : Nat) (s1 : Int) (s2 : Int) (h : Hp) : Option (Int × Hp) :=
  if s0 = 0 then none else
  if ix s1 (ln h s0) then
    lt1 (sJ h s0 s1.toNat s2) fun h12 =>
    some (0, h12)
  else none
def f_law_finish (v0 : Nat) (v1 : Int) (v2 : Int) (v3 : Nat) (h : Hp) : Option (Int × Hp) :=
  if v0 = 0 then none else
  bt2 (f_cP_finish v0 v1 v2 h) (fun a4 h5 =>
    if kd h5 a4 = 32 then (
      some (1, h5)
    ) else
    none) fun r9 h2 =>
  if r9 = 0 then (
    f_law_finish_b16 v3 0 0 h2
  ) else
  f_law_finish_b16 v3 0 1 h2
def f_law_reset_b18 (s0 : Nat) (s1 : Int) (s2 : Int) (h : Hp) : Option (Int × Hp) :=
  if s0 = 0 then none else
  if ix s1 (ln h s0) then
    lt1 (sJ h s0 s1.toNat s2) fun h12 =>
    some (0, h12)
  else none
def f_law_reset (v0 : Nat) (v1 : Int) (v2 : Int) (v3 : Int) (v4 : Nat) (h : Hp) : Option (Int × Hp) :=
  if v0 = 0 then none else
  bt2 (f_cP_reset v0 v1 v2 v3 h) (fun a4 h5 =>
    if kd h5 a4 = 32 then (
      some (1, h5)
    ) else
    none) fun r9 h2 =>
  if r9 = 0 then (
    f_law_reset_b18 v4 0 0 h2
  ) else
  f_law_reset_b18 v4 0 1 h2
def f_law_stop_b18 (s0 : Nat) (s1 : Int) (s2 : Int) (h : Hp) : Option (Int × Hp) :=
  if s0 = 0 then none else
  if ix s1 (ln h s0) then
    lt1 (sJ h s0 s1.toNat s2) fun h12 =>
    some (0, h12)
  else none
def f_law_stop (v0 : Nat) (v1 : Int) (v2 : Int) (v3 : Int) (v4 : Nat) (h : Hp) : Option (Int × Hp) :=
  if v0 = 0 then none else
  bt2 (f_cP_stop v0 v1 v2 v3 h) (fun a4 h5 =>
    if kd h5 a4 = 32 then (
      some (1, h5)
    ) else
    none) fun r9 h2 =>
  if r9 = 0 then (
    f_law_stop_b18 v4 0 0 h2
  ) else
  f_law_stop_b18 v4 0 1 h2
def f_law_read (v0 : Nat) (v1 : Int) (v2 : Int) (v3 : Int) (v4 : Nat) (h : Hp) : Option (Int × Hp) :=
  if v0 = 0 then none else
  bt2 (f_cP_read v0 v1 v2 v3 h) (fun a4 h5 =>
    if kd h5 a4 = 32 then (
      some (1, h5)
    ) else
    none) fun r9 h2 =>
  if v4 = 0 then none else
  if ix 0 (ln h2 v4) then
    lt1 (sJ h2 v4 (Int.toNat 0) r9) fun h12 =>
    some (0, h12)
  else none
def f_law_outs (v0 : Nat) (v1 : Int) (v2 : Nat) (h : Hp) : Option (Int × Hp) :=
  if v0 = 0 then none else
  bt2 (f_cP_outs v0 v1 h) (fun a4 h5 =>
    if kd h5 a4 = 35 then (
      some (1, h5)
    ) else
    none) fun r9 h2 =>
  if v2 = 0 then none else
  if ix 0 (ln h2 v2) then
    lt1 (sJ h2 v2 (Int.toNat 0) r9) fun h12 =>
    some (0, h12)
  else none
def f_law_close_b16 (s0 : Nat) (s1 : Int) (s2 : Int) (h : Hp) : Option (Int × Hp) :=
  if s0 = 0 then none else
  if ix s1 (ln h s0) then
    lt1 (sJ h s0 s1.toNat s2) fun h12 =>
    some (0, h12)
  else none
def f_law_close (v0 : Nat) (v1 : Int) (v2 : Int) (v3 : Nat) (h : Hp) : Option (Int × Hp) :=
  if v0 = 0 then none else
  bt2 (f_cP_close v0 v1 v2 h) (fun a4 h5 =>
    if kd h5 a4 = 32 then (
      some (1, h5)
    ) else
    none) fun r9 h2 =>
  if r9 = 0 then (
    f_law_close_b16 v3 0 0 h2
  ) else
  f_law_close_b16 v3 0 1 h2
def f_law_raw (v0 : Nat) (v1 : Int) (h : Hp) : Option (Int × Hp) :=
  if v0 = 0 then none else
  bt (f_cP_raw v0 v1 h) (fun a4 h5 =>
    if kd h5 a4 = 32 then (
      some (1, h5)
    ) else
    if kd h5 a4 = 30 then (
      some (2, h5)
    ) else
    none) fun h2 =>
  some (0, h2)
def f_law_deliver (v0 : Nat) (v1 : Int) (v2 : Int) (v3 : Nat) (h : Hp) : Option (Int × Hp) :=
  if v0 = 0 then none else
  bt2 (f_cP_deliver v0 v1 v2 h) (fun a4 h5 =>
    if kd h5 a4 = 32 then (
      some (1, h5)
    ) else
    if kd h5 a4 = 35 then (
      some (2, h5)
    ) else
    none) fun r11 h2 =>
  if v3 = 0 then none else
  if ix 0 (ln h2 v3) then
    lt1 (sJ h2 v3 (Int.toNat 0) r11) fun h14 =>
    some (0, h14)
  else none
def f_law_drop (v0 : Nat) (v1 : Int) (v2 : Int) (v3 : Nat) (h : Hp) : Option (Int × Hp) :=
  if v0 = 0 then none else
  bt2 (f_cP_drop v0 v1 v2 h) (fun a4 h5 =>
    if kd h5 a4 = 32 then (
      some (1, h5)
    ) else
    if kd h5 a4 = 35 then (
      some (2, h5)
    ) else
    none) fun r11 h2 =>
  if v3 = 0 then none else
  if ix 0 (ln h2 v3) then
    lt1 (sJ h2 v3 (Int.toNat 0) r11) fun h14 =>
    some (0, h14)
  else none
def f_law_twice (v0 : Nat) (v1 : Int) (v2 : Int) (v3 : Nat) (h : Hp) : Option (Int × Hp) :=
  if v0 = 0 then none else
  bt2 (f_cP_twice v0 v1 v2 h) (fun a4 h5 =>
    if kd h5 a4 = 32 then (
      some (1, h5)
    ) else
    if kd h5 a4 = 35 then (
      some (2, h5)
    ) else
    none) fun r11 h2 =>
  if v3 = 0 then none else
  if ix 0 (ln h2 v3) then
    lt1 (sJ h2 v3 (Int.toNat 0) r11) fun h14 =>
    some (0, h14)
  else none
def f_law_alter (v0 : Nat) (v1 : Int) (v2 : Int) (v3 : Int) (v4 : Int) (v5 : Nat) (h : Hp) : Option (Int × Hp) :=
  if v0 = 0 then none else
  bt2 (f_cP_alter v0 v1 v2 v3 v4 h) (fun a4 h5 =>
    if kd h5 a4 = 32 then (
      some (1, h5)
    ) else
    if kd h5 a4 = 35 then (
      some (2, h5)
    ) else
    none) fun r11 h2 =>
  if v5 = 0 then none else
  if ix 0 (ln h2 v5) then
    lt1 (sJ h2 v5 (Int.toNat 0) r11) fun h14 =>
    some (0, h14)
  else none
def f_law_flow (v0 : Nat) (v1 : Int) (h : Hp) : Option (Int × Hp) :=
  if v0 = 0 then none else
  bt (f_cP_flow v0 v1 h) (fun a4 h5 =>
    if kd h5 a4 = 32 then (
      some (1, h5)
    ) else
    none) fun h2 =>
  some (0, h2)
def f_law_tick (v0 : Nat) (v1 : Int) (v2 : Nat) (h : Hp) : Option (Int × Hp) :=
  if v0 = 0 then none else
  bt2 (f_cP_tick_I v0 v1 h) (fun a4 h5 =>
    if kd h5 a4 = 32 then (
      some (1, h5)
    ) else
    if kd h5 a4 = 30 then (
      some (2, h5)
    ) else
    none) fun r11 h2 =>
  if v2 = 0 then none else
  if ix 0 (ln h2 v2) then
    lt1 (sJ h2 v2 (Int.toNat 0) r11) fun h14 =>
    some (0, h14)
  else none
def f_law_line (v0 : Nat) (v1 : Int) (v2 : Int) (v3 : Nat) (h : Hp) : Option (Int × Hp) :=
  if v0 = 0 then none else
  bt2 (f_cP_line v0 v1 v2 h) (fun a4 h5 =>
    if kd h5 a4 = 32 then (
      some (1, h5)
    ) else
    none) fun r9 h2 =>
  if v3 = 0 then none else
  if ix 0 (ln h2 v3) then
    lt1 (sJ h2 v3 (Int.toNat 0) r9) fun h12 =>
    some (0, h12)
  else none
def f_law_at (v0 : Nat) (v1 : Int) (v2 : Int) (v3 : Int) (v4 : Nat) (h : Hp) : Option (Int × Hp) :=
  if v0 = 0 then none else
  bt2 (f_cP_at v0 v1 v2 v3 h) (fun a4 h5 =>
    if kd h5 a4 = 32 then (
      some (1, h5)
    ) else
    if kd h5 a4 = 35 then (
      some (2, h5)
    ) else
    none) fun r11 h2 =>
  if v4 = 0 then none else
  if ix 0 (ln h2 v4) then
    lt1 (sJ h2 v4 (Int.toNat 0) r11) fun h14 =>
    some (0, h14)
  else none
def f_law_look (v0 : Nat) (v1 : Int) (v2 : Int) (v3 : Nat) (h : Hp) : Option (Int × Hp) :=
  if v0 = 0 then none else
  bt2 (f_cP_look v0 v1 v2 h) (fun a4 h5 =>
    if kd h5 a4 = 32 then (
      some (1, h5)
    ) else
    none) fun r9 h2 =>
  if v3 = 0 then none else
  if ix 0 (ln h2 v3) then
    lt1 (sJ h2 v3 (Int.toNat 0) r9) fun h12 =>
    some (0, h12)
  else none
def f_law_book (v0 : Nat) (v1 : Int) (v2 : Int) (v3 : Nat) (h : Hp) : Option (Int × Hp) :=
  if v0 = 0 then none else
  bt2 (f_cP_book v0 v1 v2 h) (fun a4 h5 =>
    if kd h5 a4 = 32 then (
      some (1, h5)
    ) else
    none) fun r9 h2 =>
  if v3 = 0 then none else
  if ix 0 (ln h2 v3) then
    lt1 (sJ h2 v3 (Int.toNat 0) r9) fun h12 =>
    some (0, h12)
  else none
def f_law_space (v0 : Nat) (v1 : Int) (v2 : Int) (v3 : Int) (v4 : Nat) (h : Hp) : Option (Int × Hp) :=
  if v0 = 0 then none else
  bt2 (f_cP_space v0 v1 v2 v3 h) (fun a4 h5 =>
    if kd h5 a4 = 32 then (
      some (1, h5)
    ) else
    none) fun r9 h2 =>
  if v4 = 0 then none else
  if ix 0 (ln h2 v4) then
    lt1 (sJ h2 v4 (Int.toNat 0) r9) fun h12 =>
    some (0, h12)
  else none
def f_law_stream (v0 : Nat) (v1 : Int) (v2 : Int) (v3 : Int) (v4 : Nat) (h : Hp) : Option (Int × Hp) :=
  if v0 = 0 then none else
  bt2 (f_cP_stream v0 v1 v2 v3 h) (fun a4 h5 =>
    if kd h5 a4 = 32 then (
      some (1, h5)
    ) else
    none) fun r9 h2 =>
  if v4 = 0 then none else
  if ix 0 (ln h2 v4) then
    lt1 (sJ h2 v4 (Int.toNat 0) r9) fun h12 =>
    some (0, h12)
  else none
def f_law_streams (v0 : Nat) (v1 : Int) (v2 : Int) (v3 : Nat) (h : Hp) : Option (Int × Hp) :=
  if v0 = 0 then none else
  bt2 (f_cP_streams v0 v1 v2 h) (fun a4 h5 =>
    if kd h5 a4 = 32 then (
      some (1, h5)
    ) else
    none) fun r9 h2 =>
  if v3 = 0 then none else
  if ix 0 (ln h2 v3) then
    lt1 (sJ h2 v3 (Int.toNat 0) r9) fun h12 =>
    some (0, h12)
  else none
def f_law_law_b2028 (k23 : Nat → Nat → Nat → Nat → Int → Hp → Option (Int × Hp)) (v0 : Nat) (v1 : Nat) (v2 : Nat) (v3 : Nat) (v4 : Int) (h : Hp) : Option (Int × Hp) :=
  k23 v0 v1 v2 v3 (w32 (v4 + 6)) h
def f_law_law_b1879 (k23 : Nat → Nat → Nat → Nat → Int → Hp → Option (Int × Hp)) (v0 : Nat) (v1 : Nat) (v2 : Nat) (v3 : Nat) (v4 : Int) (h : Hp) : Option (Int × Hp) :=
  f_law_law_b2028 k23 v0 v1 v2 v3 v4 h
def f_law_law_b325 (k23 : Nat → Nat → Nat → Nat → Int → Hp → Option (Int × Hp)) (v0 : Nat) (v1 : Nat) (v2 : Nat) (v3 : Nat) (v4 : Int) (h : Hp) : Option (Int × Hp) :=
  f_law_law_b2028 k23 v0 v1 v2 v3 v4 h
def f_law_law_b1017 (k23 : Nat → Nat → Nat → Nat → Int → Hp → Option (Int × Hp)) (v0 : Nat) (v1 : Nat) (v2 : Nat) (v3 : Nat) (v4 : Int) (h : Hp) : Option (Int × Hp) :=
  f_law_law_b2028 k23 v0 v1 v2 v3 v4 h
def f_law_law_b633 (k23 : Nat → Nat → Nat → Nat → Int → Hp → Option (Int × Hp)) (v0 : Nat) (v1 : Nat) (v2 : Nat) (v3 : Nat) (v4 : Int) (h : Hp) : Option (Int × Hp) :=
  f_law_law_b2028 k23 v0 v1 v2 v3 v4 h
def f_law_law_b1800 (k23 : Nat → Nat → Nat → Nat → Int → Hp → Option (Int × Hp)) (v0 : Nat) (v1 : Nat) (v2 : Nat) (v3 : Nat) (v4 : Int) (h : Hp) : Option (Int × Hp) :=
  f_law_law_b2028 k23 v0 v1 v2 v3 v4 h
def f_law_law_b1516 (k23 : Nat → Nat → Nat → Nat → Int → Hp → Option (Int × Hp)) (v0 : Nat) (v1 : Nat) (v2 : Nat) (v3 : Nat) (v4 : Int) (h : Hp) : Option (Int × Hp) :=
  f_law_law_b2028 k23 v0 v1 v2 v3 v4 h
def f_law_law_b1332 (k23 : Nat → Nat → Nat → Nat → Int → Hp → Option (Int × Hp)) (v0 : Nat) (v1 : Nat) (v2 : Nat) (v3 : Nat) (v4 : Int) (h : Hp) : Option (Int × Hp) :=
  f_law_law_b2028 k23 v0 v1 v2 v3 v4 h
def f_law_law_b1424 (k23 : Nat → Nat → Nat → Nat → Int → Hp → Option (Int × Hp)) (v0 : Nat) (v1 : Nat) (v2 : Nat) (v3 : Nat) (v4 : Int) (h : Hp) : Option (Int × Hp) :=
  f_law_law_b2028 k23 v0 v1 v2 v3 v4 h
def f_law_law_b1732 (k23 : Nat → Nat → Nat → Nat → Int → Hp → Option (Int × Hp)) (v0 : Nat) (v1 : Nat) (v2 : Nat) (v3 : Nat) (v4 : Int) (h : Hp) : Option (Int × Hp) :=
  f_law_law_b2028 k23 v0 v1 v2 v3 v4 h
def f_law_law_b565 (k23 : Nat → Nat → Nat → Nat → Int → Hp → Option (Int × Hp)) (v0 : Nat) (v1 : Nat) (v2 : Nat) (v3 : Nat) (v4 : Int) (h : Hp) : Option (Int × Hp) :=
  f_law_law_b2028 k23 v0 v1 v2 v3 v4 h
def f_law_law_b532 (k23 : Nat → Nat → Nat → Nat → Int → Hp → Option (Int × Hp)) (v0 : Nat) (v1 : Nat) (v2 : Nat) (v3 : Nat) (v4 : Int) (v5 : Int) (s0 : Nat) (s1 : Int) (s2 : Int) (h : Hp) : Option (Int × Hp) :=
  if s0 = 0 then none else
  b2 (f_mP_open s0 s1 s2 h) fun r509 h507 =>
  if v2 = 0 then none else
  b2 (f_mP_thrown v2 h507) fun r513 h511 =>
  if r513 = v5 then (
    if v5 ≠ 0 then (
      f_law_law_b565 k23 v0 v1 v2 v3 v4 h511
    ) else
    if v3 = 0 then none else
    if ix 0 (ln h511 v3) then
      if (hJ h511 v3 (Int.toNat 0)) = r509 then (
        f_law_law_b565 k23 v0 v1 v2 v3 v4 h511
      ) else
      some (0, h511)
    else none
  ) else
  some (0, h511)
def f_law_law_b505 (k23 : Nat → Nat → Nat → Nat → Int → Hp → Option (Int × Hp)) (v0 : Nat) (v1 : Nat) (v2 : Nat) (v3 : Nat) (v4 : Int) (s0 : Nat) (s1 : Int) (s2 : Int) (h : Hp) : Option (Int × Hp) :=
  b2 (f_law_open s0 s1 s2 v3 h) fun r502 h500 =>
  if v0 = 0 then none else
  if ix (w32 (v4 + 1)) (ln h500 v0) then
    if ix (w32 (v4 + 2)) (ln h500 v0) then
      if (hI h500 v0 ((w32 (v4 + 2)).toNat)) = 0 then (
        f_law_law_b532 k23 v0 v1 v2 v3 v4 r502 v2 (hI h500 v0 ((w32 (v4 + 1)).toNat)) 0 h500
      ) else
      f_law_law_b532 k23 v0 v1 v2 v3 v4 r502 v2 (hI h500 v0 ((w32 (v4 + 1)).toNat)) 1 h500
    else none
  else none
def f_law_law_b269 (k23 : Nat → Nat → Nat → Nat → Int → Hp → Option (Int × Hp)) (v0 : Nat) (v1 : Nat) (v2 : Nat) (v3 : Nat) (v4 : Int) (h : Hp) : Option (Int × Hp) :=
  f_law_law_b2028 k23 v0 v1 v2 v3 v4 h
def f_law_law_b2025 (k23 : Nat → Nat → Nat → Nat → Int → Hp → Option (Int × Hp)) (v0 : Nat) (v1 : Nat) (v2 : Nat) (v3 : Nat) (v4 : Int) (h : Hp) : Option (Int × Hp) :=
  f_law_law_b2028 k23 v0 v1 v2 v3 v4 h
def f_law_law_b962 (k23 : Nat → Nat → Nat → Nat → Int → Hp → Option (Int × Hp)) (v0 : Nat) (v1 : Nat) (v2 : Nat) (v3 : Nat) (v4 : Int) (h : Hp) : Option (Int × Hp) :=
  f_law_law_b2028 k23 v0 v1 v2 v3 v4 h
def f_law_law_b1264 (k23 : Nat → Nat → Nat → Nat → Int → Hp → Option (Int × Hp)) (v0 : Nat) (v1 : Nat) (v2 : Nat) (v3 : Nat) (v4 : Int) (h : Hp) : Option (Int × Hp) :=
  f_law_law_b2028 k23 v0 v1 v2 v3 v4 h
def f_law_law_b882 (k23 : Nat → Nat → Nat → Nat → Int → Hp → Option (Int × Hp)) (v0 : Nat) (v1 : Nat) (v2 : Nat) (v3 : Nat) (v4 : Int) (h : Hp) : Option (Int × Hp) :=
  f_law_law_b2028 k23 v0 v1 v2 v3 v4 h
def f_law_law_b876 (k23 : Nat → Nat → Nat → Nat → Int → Hp → Option (Int × Hp)) (v0 : Nat) (v1 : Nat) (v2 : Nat) (v3 : Nat) (v4 : Int) (s0 : Int) (s1 : Int) (h : Hp) : Option (Int × Hp) :=
  if s0 = s1 then (
    f_law_law_b882 k23 v0 v1 v2 v3 v4 h
  ) else
  some (0, h)
def f_law_law_b708 (k23 : Nat → Nat → Nat → Nat → Int → Hp → Option (Int × Hp)) (v0 : Nat) (v1 : Nat) (v2 : Nat) (v3 : Nat) (v4 : Int) (h : Hp) : Option (Int × Hp) :=
  f_law_law_b2028 k23 v0 v1 v2 v3 v4 h
def f_law_law_b795 (k23 : Nat → Nat → Nat → Nat → Int → Hp → Option (Int × Hp)) (v0 : Nat) (v1 : Nat) (v2 : Nat) (v3 : Nat) (v4 : Int) (h : Hp) : Option (Int × Hp) :=
  f_law_law_b2028 k23 v0 v1 v2 v3 v4 h
def f_law_law_b789 (k23 : Nat → Nat → Nat → Nat → Int → Hp → Option (Int × Hp)) (v0 : Nat) (v1 : Nat) (v2 : Nat) (v3 : Nat) (v4 : Int) (s0 : Int) (s1 : Int) (h : Hp) : Option (Int × Hp) :=
  if s0 = s1 then (
    f_law_law_b795 k23 v0 v1 v2 v3 v4 h
  ) else
  some (0, h)
def f_law_law_b1664 (k23 : Nat → Nat → Nat → Nat → Int → Hp → Option (Int × Hp)) (v0 : Nat) (v1 : Nat) (v2 : Nat) (v3 : Nat) (v4 : Int) (h : Hp) : Option (Int × Hp) :=
  f_law_law_b2028 k23 v0 v1 v2 v3 v4 h
def f_law_law_b1092 (k23 : Nat → Nat → Nat → Nat → Int → Hp → Option (Int × Hp)) (v0 : Nat) (v1 : Nat) (v2 : Nat) (v3 : Nat) (v4 : Int) (h : Hp) : Option (Int × Hp) :=
  f_law_law_b2028 k23 v0 v1 v2 v3 v4 h
def f_law_law_b1086 (k23 : Nat → Nat → Nat → Nat → Int → Hp → Option (Int × Hp)) (v0 : Nat) (v1 : Nat) (v2 : Nat) (v3 : Nat) (v4 : Int) (s0 : Int) (s1 : Int) (h : Hp) : Option (Int × Hp) :=
  if s0 = s1 then (
    f_law_law_b1092 k23 v0 v1 v2 v3 v4 h
  ) else
  some (0, h)
def f_law_law_b702 (k23 : Nat → Nat → Nat → Nat → Int → Hp → Option (Int × Hp)) (v0 : Nat) (v1 : Nat) (v2 : Nat) (v3 : Nat) (v4 : Int) (s0 : Int) (s1 : Int) (h : Hp) : Option (Int × Hp) :=
  if s0 = s1 then (
    f_law_law_b708 k23 v0 v1 v2 v3 v4 h
  ) else
  some (0, h)
def f_law_law_b1958 (k23 : Nat → Nat → Nat → Nat → Int → Hp → Option (Int × Hp)) (v0 : Nat) (v1 : Nat) (v2 : Nat) (v3 : Nat) (v4 : Int) (h : Hp) : Option (Int × Hp) :=
  f_law_law_b2028 k23 v0 v1 v2 v3 v4 h
def f_law_law_b1196 (k23 : Nat → Nat → Nat → Nat → Int → Hp → Option (Int × Hp)) (v0 : Nat) (v1 : Nat) (v2 : Nat) (v3 : Nat) (v4 : Int) (h : Hp) : Option (Int × Hp) :=
  f_law_law_b2028 k23 v0 v1 v2 v3 v4 h
def f_law_law_b1584 (k23 : Nat → Nat → Nat → Nat → Int → Hp → Option (Int × Hp)) (v0 : Nat) (v1 : Nat) (v2 : Nat) (v3 : Nat) (v4 : Int) (h : Hp) : Option (Int × Hp) :=
  f_law_law_b2028 k23 v0 v1 v2 v3 v4 h
def f_law_law_b23 (k23 : Nat → Nat → Nat → Nat → Int → Hp → Option (Int × Hp)) (v0 : Nat) (v1 : Nat) (v2 : Nat) (v3 : Nat) (v4 : Int) (h : Hp) : Option (Int × Hp) :=
  if v0 = 0 then none else
  if (w32 ((ln h v0 : Int) - 6)) < v4 then (
    some (1, h)
  ) else
  if ix v4 (ln h v0) then
    if iAnd (hI h v0 v4.toNat) 31 = 0 then (
      if ix (w32 (v4 + 1)) (ln h v0) then
        if ix (w32 (v4 + 2)) (ln h v0) then
          if ix (w32 (v4 + 3)) (ln h v0) then
            if ix (w32 (v4 + 4)) (ln h v0) then
              if ix (w32 (v4 + 5)) (ln h v0) then
                b2 (f_law_feed v1 (hI h v0 ((w32 (v4 + 1)).toNat)) (hI h v0 ((w32 (v4 + 2)).toNat)) (hI h v0 ((w32 (v4 + 3)).toNat)) (hI h v0 ((w32 (v4 + 4)).toNat)) (hI h v0 ((w32 (v4 + 5)).toNat)) v3 h) fun r31 h29 =>
                if ix (w32 (v4 + 1)) (ln h29 v0) then
                  if ix (w32 (v4 + 2)) (ln h29 v0) then
                    if ix (w32 (v4 + 3)) (ln h29 v0) then
                      if ix (w32 (v4 + 4)) (ln h29 v0) then
                        if ix (w32 (v4 + 5)) (ln h29 v0) then
                          if v2 = 0 then none else
                          b2 (f_mP_feed v2 (hI h29 v0 ((w32 (v4 + 1)).toNat)) (hI h29 v0 ((w32 (v4 + 2)).toNat)) (hI h29 v0 ((w32 (v4 + 3)).toNat)) (hI h29 v0 ((w32 (v4 + 4)).toNat)) (hI h29 v0 ((w32 (v4 + 5)).toNat)) h29) fun r40 h38 =>
                          b2 (f_mP_thrown v2 h38) fun r43 h41 =>
                          if r43 = r31 then (
                            if r31 ≠ 0 then (
                              f_law_law_b269 k23 v0 v1 v2 v3 v4 h41
                            ) else
                            if v3 = 0 then none else
                            if ix 0 (ln h41 v3) then
                              if (hJ h41 v3 (Int.toNat 0)) = r40 then (
                                f_law_law_b269 k23 v0 v1 v2 v3 v4 h41
                              ) else
                              some (0, h41)
                            else none
                          ) else
                          some (0, h41)
                        else none
                      else none
                    else none
                  else none
                else none
              else none
            else none
          else none
        else none
      else none
    ) else
    if iAnd (hI h v0 v4.toNat) 31 = 1 then (
      if ix (w32 (v4 + 1)) (ln h v0) then
        b2 (f_law_end v1 (hI h v0 ((w32 (v4 + 1)).toNat)) v3 h) fun r51 h49 =>
        if ix (w32 (v4 + 1)) (ln h49 v0) then
          if v2 = 0 then none else
          b2 (f_mP_end v2 (hI h49 v0 ((w32 (v4 + 1)).toNat)) h49) fun r56 h54 =>
          b2 (f_mP_thrown v2 h54) fun r59 h57 =>
          if r59 = r51 then (
            if r51 ≠ 0 then (
              f_law_law_b325 k23 v0 v1 v2 v3 v4 h57
            ) else
            if v3 = 0 then none else
            if ix 0 (ln h57 v3) then
              if (hJ h57 v3 (Int.toNat 0)) = r56 then (
                f_law_law_b325 k23 v0 v1 v2 v3 v4 h57
              ) else
              some (0, h57)
            else none
          ) else
          some (0, h57)
        else none
      else none
    ) else
    if iAnd (hI h v0 v4.toNat) 31 = 2 then (
      if ix (w32 (v4 + 1)) (ln h v0) then
        b2 (f_law_key v1 (hI h v0 ((w32 (v4 + 1)).toNat)) h) fun r67 h65 =>
        if ix (w32 (v4 + 1)) (ln h65 v0) then
          if v2 = 0 then none else
          b1 (f_mP_key v2 (hI h65 v0 ((w32 (v4 + 1)).toNat)) h65) fun h70 =>
          b2 (f_mP_thrown v2 h70) fun r74 h72 =>
          if r74 = r67 then (
            f_law_law_b2028 k23 v0 v1 v2 v3 v4 h72
          ) else
          some (0, h72)
        else none
      else none
    ) else
    if iAnd (hI h v0 v4.toNat) 31 = 3 then (
      if ix (w32 (v4 + 1)) (ln h v0) then
        b2 (f_law_random v1 (hI h v0 ((w32 (v4 + 1)).toNat)) h) fun r80 h78 =>
        if ix (w32 (v4 + 1)) (ln h78 v0) then
          if v2 = 0 then none else
          b1 (f_mP_random v2 (hI h78 v0 ((w32 (v4 + 1)).toNat)) h78) fun h83 =>
          b2 (f_mP_thrown v2 h83) fun r87 h85 =>
          if r87 = r80 then (
            f_law_law_b2028 k23 v0 v1 v2 v3 v4 h85
          ) else
          some (0, h85)
        else none
      else none
    ) else
    if iAnd (hI h v0 v4.toNat) 31 = 4 then (
      if ix (w32 (v4 + 1)) (ln h v0) then
        if ix (w32 (v4 + 2)) (ln h v0) then
          if ix (w32 (v4 + 3)) (ln h v0) then
            b2 (f_law_parameter v1 (hI h v0 ((w32 (v4 + 1)).toNat)) (hI h v0 ((w32 (v4 + 2)).toNat)) (hI h v0 ((w32 (v4 + 3)).toNat)) h) fun r95 h93 =>
            if ix (w32 (v4 + 1)) (ln h93 v0) then
              if ix (w32 (v4 + 2)) (ln h93 v0) then
                if ix (w32 (v4 + 3)) (ln h93 v0) then
                  if v2 = 0 then none else
                  b1 (f_mP_parameter v2 (hI h93 v0 ((w32 (v4 + 1)).toNat)) (hI h93 v0 ((w32 (v4 + 2)).toNat)) (hI h93 v0 ((w32 (v4 + 3)).toNat)) h93) fun h100 =>
                  b2 (f_mP_thrown v2 h100) fun r104 h102 =>
                  if r104 = r95 then (
                    f_law_law_b2028 k23 v0 v1 v2 v3 v4 h102
                  ) else
                  some (0, h102)
                else none
              else none
            else none
          else none
        else none
      else none
    ) else
    if iAnd (hI h v0 v4.toNat) 31 = 5 then (
      b2 (f_law_begin v1 h) fun r109 h107 =>
      if v2 = 0 then none else
      b1 (f_mP_begin v2 h107) fun h111 =>
      b2 (f_mP_thrown v2 h111) fun r115 h113 =>
      if r115 = r109 then (
        f_law_law_b2028 k23 v0 v1 v2 v3 v4 h113
      ) else
      some (0, h113)
    ) else
    if iAnd (hI h v0 v4.toNat) 31 = 6 then (
      if ix (w32 (v4 + 1)) (ln h v0) then
        if ix (w32 (v4 + 2)) (ln h v0) then
          if (hI h v0 ((w32 (v4 + 2)).toNat)) = 0 then (
            f_law_law_b505 k23 v0 v1 v2 v3 v4 v1 (hI h v0 ((w32 (v4 + 1)).toNat)) 0 h
          ) else
          f_law_law_b505 k23 v0 v1 v2 v3 v4 v1 (hI h v0 ((w32 (v4 + 1)).toNat)) 1 h
        else none
      else none
    ) else
    if iAnd (hI h v0 v4.toNat) 31 = 7 then (
      if ix (w32 (v4 + 1)) (ln h v0) then
        if ix (w32 (v4 + 2)) (ln h v0) then
          b2 (f_law_write v1 (hI h v0 ((w32 (v4 + 1)).toNat)) (hI h v0 ((w32 (v4 + 2)).toNat)) v3 h) fun r126 h124 =>
          if ix (w32 (v4 + 1)) (ln h124 v0) then
            if ix (w32 (v4 + 2)) (ln h124 v0) then
              if v2 = 0 then none else
              b2 (f_mP_write v2 (hI h124 v0 ((w32 (v4 + 1)).toNat)) (hI h124 v0 ((w32 (v4 + 2)).toNat)) h124) fun r132 h130 =>
              b2 (f_mP_thrown v2 h130) fun r135 h133 =>
              if r135 = r126 then (
                if r126 ≠ 0 then (
                  f_law_law_b633 k23 v0 v1 v2 v3 v4 h133
                ) else
                if v3 = 0 then none else
                if ix 0 (ln h133 v3) then
                  if (hJ h133 v3 (Int.toNat 0)) = r132 then (
                    f_law_law_b633 k23 v0 v1 v2 v3 v4 h133
                  ) else
                  some (0, h133)
                else none
              ) else
              some (0, h133)
            else none
          else none
        else none
      else none
    ) else
    if iAnd (hI h v0 v4.toNat) 31 = 8 then (
      if ix (w32 (v4 + 1)) (ln h v0) then
        if ix (w32 (v4 + 2)) (ln h v0) then
          b2 (f_law_finish v1 (hI h v0 ((w32 (v4 + 1)).toNat)) (hI h v0 ((w32 (v4 + 2)).toNat)) v3 h) fun r144 h142 =>
          if ix (w32 (v4 + 1)) (ln h142 v0) then
            if ix (w32 (v4 + 2)) (ln h142 v0) then
              if v2 = 0 then none else
              b2 (f_mP_finish v2 (hI h142 v0 ((w32 (v4 + 1)).toNat)) (hI h142 v0 ((w32 (v4 + 2)).toNat)) h142) fun r150 h148 =>
              b2 (f_mP_thrown v2 h148) fun r153 h151 =>
              if r153 = r144 then (
                if r144 ≠ 0 then (
                  f_law_law_b708 k23 v0 v1 v2 v3 v4 h151
                ) else
                if v3 = 0 then none else
                if ix 0 (ln h151 v3) then
                  if r150 = 0 then (
                    f_law_law_b702 k23 v0 v1 v2 v3 v4 (hJ h151 v3 (Int.toNat 0)) 0 h151
                  ) else
                  f_law_law_b702 k23 v0 v1 v2 v3 v4 (hJ h151 v3 (Int.toNat 0)) 1 h151
                else none
              ) else
              some (0, h151)
            else none
          else none
        else none
      else none
    ) else
    if iAnd (hI h v0 v4.toNat) 31 = 9 then (
      if ix (w32 (v4 + 1)) (ln h v0) then
        if ix (w32 (v4 + 2)) (ln h v0) then
          if ix (w32 (v4 + 3)) (ln h v0) then
            b2 (f_law_reset v1 (hI h v0 ((w32 (v4 + 1)).toNat)) (hI h v0 ((w32 (v4 + 2)).toNat)) (hI h v0 ((w32 (v4 + 3)).toNat)) v3 h) fun r163 h161 =>
            if ix (w32 (v4 + 1)) (ln h161 v0) then
              if ix (w32 (v4 + 2)) (ln h161 v0) then
                if ix (w32 (v4 + 3)) (ln h161 v0) then
                  if v2 = 0 then none else
                  b2 (f_mP_reset v2 (hI h161 v0 ((w32 (v4 + 1)).toNat)) (hI h161 v0 ((w32 (v4 + 2)).toNat)) (hI h161 v0 ((w32 (v4 + 3)).toNat)) h161) fun r170 h168 =>
                  b2 (f_mP_thrown v2 h168) fun r173 h171 =>
                  if r173 = r163 then (
                    if r163 ≠ 0 then (
                      f_law_law_b795 k23 v0 v1 v2 v3 v4 h171
                    ) else
                    if v3 = 0 then none else
                    if ix 0 (ln h171 v3) then
                      if r170 = 0 then (
                        f_law_law_b789 k23 v0 v1 v2 v3 v4 (hJ h171 v3 (Int.toNat 0)) 0 h171
                      ) else
                      f_law_law_b789 k23 v0 v1 v2 v3 v4 (hJ h171 v3 (Int.toNat 0)) 1 h171
                    else none
                  ) else
                  some (0, h171)
                else none
              else none
            else none
          else none
        else none
      else none
    ) else
    if iAnd (hI h v0 v4.toNat) 31 = 10 then (
      if ix (w32 (v4 + 1)) (ln h v0) then
        if ix (w32 (v4 + 2)) (ln h v0) then
          if ix (w32 (v4 + 3)) (ln h v0) then
            b2 (f_law_stop v1 (hI h v0 ((w32 (v4 + 1)).toNat)) (hI h v0 ((w32 (v4 + 2)).toNat)) (hI h v0 ((w32 (v4 + 3)).toNat)) v3 h) fun r183 h181 =>
            if ix (w32 (v4 + 1)) (ln h181 v0) then
              if ix (w32 (v4 + 2)) (ln h181 v0) then
                if ix (w32 (v4 + 3)) (ln h181 v0) then
                  if v2 = 0 then none else
                  b2 (f_mP_stop v2 (hI h181 v0 ((w32 (v4 + 1)).toNat)) (hI h181 v0 ((w32 (v4 + 2)).toNat)) (hI h181 v0 ((w32 (v4 + 3)).toNat)) h181) fun r190 h188 =>
                  b2 (f_mP_thrown v2 h188) fun r193 h191 =>
                  if r193 = r183 then (
                    if r183 ≠ 0 then (
                      f_law_law_b882 k23 v0 v1 v2 v3 v4 h191
                    ) else
                    if v3 = 0 then none else
                    if ix 0 (ln h191 v3) then
                      if r190 = 0 then (
                        f_law_law_b876 k23 v0 v1 v2 v3 v4 (hJ h191 v3 (Int.toNat 0)) 0 h191
                      ) else
                      f_law_law_b876 k23 v0 v1 v2 v3 v4 (hJ h191 v3 (Int.toNat 0)) 1 h191
                    else none
                  ) else
                  some (0, h191)
                else none
              else none
            else none
          else none
        else none
      else none
    ) else
    if iAnd (hI h v0 v4.toNat) 31 = 11 then (
      if ix (w32 (v4 + 1)) (ln h v0) then
        if ix (w32 (v4 + 2)) (ln h v0) then
          if ix (w32 (v4 + 3)) (ln h v0) then
            b2 (f_law_read v1 (hI h v0 ((w32 (v4 + 1)).toNat)) (hI h v0 ((w32 (v4 + 2)).toNat)) (hI h v0 ((w32 (v4 + 3)).toNat)) v3 h) fun r203 h201 =>
            if ix (w32 (v4 + 1)) (ln h201 v0) then
              if ix (w32 (v4 + 2)) (ln h201 v0) then
                if ix (w32 (v4 + 3)) (ln h201 v0) then
                  if v2 = 0 then none else
                  b2 (f_mP_read v2 (hI h201 v0 ((w32 (v4 + 1)).toNat)) (hI h201 v0 ((w32 (v4 + 2)).toNat)) (hI h201 v0 ((w32 (v4 + 3)).toNat)) h201) fun r210 h208 =>
                  b2 (f_mP_thrown v2 h208) fun r213 h211 =>
                  if r213 = r203 then (
                    if r203 ≠ 0 then (
                      f_law_law_b962 k23 v0 v1 v2 v3 v4 h211
                    ) else
                    if v3 = 0 then none else
                    if ix 0 (ln h211 v3) then
                      if (hJ h211 v3 (Int.toNat 0)) = r210 then (
                        f_law_law_b962 k23 v0 v1 v2 v3 v4 h211
                      ) else
                      some (0, h211)
                    else none
                  ) else
                  some (0, h211)
                else none
              else none
            else none
          else none
        else none
      else none
    ) else
    if iAnd (hI h v0 v4.toNat) 31 = 12 then (
      if ix (w32 (v4 + 1)) (ln h v0) then
        b2 (f_law_outs v1 (hI h v0 ((w32 (v4 + 1)).toNat)) v3 h) fun r221 h219 =>
        if ix (w32 (v4 + 1)) (ln h219 v0) then
          if v2 = 0 then none else
          b2 (f_mP_outs v2 (hI h219 v0 ((w32 (v4 + 1)).toNat)) h219) fun r226 h224 =>
          b2 (f_mP_thrown v2 h224) fun r229 h227 =>
          if r229 = r221 then (
            if r221 ≠ 0 then (
              f_law_law_b1017 k23 v0 v1 v2 v3 v4 h227
            ) else
            if v3 = 0 then none else
            if ix 0 (ln h227 v3) then
              if (hJ h227 v3 (Int.toNat 0)) = r226 then (
                f_law_law_b1017 k23 v0 v1 v2 v3 v4 h227
              ) else
              some (0, h227)
            else none
          ) else
          some (0, h227)
        else none
      else none
    ) else
    if iAnd (hI h v0 v4.toNat) 31 = 13 then (
      if ix (w32 (v4 + 1)) (ln h v0) then
        if ix (w32 (v4 + 2)) (ln h v0) then
          b2 (f_law_close v1 (hI h v0 ((w32 (v4 + 1)).toNat)) (hI h v0 ((w32 (v4 + 2)).toNat)) v3 h) fun r238 h236 =>
          if ix (w32 (v4 + 1)) (ln h236 v0) then
            if ix (w32 (v4 + 2)) (ln h236 v0) then
              if v2 = 0 then none else
              b2 (f_mP_close v2 (hI h236 v0 ((w32 (v4 + 1)).toNat)) (hI h236 v0 ((w32 (v4 + 2)).toNat)) h236) fun r244 h242 =>
              b2 (f_mP_thrown v2 h242) fun r247 h245 =>
              if r247 = r238 then (
                if r238 ≠ 0 then (
                  f_law_law_b1092 k23 v0 v1 v2 v3 v4 h245
                ) else
                if v3 = 0 then none else
                if ix 0 (ln h245 v3) then
                  if r244 = 0 then (
                    f_law_law_b1086 k23 v0 v1 v2 v3 v4 (hJ h245 v3 (Int.toNat 0)) 0 h245
                  ) else
                  f_law_law_b1086 k23 v0 v1 v2 v3 v4 (hJ h245 v3 (Int.toNat 0)) 1 h245
                else none
              ) else
              some (0, h245)
            else none
          else none
        else none
      else none
    ) else
    if iAnd (hI h v0 v4.toNat) 31 = 14 then (
      if ix (w32 (v4 + 1)) (ln h v0) then
        b2 (f_law_raw v1 (hI h v0 ((w32 (v4 + 1)).toNat)) h) fun r255 h253 =>
        if ix (w32 (v4 + 1)) (ln h253 v0) then
          if v2 = 0 then none else
          b1 (f_mP_raw v2 (hI h253 v0 ((w32 (v4 + 1)).toNat)) h253) fun h258 =>
          b2 (f_mP_thrown v2 h258) fun r262 h260 =>
          if r262 = r255 then (
            f_law_law_b2028 k23 v0 v1 v2 v3 v4 h260
          ) else
          some (0, h260)
        else none
      else none
    ) else
    if iAnd (hI h v0 v4.toNat) 31 = 15 then (
      if ix (w32 (v4 + 1)) (ln h v0) then
        if ix (w32 (v4 + 2)) (ln h v0) then
          b2 (f_law_deliver v1 (hI h v0 ((w32 (v4 + 1)).toNat)) (hI h v0 ((w32 (v4 + 2)).toNat)) v3 h) fun r269 h267 =>
          if ix (w32 (v4 + 1)) (ln h267 v0) then
            if ix (w32 (v4 + 2)) (ln h267 v0) then
              if v2 = 0 then none else
              b2 (f_mP_deliver v2 (hI h267 v0 ((w32 (v4 + 1)).toNat)) (hI h267 v0 ((w32 (v4 + 2)).toNat)) h267) fun r275 h273 =>
              b2 (f_mP_thrown v2 h273) fun r278 h276 =>
              if r278 = r269 then (
                if r269 ≠ 0 then (
                  f_law_law_b1196 k23 v0 v1 v2 v3 v4 h276
                ) else
                if v3 = 0 then none else
                if ix 0 (ln h276 v3) then
                  if (hJ h276 v3 (Int.toNat 0)) = r275 then (
                    f_law_law_b1196 k23 v0 v1 v2 v3 v4 h276
                  ) else
                  some (0, h276)
                else none
              ) else
              some (0, h276)
            else none
          else none
        else none
      else none
    ) else
    if iAnd (hI h v0 v4.toNat) 31 = 16 then (
      if ix (w32 (v4 + 1)) (ln h v0) then
        if ix (w32 (v4 + 2)) (ln h v0) then
          b2 (f_law_drop v1 (hI h v0 ((w32 (v4 + 1)).toNat)) (hI h v0 ((w32 (v4 + 2)).toNat)) v3 h) fun r287 h285 =>
          if ix (w32 (v4 + 1)) (ln h285 v0) then
            if ix (w32 (v4 + 2)) (ln h285 v0) then
              if v2 = 0 then none else
              b2 (f_mP_drop v2 (hI h285 v0 ((w32 (v4 + 1)).toNat)) (hI h285 v0 ((w32 (v4 + 2)).toNat)) h285) fun r293 h291 =>
              b2 (f_mP_thrown v2 h291) fun r296 h294 =>
              if r296 = r287 then (
                if r287 ≠ 0 then (
                  f_law_law_b1264 k23 v0 v1 v2 v3 v4 h294
                ) else
                if v3 = 0 then none else
                if ix 0 (ln h294 v3) then
                  if (hJ h294 v3 (Int.toNat 0)) = r293 then (
                    f_law_law_b1264 k23 v0 v1 v2 v3 v4 h294
                  ) else
                  some (0, h294)
                else none
              ) else
              some (0, h294)
            else none
          else none
        else none
      else none
    ) else
    if iAnd (hI h v0 v4.toNat) 31 = 17 then (
      if ix (w32 (v4 + 1)) (ln h v0) then
        if ix (w32 (v4 + 2)) (ln h v0) then
          b2 (f_law_twice v1 (hI h v0 ((w32 (v4 + 1)).toNat)) (hI h v0 ((w32 (v4 + 2)).toNat)) v3 h) fun r305 h303 =>
          if ix (w32 (v4 + 1)) (ln h303 v0) then
            if ix (w32 (v4 + 2)) (ln h303 v0) then
              if v2 = 0 then none else
              b2 (f_mP_twice v2 (hI h303 v0 ((w32 (v4 + 1)).toNat)) (hI h303 v0 ((w32 (v4 + 2)).toNat)) h303) fun r311 h309 =>
              b2 (f_mP_thrown v2 h309) fun r314 h312 =>
              if r314 = r305 then (
                if r305 ≠ 0 then (
                  f_law_law_b1332 k23 v0 v1 v2 v3 v4 h312
                ) else
                if v3 = 0 then none else
                if ix 0 (ln h312 v3) then
                  if (hJ h312 v3 (Int.toNat 0)) = r311 then (
                    f_law_law_b1332 k23 v0 v1 v2 v3 v4 h312
                  ) else
                  some (0, h312)
                else none
              ) else
              some (0, h312)
            else none
          else none
        else none
      else none
    ) else
    if iAnd (hI h v0 v4.toNat) 31 = 18 then (
      if ix (w32 (v4 + 1)) (ln h v0) then
        if ix (w32 (v4 + 2)) (ln h v0) then
          if ix (w32 (v4 + 3)) (ln h v0) then
            if ix (w32 (v4 + 4)) (ln h v0) then
              b2 (f_law_alter v1 (hI h v0 ((w32 (v4 + 1)).toNat)) (hI h v0 ((w32 (v4 + 2)).toNat)) (hI h v0 ((w32 (v4 + 3)).toNat)) (hI h v0 ((w32 (v4 + 4)).toNat)) v3 h) fun r325 h323 =>
              if ix (w32 (v4 + 1)) (ln h323 v0) then
                if ix (w32 (v4 + 2)) (ln h323 v0) then
                  if ix (w32 (v4 + 3)) (ln h323 v0) then
                    if ix (w32 (v4 + 4)) (ln h323 v0) then
                      if v2 = 0 then none else
                      b2 (f_mP_alter v2 (hI h323 v0 ((w32 (v4 + 1)).toNat)) (hI h323 v0 ((w32 (v4 + 2)).toNat)) (hI h323 v0 ((w32 (v4 + 3)).toNat)) (hI h323 v0 ((w32 (v4 + 4)).toNat)) h323) fun r333 h331 =>
                      b2 (f_mP_thrown v2 h331) fun r336 h334 =>
                      if r336 = r325 then (
                        if r325 ≠ 0 then (
                          f_law_law_b1424 k23 v0 v1 v2 v3 v4 h334
                        ) else
                        if v3 = 0 then none else
                        if ix 0 (ln h334 v3) then
                          if (hJ h334 v3 (Int.toNat 0)) = r333 then (
                            f_law_law_b1424 k23 v0 v1 v2 v3 v4 h334
                          ) else
                          some (0, h334)
                        else none
                      ) else
                      some (0, h334)
                    else none
                  else none
                else none
              else none
            else none
          else none
        else none
      else none
    ) else
    if iAnd (hI h v0 v4.toNat) 31 = 19 then (
      if ix (w32 (v4 + 1)) (ln h v0) then
        b2 (f_law_flow v1 (hI h v0 ((w32 (v4 + 1)).toNat)) h) fun r344 h342 =>
        if ix (w32 (v4 + 1)) (ln h342 v0) then
          if v2 = 0 then none else
          b1 (f_mP_flow v2 (hI h342 v0 ((w32 (v4 + 1)).toNat)) h342) fun h347 =>
          b2 (f_mP_thrown v2 h347) fun r351 h349 =>
          if r351 = r344 then (
            f_law_law_b2028 k23 v0 v1 v2 v3 v4 h349
          ) else
          some (0, h349)
        else none
      else none
    ) else
    if iAnd (hI h v0 v4.toNat) 31 = 20 then (
      if ix (w32 (v4 + 1)) (ln h v0) then
        b2 (f_law_tick v1 (hI h v0 ((w32 (v4 + 1)).toNat)) v3 h) fun r357 h355 =>
        if ix (w32 (v4 + 1)) (ln h355 v0) then
          if v2 = 0 then none else
          b2 (f_mP_tick v2 (hI h355 v0 ((w32 (v4 + 1)).toNat)) h355) fun r362 h360 =>
          b2 (f_mP_thrown v2 h360) fun r365 h363 =>
          if r365 = r357 then (
            if r357 ≠ 0 then (
              f_law_law_b1516 k23 v0 v1 v2 v3 v4 h363
            ) else
            if v3 = 0 then none else
            if ix 0 (ln h363 v3) then
              if (hJ h363 v3 (Int.toNat 0)) = r362 then (
                f_law_law_b1516 k23 v0 v1 v2 v3 v4 h363
              ) else
              some (0, h363)
            else none
          ) else
          some (0, h363)
        else none
      else none
    ) else
    if iAnd (hI h v0 v4.toNat) 31 = 21 then (
      if ix (w32 (v4 + 1)) (ln h v0) then
        if ix (w32 (v4 + 2)) (ln h v0) then
          b2 (f_law_line v1 (hI h v0 ((w32 (v4 + 1)).toNat)) (hI h v0 ((w32 (v4 + 2)).toNat)) v3 h) fun r374 h372 =>
          if ix (w32 (v4 + 1)) (ln h372 v0) then
            if ix (w32 (v4 + 2)) (ln h372 v0) then
              if v2 = 0 then none else
              b2 (f_mP_line v2 (hI h372 v0 ((w32 (v4 + 1)).toNat)) (hI h372 v0 ((w32 (v4 + 2)).toNat)) h372) fun r380 h378 =>
              b2 (f_mP_thrown v2 h378) fun r383 h381 =>
              if r383 = r374 then (
                if r374 ≠ 0 then (
                  f_law_law_b1584 k23 v0 v1 v2 v3 v4 h381
                ) else
                if v3 = 0 then none else
                if ix 0 (ln h381 v3) then
                  if (hJ h381 v3 (Int.toNat 0)) = r380 then (
                    f_law_law_b1584 k23 v0 v1 v2 v3 v4 h381
                  ) else
                  some (0, h381)
                else none
              ) else
              some (0, h381)
            else none
          else none
        else none
      else none
    ) else
    if iAnd (hI h v0 v4.toNat) 31 = 22 then (
      if ix (w32 (v4 + 1)) (ln h v0) then
        if ix (w32 (v4 + 2)) (ln h v0) then
          if ix (w32 (v4 + 3)) (ln h v0) then
            b2 (f_law_at v1 (hI h v0 ((w32 (v4 + 1)).toNat)) (hI h v0 ((w32 (v4 + 2)).toNat)) (hI h v0 ((w32 (v4 + 3)).toNat)) v3 h) fun r393 h391 =>
            if ix (w32 (v4 + 1)) (ln h391 v0) then
              if ix (w32 (v4 + 2)) (ln h391 v0) then
                if ix (w32 (v4 + 3)) (ln h391 v0) then
                  if v2 = 0 then none else
                  b2 (f_mP_at v2 (hI h391 v0 ((w32 (v4 + 1)).toNat)) (hI h391 v0 ((w32 (v4 + 2)).toNat)) (hI h391 v0 ((w32 (v4 + 3)).toNat)) h391) fun r400 h398 =>
                  b2 (f_mP_thrown v2 h398) fun r403 h401 =>
                  if r403 = r393 then (
                    if r393 ≠ 0 then (
                      f_law_law_b1664 k23 v0 v1 v2 v3 v4 h401
                    ) else
                    if v3 = 0 then none else
                    if ix 0 (ln h401 v3) then
                      if (hJ h401 v3 (Int.toNat 0)) = r400 then (
                        f_law_law_b1664 k23 v0 v1 v2 v3 v4 h401
                      ) else
                      some (0, h401)
                    else none
                  ) else
                  some (0, h401)
                else none
              else none
            else none
          else none
        else none
      else none
    ) else
    if iAnd (hI h v0 v4.toNat) 31 = 23 then (
      if ix (w32 (v4 + 1)) (ln h v0) then
        if ix (w32 (v4 + 2)) (ln h v0) then
          b2 (f_law_look v1 (hI h v0 ((w32 (v4 + 1)).toNat)) (hI h v0 ((w32 (v4 + 2)).toNat)) v3 h) fun r412 h410 =>
          if ix (w32 (v4 + 1)) (ln h410 v0) then
            if ix (w32 (v4 + 2)) (ln h410 v0) then
              if v2 = 0 then none else
              b2 (f_mP_look v2 (hI h410 v0 ((w32 (v4 + 1)).toNat)) (hI h410 v0 ((w32 (v4 + 2)).toNat)) h410) fun r418 h416 =>
              b2 (f_mP_thrown v2 h416) fun r421 h419 =>
              if r421 = r412 then (
                if r412 ≠ 0 then (
                  f_law_law_b1732 k23 v0 v1 v2 v3 v4 h419
                ) else
                if v3 = 0 then none else
                if ix 0 (ln h419 v3) then
                  if (hJ h419 v3 (Int.toNat 0)) = r418 then (
                    f_law_law_b1732 k23 v0 v1 v2 v3 v4 h419
                  ) else
                  some (0, h419)
                else none
              ) else
              some (0, h419)
            else none
          else none
        else none
      else none
    ) else
    if iAnd (hI h v0 v4.toNat) 31 = 24 then (
      if ix (w32 (v4 + 1)) (ln h v0) then
        if ix (w32 (v4 + 2)) (ln h v0) then
          b2 (f_law_book v1 (hI h v0 ((w32 (v4 + 1)).toNat)) (hI h v0 ((w32 (v4 + 2)).toNat)) v3 h) fun r430 h428 =>
          if ix (w32 (v4 + 1)) (ln h428 v0) then
            if ix (w32 (v4 + 2)) (ln h428 v0) then
              if v2 = 0 then none else
              b2 (f_mP_book v2 (hI h428 v0 ((w32 (v4 + 1)).toNat)) (hI h428 v0 ((w32 (v4 + 2)).toNat)) h428) fun r436 h434 =>
              b2 (f_mP_thrown v2 h434) fun r439 h437 =>
              if r439 = r430 then (
                if r430 ≠ 0 then (
                  f_law_law_b1800 k23 v0 v1 v2 v3 v4 h437
                ) else
                if v3 = 0 then none else
                if ix 0 (ln h437 v3) then
                  if (hJ h437 v3 (Int.toNat 0)) = r436 then (
                    f_law_law_b1800 k23 v0 v1 v2 v3 v4 h437
                  ) else
                  some (0, h437)
                else none
              ) else
              some (0, h437)
            else none
          else none
        else none
      else none
    ) else
    if iAnd (hI h v0 v4.toNat) 31 = 25 then (
      if ix (w32 (v4 + 1)) (ln h v0) then
        if ix (w32 (v4 + 2)) (ln h v0) then
          if ix (w32 (v4 + 3)) (ln h v0) then
            b2 (f_law_space v1 (hI h v0 ((w32 (v4 + 1)).toNat)) (hI h v0 ((w32 (v4 + 2)).toNat)) (hI h v0 ((w32 (v4 + 3)).toNat)) v3 h) fun r449 h447 =>
            if ix (w32 (v4 + 1)) (ln h447 v0) then
              if ix (w32 (v4 + 2)) (ln h447 v0) then
                if ix (w32 (v4 + 3)) (ln h447 v0) then
                  if v2 = 0 then none else
                  b2 (f_mP_space v2 (hI h447 v0 ((w32 (v4 + 1)).toNat)) (hI h447 v0 ((w32 (v4 + 2)).toNat)) (hI h447 v0 ((w32 (v4 + 3)).toNat)) h447) fun r456 h454 =>
                  b2 (f_mP_thrown v2 h454) fun r459 h457 =>
                  if r459 = r449 then (
                    if r449 ≠ 0 then (
                      f_law_law_b1879 k23 v0 v1 v2 v3 v4 h457
                    ) else
                    if v3 = 0 then none else
                    if ix 0 (ln h457 v3) then
                      if (hJ h457 v3 (Int.toNat 0)) = r456 then (
                        f_law_law_b1879 k23 v0 v1 v2 v3 v4 h457
                      ) else
                      some (0, h457)
                    else none
                  ) else
                  some (0, h457)
                else none
              else none
            else none
          else none
        else none
      else none
    ) else
    if iAnd (hI h v0 v4.toNat) 31 = 26 then (
      if ix (w32 (v4 + 1)) (ln h v0) then
        if ix (w32 (v4 + 2)) (ln h v0) then
          if ix (w32 (v4 + 3)) (ln h v0) then
            b2 (f_law_stream v1 (hI h v0 ((w32 (v4 + 1)).toNat)) (hI h v0 ((w32 (v4 + 2)).toNat)) (hI h v0 ((w32 (v4 + 3)).toNat)) v3 h) fun r469 h467 =>
            if ix (w32 (v4 + 1)) (ln h467 v0) then
              if ix (w32 (v4 + 2)) (ln h467 v0) then
                if ix (w32 (v4 + 3)) (ln h467 v0) then
                  if v2 = 0 then none else
                  b2 (f_mP_stream v2 (hI h467 v0 ((w32 (v4 + 1)).toNat)) (hI h467 v0 ((w32 (v4 + 2)).toNat)) (hI h467 v0 ((w32 (v4 + 3)).toNat)) h467) fun r476 h474 =>
                  b2 (f_mP_thrown v2 h474) fun r479 h477 =>
                  if r479 = r469 then (
                    if r469 ≠ 0 then (
                      f_law_law_b1958 k23 v0 v1 v2 v3 v4 h477
                    ) else
                    if v3 = 0 then none else
                    if ix 0 (ln h477 v3) then
                      if (hJ h477 v3 (Int.toNat 0)) = r476 then (
                        f_law_law_b1958 k23 v0 v1 v2 v3 v4 h477
                      ) else
                      some (0, h477)
                    else none
                  ) else
                  some (0, h477)
                else none
              else none
            else none
          else none
        else none
      else none
    ) else
    if iAnd (hI h v0 v4.toNat) 31 = 27 then (
      if ix (w32 (v4 + 1)) (ln h v0) then
        if ix (w32 (v4 + 2)) (ln h v0) then
          b2 (f_law_streams v1 (hI h v0 ((w32 (v4 + 1)).toNat)) (hI h v0 ((w32 (v4 + 2)).toNat)) v3 h) fun r488 h486 =>
          if ix (w32 (v4 + 1)) (ln h486 v0) then
            if ix (w32 (v4 + 2)) (ln h486 v0) then
              if v2 = 0 then none else
              b2 (f_mP_streams v2 (hI h486 v0 ((w32 (v4 + 1)).toNat)) (hI h486 v0 ((w32 (v4 + 2)).toNat)) h486) fun r494 h492 =>
              b2 (f_mP_thrown v2 h492) fun r497 h495 =>
              if r497 = r488 then (
                if r488 ≠ 0 then (
                  f_law_law_b2025 k23 v0 v1 v2 v3 v4 h495
                ) else
                if v3 = 0 then none else
                if ix 0 (ln h495 v3) then
                  if (hJ h495 v3 (Int.toNat 0)) = r494 then (
                    f_law_law_b2025 k23 v0 v1 v2 v3 v4 h495
                  ) else
                  some (0, h495)
                else none
              ) else
              some (0, h495)
            else none
          else none
        else none
      else none
    ) else
    f_law_law_b2028 k23 v0 v1 v2 v3 v4 h
  else none
def f_law_law_b23_lp : Nat → Nat → Nat → Nat → Nat → Int → Hp → Option (Int × Hp)
  | 0, _, _, _, _, _, _ => none
  | n + 1, v0, v1, v2, v3, v4, h => f_law_law_b23 (f_law_law_b23_lp n) v0 v1 v2 v3 v4 h
def f_law_law (v0 : Nat) (h : Hp) : Option (Int × Hp) :=
  if hN h + 1 ≤ CN ∧ hZ h + 10 ≤ CZ then
    lt1 (nwC h 1 0 10) fun h2 =>
    b1 (f_cP_init (hN h) h2) fun h4 =>
    lt1 (hN h) fun y6 =>
    if hN h4 + 1 ≤ CN ∧ hZ h4 + 23 ≤ CZ then
      lt1 (nwC h4 36 0 23) fun h9 =>
      b1 (f_mP_init (hN h4) h9) fun h11 =>
      lt1 (hN h4) fun y13 =>
      if (0 : Int) ≤ 1 ∧ hN h11 + 1 ≤ CN ∧ hZ h11 + Int.toNat 1 ≤ CZ then
        lt1 (nwC h11 105 (Int.toNat 1) (Int.toNat 1)) fun h16 =>
        lt1 (hN h11) fun y18 =>
        f_law_law_b23_lp FU v0 y6 y13 y18 0 h16
      else none
    else none
  else none
