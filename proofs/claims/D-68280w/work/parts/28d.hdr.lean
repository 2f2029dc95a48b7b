/-! reading: headers, class and model in step -/
theorem wp_comm {α β : Type} {x : Option α} {y : Option β} {Q : α → β → Prop} : wp x (fun a => wp y (fun b => Q a b)) ↔ wp y (fun b => wp x (fun a => Q a b)) :=
  ⟨fun ⟨a, h1, b, h2, q⟩ => ⟨b, h2, a, h1, q⟩, fun ⟨b, h2, a, h1, q⟩ => ⟨a, h1, b, h2, q⟩⟩
theorem wp_eq {α : Type} {x : Option α} {a : α} {Q : α → Prop} (e : x = some a) (q : Q a) : wp x Q := ⟨a, e, q⟩
theorem wp_b1e {α β : Type} {x : Option α} {a : α} {f : α → Option β} {Q : β → Prop} (e : x = some a) (q : wp (f a) Q) : wp (b1 x f) Q := by rw [e]; exact q
theorem wp_b2e {α β : Type} {x : Option (α × Hp)} {a : α} {h : Hp} {f : α → Hp → Option β} {Q : β → Prop} (e : x = some (a, h)) (q : wp (f a h) Q) : wp (b2 x f) Q := by rw [e]; exact q
theorem RD.of {h h' : Hp} {a r at_ e : Nat} {b : Bool} (R : RD h a r at_ e b) (e1 : ∀ k, hI h' a k = hI h a k) (e2 : hR h' a 0 = hR h a 0) (e3 : ln h' r = ln h r) : RD h' a r at_ e b := by unfold RD at *; grind
theorem BRc.of {h h' : Hp} {r e : Nat} {B : Nat → Int} (R : BRc h r e B) (e1 : ∀ k, hI h' r k = hI h r k) : BRc h' r e B := fun j hj => by rw [e1]; exact R j hj
theorem BRm.of {h h' : Hp} {r e : Nat} {B : Nat → Int} (R : BRm h r e B) (e1 : ∀ k, hI h' r k = hI h r k) : BRm h' r e B := fun j hj => by rw [e1]; exact R j hj
/-- a header that was read: kind, begin, number, end, TO and its size, BY and its size -/
def HdO (h : Hp) (H : Nat) (kind frm num end_ to toS by_ byS : Int) : Prop := hI h H 0 = kind ∧ hI h H 3 = frm ∧ hI h H 4 = num ∧ hI h H 5 = end_ ∧ hI h H 7 = to ∧ hI h H 8 = toS ∧ hI h H 9 = by_ ∧ hI h H 10 = byS
/-- what a header is: none when it is wrong -/
def hdL (B : Nat → Int) (frm e p : Nat) (kind : Int) (to toS by_ byS : Nat) : Option (Int × Nat × Nat × Nat × Nat × Nat × Nat) :=
  if nB B p e false then none else
  if nvl B p < 20 then none else
  if ((e - (p + nsz B p) : Nat) : Int) < nvl B p then none else
  some (kind, p + nsz B p, p + nsz B p + (nvl B p).toNat, to, toS, by_, byS)
def hdT (B : Nat → Int) (frm e q : Nat) (kind : Int) (to toS by_ byS : Nat) : Option (Int × Nat × Nat × Nat × Nat × Nat × Nat) :=
  if kind = 0 then
    if nB B q e false then none else
    if ((e - (q + nsz B q) : Nat) : Int) < nvl B q then none else
    hdL B frm e (q + nsz B q + (nvl B q).toNat) kind to toS by_ byS
  else if kind = 2 then hdL B frm e q kind to toS by_ byS
  else none
def hdN (B : Nat → Int) (frm e t y : Nat) : Option (Int × Nat × Nat × Nat × Nat × Nat × Nat) :=
  if e < frm + 6 then none else
  if be B (frm + 1) 4 ≠ 1 then none else
  if 20 < t then none else
  if e < frm + 6 + t + 1 then none else
  if 20 < y then none else
  if e < frm + 6 + t + 1 + y then none else
  hdT B frm e (frm + 6 + t + 1 + y) (B frm / 16 % 4) (frm + 6) t (frm + 6 + t + 1) y
def hdS (B : Nat → Int) (frm e : Nat) : Option (Int × Nat × Nat × Nat × Nat × Nat × Nat) :=
  if e < frm + 1 then none else
  if B frm / 64 % 2 = 0 then none else
  if B frm < 128 then
    if e < frm + 1 + 8 + 20 then none else some (4, frm + 9, e, frm + 1, 8, 0, 0)
  else hdN B frm e (B (frm + 5)).toNat (B (frm + 6 + (B (frm + 5)).toNat)).toNat
def hdQc (S : Option (Int × Nat × Nat × Nat × Nat × Nat × Nat)) (frm H : Nat) (o : Int × Hp) : Prop := match S with
  | none => 0 < o.1
  | some s => o.1 = 0 ∧ HdO o.2 H s.1 frm s.2.1 s.2.2.1 s.2.2.2.1 s.2.2.2.2.1 s.2.2.2.2.2.1 s.2.2.2.2.2.2
def hdQm (S : Option (Int × Nat × Nat × Nat × Nat × Nat × Nat)) (frm D : Nat) (o : Int × Hp) : Prop := match S with
  | none => o.1 = -1
  | some s => o.1 = s.2.2.1 ∧ hI o.2 D 0 = s.1 ∧ hI o.2 D 3 = frm ∧ hI o.2 D 4 = s.2.1 ∧ hI o.2 D 5 = s.2.2.1 ∧ hI o.2 D 6 = s.2.2.2.1 ∧ hI o.2 D 7 = s.2.2.2.2.1 ∧ hI o.2 D 8 = s.2.2.2.2.2.1 ∧ hI o.2 D 9 = s.2.2.2.2.2.2
theorem c_hdL {h : Hp} {H I r p e frm : Nat} {kind : Int} {to toS by_ byS : Nat} {B : Nat → Int} (R : RD h I r p e false) (hB : BRc h r e B) (n1 : H ≠ I) (n2 : H ≠ r) (c : hI h H 0 = kind ∧ hI h H 3 = frm ∧ hI h H 7 = to ∧ hI h H 8 = toS ∧ hI h H 9 = by_ ∧ hI h H 10 = byS) : wp (f_cHeader_readRest_b56 H I h) (hdQc (hdL B frm e p kind to toS by_ byS) frm H) := by
  have nz := R.nz
  have sm := R.sm
  unfold f_cHeader_readRest_b56 f_cHeader_readRest_b94 f_cHeader_fails hdL
  rw [wp_cn]
  refine ⟨nz, wp_b2e (c_number R hB) ?_⟩
  rw [wp_lt1]
  by_cases g : nB B p e false = true
  · have i3 : hI (sI (adv h I (nA B p e false) (nB B p e false)) H 4 (hI (adv h I (nA B p e false) (nB B p e false)) I 1)) I 3 = 1 := by grind [hI_sI, hI_adv, bi]
    rw [if_pos (by rw [i3]; decide), if_pos g, wp_b2, wp_lt1, wp_some, wp_some]
    show (0 : Int) < 1
    decide
  · have g' : nB B p e false = false := by simpa using g
    have le : p + nsz B p ≤ e := by have := nsz_pos B p; unfold nB at g'; simp at g'; lia
    have i3 : hI (sI (adv h I (nA B p e false) (nB B p e false)) H 4 (hI (adv h I (nA B p e false) (nB B p e false)) I 1)) I 3 = 0 := by grind [hI_sI, hI_adv, bi]
    have R1 : RD (sI (adv h I (nA B p e false) (nB B p e false)) H 4 (hI (adv h I (nA B p e false) (nB B p e false)) I 1)) I r (nA B p e false) e (nB B p e false) := (R.adv (nA_le R.le)).sI (Or.inl n1)
    rw [if_neg (by rw [i3]; decide), if_neg g, nV_g g']
    by_cases c1 : nvl B p < 20
    · rw [if_pos c1, if_pos c1, wp_b2, wp_lt1, wp_some, wp_some]
      show (0 : Int) < 1
      decide
    · rw [if_neg c1, if_neg c1]
      refine wp_b2e (c_left R1) ?_
      rw [g', nA_f le]
      simp only [Bool.false_eq_true, if_false]
      by_cases c2 : nvl B p ≤ ((e - (p + nsz B p) : Nat) : Int)
      · rw [if_pos c2, if_neg (by lia), wp_lt1, wp_some]
        have w1 : w32 (((p + nsz B p : Nat) : Int) + w32 (nvl B p)) = ((p + nsz B p + (nvl B p).toNat : Nat) : Int) := by
          rw [show nvl B p = (((nvl B p).toNat : Nat) : Int) by lia]
          exact w_wn (by lia)
        unfold hdQc HdO
        grind [hI_sI, hI_adv]
      · rw [if_neg c2, if_pos (by lia), wp_b2, wp_lt1, wp_some, wp_some]
        show (0 : Int) < 1
        decide
