/-! streams, class: the pool of ranges with all its lists -/
/-- lists of a pool; no range lies above what a stream has written -/
def PSW (h : Hp) (p m : Nat) (fr : Int) (F T X : Nat → Int) (L : Nat → List Nat) (z : HSt) : Prop := SpP h p m fr F T X ∧ ChX X fr (L 0) ∧ PoL L m 513 ∧ ∀ n, 1 ≤ n → n < 513 → RnL F T (-1) (L n) ∧ ∀ k, k ∈ L n → T k ≤ zP z 2 ((n - 1) / 2)
section
variable {h h' h'' : Hp} {p m n n0 i j k x a : Nat} {fr c a' b' : Int} {F T X F' T' X' f g : Nat → Int} {L L' : Nat → List Nat} {z : HSt} {S : Int → Prop} {s : Nat}
theorem sm_pair : sm f (2 * n + 1) = f 0 + sm (fun i => f (1 + 2 * i) + f (2 + 2 * i)) n := by
  induction n with
  | zero => show (0 : Int) + f 0 = f 0 + 0; omega
  | succ n ih =>
    have e : sm f (2 * (n + 1) + 1) = sm f (2 * n + 1) + f (2 * n + 1) + f (2 * n + 2) := rfl
    rw [e, ih]
    show _ = f 0 + (sm (fun i => f (1 + 2 * i) + f (2 + 2 * i)) n + (f (1 + 2 * n) + f (2 + 2 * n)))
    rw [show 2 * n + 1 = 1 + 2 * n by omega, show 2 * n + 2 = 2 + 2 * n by omega]; omega
theorem PSW.small (P : PSW h p m fr F T X L z) (V : HV s z) : L 0 = [] → m < 131072 := fun e => by
  obtain ⟨p1, p2, ⟨q1, q2, q3, q4⟩, p4⟩ := P
  have us := V.used
  have e9 := V.2.1.1.2.2.2.2.2.2.2.1.1
  have h1 := sm_pair (f := fun n => ((L n).length : Int)) (n := 256)
  have h2 : sm (fun i => ((L (1 + 2 * i)).length : Int) + ((L (2 + 2 * i)).length : Int)) 256 ≤ sm (fun i => zP z 2 i + 1) 256 := sm_le (fun i hi => by
    have a1 := p4 (1 + 2 * i) (by omega) (by omega)
    have a2 := p4 (2 + 2 * i) (by omega) (by omega)
    have e1 : (1 + 2 * i - 1) / 2 = i := by omega
    have e2 : (2 + 2 * i - 1) / 2 = i := by omega
    rw [e1] at a1
    rw [e2] at a2
    have w0 : 0 ≤ zP z 2 i := by have := (V.S hi).2.2.2.1.1; omega
    have l1 := a1.1.len a1.2 (by omega)
    have l2 := a2.1.len a2.2 (by omega)
    show ((L (1 + 2 * i)).length : Int) + ((L (2 + 2 * i)).length : Int) ≤ zP z 2 i + 1
    omega)
  have h3 : sm (fun i => zP z 2 i + 1) 256 = sm (zP z 2) 256 + 256 := by rw [sm_add (f := zP z 2) (g := fun _ => 1), sm_c]; rfl
  have h4 : (m : Int) = ((L 0).length : Int) + sm (fun i => ((L (1 + 2 * i)).length : Int) + ((L (2 + 2 * i)).length : Int)) 256 := by rw [q4]; exact h1
  rw [e] at h4
  have h5 : (([] : List Nat).length : Int) = 0 := rfl
  omega
theorem inS_T (R : RnL F T (-1) (L n)) (k1 : k ∈ L n) (e : ∀ j, inS F T (L n) j → j < c) : T k ≤ c := by
  have := R.le k k1
  have := e (T k - 1) ⟨k, k1, by omega, by omega⟩
  omega
/-- one list changes, and what is free -/
theorem ps_step (P : PSW h p m fr F T X L z) (h0 : n0 ≠ 0) (h5 : n0 < 513) (O : SpO h h' p m F T X (L n0) (L 0) S c) (hS : ∀ j, S j → j < zP z 2 ((n0 - 1) / 2)) : ∃ m' fr' F' T' X' L', PSW h' p m' fr' F' T' X' L' z ∧ ChX X' c (L' n0) ∧ (∀ j, inS F' T' (L' n0) j ↔ S j) ∧ (∀ n, n ≠ 0 → n ≠ n0 → L' n = L n ∧ ∀ k, k ∈ L n → F' k = F k ∧ T' k = T k ∧ X' k = X k) ∧ SpG p h h' ∧ hN h' + spN h' p ≤ hN h + spN h p ∧ hZ h' + spZ h' p ≤ hZ h + spZ h p := by
  obtain ⟨p1, p2, ⟨q1, q2, q3, q4⟩, p4⟩ := P
  obtain ⟨l', lf', m', fr', F', T', X', ⟨o1, o2, o3, o4, o5⟩, o6, o7, o8, o9, o10, o11, o12, o13, o14⟩ := O
  obtain ⟨nd1, nd2, nd3⟩ := List.nodup_append.1 o3
  have same : ∀ n, n ≠ 0 → n ≠ n0 → ∀ k, k ∈ L n → F' k = F k ∧ T' k = T k ∧ X' k = X k := fun n n1 n2 k hk => o8 k (q2 n n0 k n2 hk) (q2 n 0 k n1 hk) (q3 n k hk)
  have out : ∀ n, n ≠ 0 → n ≠ n0 → ∀ k, k ∈ L n → k ∉ l' ∧ k ∉ lf' := fun n n1 n2 k hk => by
    have key : k ∉ l' ++ lf' := fun t => by
      rcases o9 k t with t | t
      · rcases List.mem_append.1 t with t | t
        · exact q2 n n0 k n2 hk t
        · exact q2 n 0 k n1 hk t
      · have := q3 n k hk; omega
    exact ⟨fun t => key (List.mem_append.2 (Or.inl t)), fun t => key (List.mem_append.2 (Or.inr t))⟩
  obtain ⟨L', eL⟩ : ∃ L' : Nat → List Nat, L' = fun n => if n = 0 then lf' else if n = n0 then l' else L n := ⟨_, rfl⟩
  have L0 : L' 0 = lf' := by rw [eL]; exact if_pos rfl
  have Ln : L' n0 = l' := by rw [eL]; show (if n0 = 0 then lf' else if n0 = n0 then l' else L n0) = l'; rw [if_neg h0, if_pos rfl]
  have Lo : ∀ n, n ≠ 0 → n ≠ n0 → L' n = L n := fun n n1 n2 => by rw [eL]; show (if n = 0 then lf' else if n = n0 then l' else L n) = L n; rw [if_neg n1, if_neg n2]
  have cs : ∀ n, n = 0 ∨ n = n0 ∨ (n ≠ 0 ∧ n ≠ n0) := fun n => by omega
  refine ⟨m', fr', F', T', X', L', ⟨o1, by rw [L0]; exact o2, ⟨fun n => ?_, fun n n' k hn hk hk' => ?_, fun n k hk => ?_, ?_⟩, fun n n1 n2 => ?_⟩, by rw [Ln]; exact o6, fun j => by rw [Ln]; exact o7 j, fun n n1 n2 => ⟨Lo n n1 n2, same n n1 n2⟩, o12, o13, o14⟩
  · rcases cs n with e | e | e
    · rw [e, L0]; exact nd2
    · rw [e, Ln]; exact nd1
    · rw [Lo n e.1 e.2]; exact q1 n
  · rcases cs n with e | e | e
    · rw [e, L0] at hk
      rcases cs n' with e' | e' | e'
      · omega
      · rw [e', Ln] at hk'; exact nd3 k hk' k hk rfl
      · rw [Lo n' e'.1 e'.2] at hk'; exact (out n' e'.1 e'.2 k hk').2 hk
    · rw [e, Ln] at hk
      rcases cs n' with e' | e' | e'
      · rw [e', L0] at hk'; exact nd3 k hk k hk' rfl
      · omega
      · rw [Lo n' e'.1 e'.2] at hk'; exact (out n' e'.1 e'.2 k hk').1 hk
    · rw [Lo n e.1 e.2] at hk
      have o := out n e.1 e.2 k hk
      rcases cs n' with e' | e' | e'
      · rw [e', L0] at hk'; exact o.2 hk'
      · rw [e', Ln] at hk'; exact o.1 hk'
      · rw [Lo n' e'.1 e'.2] at hk'; exact q2 n n' k hn hk hk'
  · rcases cs n with e | e | e
    · rw [e, L0] at hk; exact o4 k (List.mem_append.2 (Or.inr hk))
    · rw [e, Ln] at hk; exact o4 k (List.mem_append.2 (Or.inl hk))
    · rw [Lo n e.1 e.2] at hk; have := q3 n k hk; omega
  · have s1 := sm_up (n := 513) (k := 0) (f := fun n => ((L n).length : Int)) (g := fun n => ((if n = 0 then lf' else L n).length : Int)) (by decide) (fun i _ hi => by show ((if i = 0 then lf' else L i).length : Int) = _; rw [if_neg hi])
    have s2 := sm_up (n := 513) (k := n0) (f := fun n => ((if n = 0 then lf' else L n).length : Int)) (g := fun n => ((L' n).length : Int)) h5 (fun i _ hi => by
      show ((L' i).length : Int) = ((if i = 0 then lf' else L i).length : Int)
      by_cases e : i = 0
      · rw [e, L0, if_pos rfl]
      · rw [if_neg e, Lo i e hi])
    simp only [if_true] at s1
    simp only [if_neg h0, Ln] at s2
    rw [s2, s1, ← q4]
    show (m' : Int) = (m : Int) + ((lf'.length : Int) - ((L 0).length : Int)) + ((l'.length : Int) - ((L n0).length : Int))
    omega
  · by_cases e : n = n0
    · rw [e, Ln]
      refine ⟨o5, fun k hk => ?_⟩
      have o5' : RnL F' T' (-1) (L' n0) := by rw [Ln]; exact o5
      exact inS_T (L := L') (n := n0) o5' (by rw [Ln]; exact hk) (fun j hj => hS j (by rw [Ln] at hj; exact (o7 j).1 hj))
    · have q := p4 n n1 n2
      rw [Lo n (by omega) e]
      exact ⟨q.1.cg (fun k hk => ⟨(same n (by omega) e k hk).1, (same n (by omega) e k hk).2.1⟩), fun k hk => by rw [(same n (by omega) e k hk).2.1]; exact q.2 k hk⟩
theorem PSW.I (P : PSW h p m fr F T X L z) (h0 : n ≠ 0) (h5 : n < 513) : SpI h p m fr F T X (L n) (L 0) := by
  obtain ⟨p1, p2, ⟨q1, q2, q3, q4⟩, p4⟩ := P
  refine ⟨p1, p2, List.nodup_append.2 ⟨q1 n, q1 0, fun x hx y hy e => q2 n 0 x h0 hx (by rw [e]; exact hy)⟩, fun k hk => ?_, (p4 n (by omega) h5).1⟩
  rcases List.mem_append.1 hk with t | t
  · exact q3 n k t
  · exact q3 0 k t
theorem PSW.TT (P : PSW h p m fr F T X L z) (V : HV s z) (h0 : n ≠ 0) (h5 : n < 513) : ∀ k, k ∈ L n → T k ≤ 65536 := fun k hk => by
  have := (P.2.2.2 n (by omega) h5).2 k hk
  have := (V.S (i := (n - 1) / 2) (by omega)).2.2.2.1.1
  omega
theorem ps_add (P : PSW h p m fr F T X L z) (V : HV s z) (h0 : n ≠ 0) (h5 : n < 513) (C : ChX X c (L n)) (ab : 0 ≤ a' ∧ a' < b' ∧ b' ≤ 65536) (rN : hN h + spN h p ≤ CN) (rZ : hZ h + spZ h p ≤ CZ) : ∃ c' h', f_cSpans_add p c a' b' h = some (c', h') ∧ SpO h h' p m F T X (L n) (L 0) (fun j => inS F T (L n) j ∨ (a' ≤ j ∧ j < b')) c' := by
  obtain ⟨i1, i2, i3, i4, i5⟩ := P.I h0 h5
  obtain ⟨c', l', lf', m', fr', F', T', X', h', u1, u2, u3, u4, u5, u6, u7, u8, u9, u10, u11, u12, u13, u14, u15⟩ := c_sadd (a := a') (b := b') i1 C i2 i3 i4 i5 (P.TT V h0 h5) ab (P.small V) rN rZ
  exact ⟨c', h', u1, l', lf', m', fr', F', T', X', ⟨u2, u4, u5, u6, u7⟩, u3, u8, u9, u10, u11, u12, u13, u14, u15⟩
theorem ps_cut (P : PSW h p m fr F T X L z) (V : HV s z) (h0 : n ≠ 0) (h5 : n < 513) (C : ChX X c (L n)) (ab : 0 ≤ a' ∧ a' < b') (rN : hN h + spN h p ≤ CN) (rZ : hZ h + spZ h p ≤ CZ) : ∃ c' h', f_cSpans_cut p c a' b' h = some (c', h') ∧ SpO h h' p m F T X (L n) (L 0) (fun j => inS F T (L n) j ∧ ¬ (a' ≤ j ∧ j < b')) c' :=
  c_scut ab (P.I h0 h5) C (P.TT V h0 h5) (P.small V) rN rZ
end
