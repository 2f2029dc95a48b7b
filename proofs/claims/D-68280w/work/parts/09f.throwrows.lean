/-! ROWS the generator uses for throws -/
def bt {α β : Type} (g : Option (α ⊕ (Nat × Hp))) (X : Nat → Hp → Option β) (K : α → Option β) : Option β := match g with
  | none => none
  | some (.inl a) => K a
  | some (.inr q) => X q.1 q.2
def bt2 {α β : Type} (g : Option ((α × Hp) ⊕ (Nat × Hp))) (X : Nat → Hp → Option β) (K : α → Hp → Option β) : Option β := match g with
  | none => none
  | some (.inl a) => K a.1 a.2
  | some (.inr q) => X q.1 q.2
section
variable {x : Ctx} {cc : ByteArray} {own : String} {β : Type} {em : β → Xo} {F A B : Option β} {pc fr lo nL : Nat} {ret : Option FieldType} {lv : List (Nat × AV)} {st : List AV} {h : Hp}
theorem sm_bt {γ : Type} {g : Option (γ ⊕ (Nat × Hp))} {X : Nat → Hp → Option β} {K : γ → Option β} (k2 : ∀ a h1, g = some (.inr (a, h1)) → Sm x em (X a h1) pc lv st h) (k1 : ∀ a, g = some (.inl a) → Sm x em (K a) pc lv st h) : Sm x em (bt g X K) pc lv st h := by
  intro o hF
  cases hg : g with
  | none => rw [hg] at hF; cases hF
  | some a =>
    rw [hg] at hF
    cases a with
    | inl a => exact k1 a hg o hF
    | inr q => exact k2 q.1 q.2 hg o hF
theorem sm_bt2 {γ : Type} {g : Option ((γ × Hp) ⊕ (Nat × Hp))} {X : Nat → Hp → Option β} {K : γ → Hp → Option β} (k2 : ∀ a h1, g = some (.inr (a, h1)) → Sm x em (X a h1) pc lv st h) (k1 : ∀ r h1, g = some (.inl (r, h1)) → Sm x em (K r h1) pc lv st h) : Sm x em (bt2 g X K) pc lv st h := by
  intro o hF
  cases hg : g with
  | none => rw [hg] at hF; cases hF
  | some a =>
    rw [hg] at hF
    cases a with
    | inl a => exact k1 a.1 a.2 hg o hF
    | inr q => exact k2 q.1 q.2 hg o hF
theorem sm_ifs {c : Prop} [Decidable c] (k1 : c → Sm x em A pc lv st h) (k2 : ¬ c → Sm x em B pc lv st h) : Sm x em (if c then A else B) pc lv st h := by
  by_cases hc : c
  · rw [if_pos hc]; exact k1 hc
  · rw [if_neg hc]; exact k2 hc
theorem sm_callST (C : Cx x cc own) (D : Cm x fr lo ret nL) {y : MethodName} {bytes : ByteArray} {maxL n fr' lo' idx : Nat} {rt : Option FieldType} {As sta : List AV} {q : Nat × Hp} (hm : MC y bytes maxL rt n) (hs : Cond.static y ∈ lw_all) (hl : Cond.methodLink own idx y ∈ lw_all) (hM : ∀ (l : Launch) (w : Wd), Wok w → Ct l w y (ws_ y bytes maxL rt) fr' lo' As h (.inr q))
    (hn : As.length = n) (hfr : fr' + 1 ≤ fr) (hlo : 8 + (maxL + 11) + lo' ≤ lo) (hsta : sta = As.reverse ++ st) (hsum : (st.map ac).sum ≤ 8) (hd : decode cc pc = .ok (.invokestatic idx, 3)) (kk : SmT x em F pc lv q.1 q.2) : Sm x em F pc lv sta h :=
  sm_callSG C D (Or.inl ⟨bytes, rfl⟩) (lw_meth hm.1) hm.2.1 hm.2.2 hs hl hM hn hfr hlo hsta hsum hd (fun o' e => by cases e) (fun q' e => by cases e; exact kk)
theorem sm_callVT (C : Cx x cc own) (D : Cm x fr lo ret nL) {y : MethodName} {bytes : ByteArray} {maxL n fr' lo' idx ci a : Nat} {rt : Option FieldType} {As sta : List AV} {q : Nat × Hp} (hm : MC y bytes maxL rt n) (hi : Cond.instanceMethod y ∈ lw_all) (hse : Cond.selects y.cls y y ∈ lw_all) (hc : ∃ q : vw_C, gCL[ci]? = some q ∧ q.1 = y.cls ∧ ci < 60) (hl : Cond.methodLink own idx y ∈ lw_all) (hM : ∀ (l : Launch) (w : Wd), Wok w → Ct l w y (ws_ y bytes maxL rt) fr' lo' (vR (ci + 1) a :: As) h (.inr q))
    (ha : a ≠ 0) (hn : As.length = n) (hfr : fr' + 1 ≤ fr) (hlo : 8 + (maxL + 11) + lo' ≤ lo) (hsta : sta = As.reverse ++ (vR (ci + 1) a :: st)) (hsum : (st.map ac).sum ≤ 8) (hd : decode cc pc = .ok (.invokevirtual idx, 3)) (kk : SmT x em F pc lv q.1 q.2) : Sm x em F pc lv sta h :=
  sm_callVG C D (Or.inl ⟨bytes, rfl⟩) (lw_meth hm.1) hm.2.1 hm.2.2 hi hse hc ha hl hM hn hfr hlo hsta hsum hd (fun o' e => by cases e) (fun q' e => by cases e; exact kk)
/-- the code word of a method with handlers -/
def MCW (y : MethodName) (bytes : ByteArray) (maxL : Nat) (rt : Option FieldType) (n : Nat) (tb : List (Nat × Nat × Nat × Nat)) : Prop := Cond.codeWith y bytes maxL rt tb ∈ lw_all ∧ Cond.initialized y.cls ∈ lw_all ∧ (y.cls ≠ "java/lang/invoke/MethodHandle" ∧ y.cls ≠ "java/lang/invoke/VarHandle" ∧ (parseMethodDescriptor y.desc).map (fun d => d.parameters.length) = some n)
theorem sm_callSW (C : Cx x cc own) (D : Cm x fr lo ret nL) {y : MethodName} {bytes : ByteArray} {maxL n fr' lo' idx : Nat} {rt : Option FieldType} {tb : List (Nat × Nat × Nat × Nat)} {As sta : List AV} {o : Option AV × Hp} (hm : MCW y bytes maxL rt n tb) (hs : Cond.static y ∈ lw_all) (hl : Cond.methodLink own idx y ∈ lw_all) (hM : ∀ (l : Launch) (w : Wd), Wok w → Ct l w y (Cond.codeWith y bytes maxL rt tb :: lw_all) fr' lo' As h (.inl o))
    (hn : As.length = n) (hfr : fr' + 1 ≤ fr) (hlo : 8 + (maxL + 11) + lo' ≤ lo) (hsta : sta = As.reverse ++ st) (hsum : (st.map ac).sum ≤ 8) (hd : decode cc pc = .ok (.invokestatic idx, 3)) (kk : Sm x em F (pc + 3) lv (o.1.toList ++ st) o.2) : Sm x em F pc lv sta h :=
  sm_callSG C D (Or.inr ⟨bytes, tb, rfl⟩) (lw_methW hm.1) hm.2.1 hm.2.2 hs hl hM hn hfr hlo hsta hsum hd (fun o' e => by cases e; exact kk) (fun q' e => by cases e)
end
