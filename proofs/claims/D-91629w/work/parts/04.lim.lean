/-! the run is a fixpoint -/
/-- how an instruction uses C, J, k -/
def Shp (F : (Nat → List AV → AH → Option Out) → (Nat → Ls → St → AH → Option Out) → (Ls → St → AH → Option Out) → Option Out) : Prop :=
  (∃ r, ∀ C J k, F C J k = r) ∨ (∃ a b c, ∀ C J k, F C J k = k a b c) ∨ (∃ t a b c, ∀ C J k, F C J k = J t a b c) ∨
  (∃ m args h t hp ls st, ∀ C J k, F C J k = retv t (C m args h) (match (hp : Option Nat) with
      | none => th
      | some t => fun a g => gd (g.kd a == 8) (J t ls [vR (some a)] g)) (fun st g => k ls st g) st)
theorem Shp.none : Shp (fun _ _ _ => none) := Or.inl ⟨_, fun _ _ _ => rfl⟩
theorem Shp.c (r : Option Out) : Shp (fun _ _ _ => r) := Or.inl ⟨_, fun _ _ _ => rfl⟩
theorem Shp.k (a : Ls) (b : St) (c : AH) : Shp (fun _ _ k => k a b c) := Or.inr (Or.inl ⟨a, b, c, fun _ _ _ => rfl⟩)
theorem Shp.j (t : Nat) (a : Ls) (b : St) (c : AH) : Shp (fun _ J _ => J t a b c) := Or.inr (Or.inr (Or.inl ⟨t, a, b, c, fun _ _ _ => rfl⟩))
theorem shp_gd {F : (Nat → List AV → AH → Option Out) → (Nat → Ls → St → AH → Option Out) → (Ls → St → AH → Option Out) → Option Out} (b : Bool) (h : Shp F) : Shp (fun C J k => gd b (F C J k)) := by
  cases b with
  | true => exact h
  | false => exact Shp.none
theorem shp_nn {F : Nat → (Nat → List AV → AH → Option Out) → (Nat → Ls → St → AH → Option Out) → (Ls → St → AH → Option Out) → Option Out} (o : Option Nat) (h : ∀ a, Shp (F a)) : Shp (fun C J k => nn o (fun a => F a C J k)) := by
  cases o with
  | none => exact Shp.none
  | some a => exact h a
theorem shp_swt (x : Int32) (d : Int) (ls : Ls) (st : St) (h : AH) (offs : List Int) (lo : Int) : Shp (fun _ J _ => swt x (J d.toNat ls st h) lo (offs.map (fun t => J t.toNat ls st h))) := by
  induction offs generalizing lo with
  | nil => exact Shp.j _ _ _ _
  | cons t l ih =>
    simp only [List.map_cons, swt]
    by_cases hx : x = Int32.ofInt lo
    · simp only [hx, if_true]
      exact Shp.j _ _ _ _
    · simp only [hx, if_false]
      exact ih (lo + 1)
theorem shp_swk (x : Int32) (d : Int) (ls : Ls) (st : St) (h : AH) (ps : List (Int × Int)) : Shp (fun _ J _ => swk x (J d.toNat ls st h) (ps.map (fun q => (q.1, J q.2.toNat ls st h)))) := by
  induction ps with
  | nil => exact Shp.j _ _ _ _
  | cons q l ih =>
    simp only [List.map_cons, swk]
    by_cases hx : x = Int32.ofInt q.1
    · simp only [hx, if_true]
      exact Shp.j _ _ _ _
    · simp only [hx, if_false]
      exact ih
theorem shp_ci (m : Nat) (args : List AV) (h : AH) (ls : Ls) (st : St) : Shp (fun C _ k => cI (C m args h) th (fun x g => k ls (vI x :: st) g)) :=
  Or.inr (Or.inr (Or.inr ⟨m, args, h, 1, none, ls, st, fun _ _ _ => rfl⟩))
theorem shp_iv (E : EV) (hp : Option Nat) (v : Nat) (ls : Ls) (st : St) (h : AH) : Shp (fun C J k => stp E C J hp (.invokevirtual v) ls st h k) := by
  by_cases h0 : v = 0
  · subst h0
    rcases st with _ | ⟨(x | x | x), st⟩
    · exact Shp.none
    · exact Shp.none
    · exact Shp.none
    · exact shp_nn _ (fun a => shp_gd _ (shp_ci _ _ _ _ _))
  · by_cases h1 : v = 1
    · subst h1
      rcases st with _ | ⟨x, _ | ⟨(y | y | y), st⟩⟩
      · exact Shp.none
      · rcases x with x | x | x <;> exact Shp.none
      · rcases x with x | x | x <;> exact Shp.none
      · rcases x with x | x | x <;> exact Shp.none
      · exact shp_nn _ (fun a => shp_gd _ (shp_ci _ _ _ _ _))
    · have e : ∀ C J k, stp E C J hp (.invokevirtual v) ls st h k = none := by
        intro C J k
        simp only [stp]
        split
        · exact absurd rfl h0
        · exact absurd rfl h1
        · rfl
      exact Or.inl ⟨_, e⟩
/-- CASES -/
theorem stp_shape (E : EV) (hp : Option Nat) (op : Instr) (ls : Ls) (st : St) (h : AH) : Shp (fun C J k => stp E C J hp op ls st h k) := by
  cases op with
  | iconst n => first | exact Shp.none | exact Shp.k _ _ _ | exact Shp.j _ _ _ _ | exact Shp.c _ | exact shp_gd _ (Shp.k _ _ _) | exact shp_gd _ (Shp.c _) | exact shp_nn _ (fun a => shp_gd _ (Shp.k _ _ _))
  | ldc2_w n => first | exact Shp.none | exact Shp.k _ _ _ | exact Shp.j _ _ _ _ | exact Shp.c _ | exact shp_gd _ (Shp.k _ _ _) | exact shp_gd _ (Shp.c _) | exact shp_nn _ (fun a => shp_gd _ (Shp.k _ _ _))
  | aconst_null => first | exact Shp.none | exact Shp.k _ _ _ | exact Shp.j _ _ _ _ | exact Shp.c _ | exact shp_gd _ (Shp.k _ _ _) | exact shp_gd _ (Shp.c _) | exact shp_nn _ (fun a => shp_gd _ (Shp.k _ _ _))
  | ldc s => first | exact Shp.none | exact Shp.k _ _ _ | exact Shp.j _ _ _ _ | exact Shp.c _ | exact shp_gd _ (Shp.k _ _ _) | exact shp_gd _ (Shp.c _) | exact shp_nn _ (fun a => shp_gd _ (Shp.k _ _ _))
  | getstatic s => first | exact Shp.none | exact Shp.k _ _ _ | exact Shp.j _ _ _ _ | exact Shp.c _ | exact shp_gd _ (Shp.k _ _ _) | exact shp_gd _ (Shp.c _) | exact shp_nn _ (fun a => shp_gd _ (Shp.k _ _ _))
  | ret s => first | exact Shp.none | exact Shp.k _ _ _ | exact Shp.j _ _ _ _ | exact Shp.c _ | exact shp_gd _ (Shp.k _ _ _) | exact shp_gd _ (Shp.c _) | exact shp_nn _ (fun a => shp_gd _ (Shp.k _ _ _))
  | goto t => first | exact Shp.none | exact Shp.k _ _ _ | exact Shp.j _ _ _ _ | exact Shp.c _ | exact shp_gd _ (Shp.k _ _ _) | exact shp_gd _ (Shp.c _) | exact shp_nn _ (fun a => shp_gd _ (Shp.k _ _ _))
  | return_ => first | exact Shp.none | exact Shp.k _ _ _ | exact Shp.j _ _ _ _ | exact Shp.c _ | exact shp_gd _ (Shp.k _ _ _) | exact shp_gd _ (Shp.c _) | exact shp_nn _ (fun a => shp_gd _ (Shp.k _ _ _))
  | new c => first | exact Shp.none | exact Shp.k _ _ _ | exact Shp.j _ _ _ _ | exact Shp.c _ | exact shp_gd _ (Shp.k _ _ _) | exact shp_gd _ (Shp.c _) | exact shp_nn _ (fun a => shp_gd _ (Shp.k _ _ _))
  | iload n =>
    have e : ∃ v, lget ls n = v := ⟨_, rfl⟩
    obtain ⟨v, e⟩ := e
    simp only [stp, e]
    rcases v with _ | (x | x | x) <;> first | exact Shp.none | exact Shp.k _ _ _ | exact Shp.j _ _ _ _ | exact Shp.c _ | exact shp_gd _ (Shp.k _ _ _) | exact shp_gd _ (Shp.c _) | exact shp_nn _ (fun a => shp_gd _ (Shp.k _ _ _))
  | lload n =>
    have e : ∃ v, lget ls n = v := ⟨_, rfl⟩
    obtain ⟨v, e⟩ := e
    simp only [stp, e]
    rcases v with _ | (x | x | x) <;> first | exact Shp.none | exact Shp.k _ _ _ | exact Shp.j _ _ _ _ | exact Shp.c _ | exact shp_gd _ (Shp.k _ _ _) | exact shp_gd _ (Shp.c _) | exact shp_nn _ (fun a => shp_gd _ (Shp.k _ _ _))
  | aload n =>
    have e : ∃ v, lget ls n = v := ⟨_, rfl⟩
    obtain ⟨v, e⟩ := e
    simp only [stp, e]
    rcases v with _ | (x | x | x) <;> first | exact Shp.none | exact Shp.k _ _ _ | exact Shp.j _ _ _ _ | exact Shp.c _ | exact shp_gd _ (Shp.k _ _ _) | exact shp_gd _ (Shp.c _) | exact shp_nn _ (fun a => shp_gd _ (Shp.k _ _ _))
  | iinc n c =>
    have e : ∃ v, lget ls n = v := ⟨_, rfl⟩
    obtain ⟨v, e⟩ := e
    simp only [stp, e]
    rcases v with _ | (x | x | x) <;> first | exact Shp.none | exact Shp.k _ _ _ | exact Shp.j _ _ _ _ | exact Shp.c _ | exact shp_gd _ (Shp.k _ _ _) | exact shp_gd _ (Shp.c _) | exact shp_nn _ (fun a => shp_gd _ (Shp.k _ _ _))
  | istore n => rcases st with _ | ⟨(x | x | x), st⟩ <;> first | exact Shp.none | exact Shp.k _ _ _ | exact Shp.j _ _ _ _ | exact Shp.c _ | exact shp_gd _ (Shp.k _ _ _) | exact shp_gd _ (Shp.c _) | exact shp_nn _ (fun a => shp_gd _ (Shp.k _ _ _))
  | lstore n => rcases st with _ | ⟨(x | x | x), st⟩ <;> first | exact Shp.none | exact Shp.k _ _ _ | exact Shp.j _ _ _ _ | exact Shp.c _ | exact shp_gd _ (Shp.k _ _ _) | exact shp_gd _ (Shp.c _) | exact shp_nn _ (fun a => shp_gd _ (Shp.k _ _ _))
  | astore n => rcases st with _ | ⟨(x | x | x), st⟩ <;> first | exact Shp.none | exact Shp.k _ _ _ | exact Shp.j _ _ _ _ | exact Shp.c _ | exact shp_gd _ (Shp.k _ _ _) | exact shp_gd _ (Shp.c _) | exact shp_nn _ (fun a => shp_gd _ (Shp.k _ _ _))
  | ineg => rcases st with _ | ⟨(x | x | x), st⟩ <;> first | exact Shp.none | exact Shp.k _ _ _ | exact Shp.j _ _ _ _ | exact Shp.c _ | exact shp_gd _ (Shp.k _ _ _) | exact shp_gd _ (Shp.c _) | exact shp_nn _ (fun a => shp_gd _ (Shp.k _ _ _))
  | i2l => rcases st with _ | ⟨(x | x | x), st⟩ <;> first | exact Shp.none | exact Shp.k _ _ _ | exact Shp.j _ _ _ _ | exact Shp.c _ | exact shp_gd _ (Shp.k _ _ _) | exact shp_gd _ (Shp.c _) | exact shp_nn _ (fun a => shp_gd _ (Shp.k _ _ _))
  | l2i => rcases st with _ | ⟨(x | x | x), st⟩ <;> first | exact Shp.none | exact Shp.k _ _ _ | exact Shp.j _ _ _ _ | exact Shp.c _ | exact shp_gd _ (Shp.k _ _ _) | exact shp_gd _ (Shp.c _) | exact shp_nn _ (fun a => shp_gd _ (Shp.k _ _ _))
  | i2b => rcases st with _ | ⟨(x | x | x), st⟩ <;> first | exact Shp.none | exact Shp.k _ _ _ | exact Shp.j _ _ _ _ | exact Shp.c _ | exact shp_gd _ (Shp.k _ _ _) | exact shp_gd _ (Shp.c _) | exact shp_nn _ (fun a => shp_gd _ (Shp.k _ _ _))
  | i2c => rcases st with _ | ⟨(x | x | x), st⟩ <;> first | exact Shp.none | exact Shp.k _ _ _ | exact Shp.j _ _ _ _ | exact Shp.c _ | exact shp_gd _ (Shp.k _ _ _) | exact shp_gd _ (Shp.c _) | exact shp_nn _ (fun a => shp_gd _ (Shp.k _ _ _))
  | fload f => rcases st with _ | ⟨(x | x | x), st⟩ <;> first | exact Shp.none | exact Shp.k _ _ _ | exact Shp.j _ _ _ _ | exact Shp.c _ | exact shp_gd _ (Shp.k _ _ _) | exact shp_gd _ (Shp.c _) | exact shp_nn _ (fun a => shp_gd _ (Shp.k _ _ _))
  | dload f => rcases st with _ | ⟨(x | x | x), st⟩ <;> first | exact Shp.none | exact Shp.k _ _ _ | exact Shp.j _ _ _ _ | exact Shp.c _ | exact shp_gd _ (Shp.k _ _ _) | exact shp_gd _ (Shp.c _) | exact shp_nn _ (fun a => shp_gd _ (Shp.k _ _ _))
  | getfield f => rcases st with _ | ⟨(x | x | x), st⟩ <;> first | exact Shp.none | exact Shp.k _ _ _ | exact Shp.j _ _ _ _ | exact Shp.c _ | exact shp_gd _ (Shp.k _ _ _) | exact shp_gd _ (Shp.c _) | exact shp_nn _ (fun a => shp_gd _ (Shp.k _ _ _))
  | anewarray c => rcases st with _ | ⟨(x | x | x), st⟩ <;> first | exact Shp.none | exact Shp.k _ _ _ | exact Shp.j _ _ _ _ | exact Shp.c _ | exact shp_gd _ (Shp.k _ _ _) | exact shp_gd _ (Shp.c _) | exact shp_nn _ (fun a => shp_gd _ (Shp.k _ _ _))
  | arraylength => rcases st with _ | ⟨(x | x | x), st⟩ <;> first | exact Shp.none | exact Shp.k _ _ _ | exact Shp.j _ _ _ _ | exact Shp.c _ | exact shp_gd _ (Shp.k _ _ _) | exact shp_gd _ (Shp.c _) | exact shp_nn _ (fun a => shp_gd _ (Shp.k _ _ _))
  | ireturn => rcases st with _ | ⟨(x | x | x), st⟩ <;> first | exact Shp.none | exact Shp.k _ _ _ | exact Shp.j _ _ _ _ | exact Shp.c _ | exact shp_gd _ (Shp.k _ _ _) | exact shp_gd _ (Shp.c _) | exact shp_nn _ (fun a => shp_gd _ (Shp.k _ _ _))
  | freturn => rcases st with _ | ⟨(x | x | x), st⟩ <;> first | exact Shp.none | exact Shp.k _ _ _ | exact Shp.j _ _ _ _ | exact Shp.c _ | exact shp_gd _ (Shp.k _ _ _) | exact shp_gd _ (Shp.c _) | exact shp_nn _ (fun a => shp_gd _ (Shp.k _ _ _))
  | dreturn => rcases st with _ | ⟨(x | x | x), st⟩ <;> first | exact Shp.none | exact Shp.k _ _ _ | exact Shp.j _ _ _ _ | exact Shp.c _ | exact shp_gd _ (Shp.k _ _ _) | exact shp_gd _ (Shp.c _) | exact shp_nn _ (fun a => shp_gd _ (Shp.k _ _ _))
  | swap => rcases st with _ | ⟨(x | x | x), st⟩ <;> first | exact Shp.none | exact Shp.k _ _ _ | exact Shp.j _ _ _ _ | exact Shp.c _ | exact shp_gd _ (Shp.k _ _ _) | exact shp_gd _ (Shp.c _) | exact shp_nn _ (fun a => shp_gd _ (Shp.k _ _ _))
  | lreturn => rcases st with _ | ⟨(x | x | x), st⟩ <;> first | exact Shp.none | exact Shp.k _ _ _ | exact Shp.j _ _ _ _ | exact Shp.c _ | exact shp_gd _ (Shp.k _ _ _) | exact shp_gd _ (Shp.c _) | exact shp_nn _ (fun a => shp_gd _ (Shp.k _ _ _))
  | areturn => rcases st with _ | ⟨(x | x | x), st⟩ <;> first | exact Shp.none | exact Shp.k _ _ _ | exact Shp.j _ _ _ _ | exact Shp.c _ | exact shp_gd _ (Shp.k _ _ _) | exact shp_gd _ (Shp.c _) | exact shp_nn _ (fun a => shp_gd _ (Shp.k _ _ _))
  | checkcast c => rcases st with _ | ⟨(x | x | x), st⟩ <;> first | exact Shp.none | exact Shp.k _ _ _ | exact Shp.j _ _ _ _ | exact Shp.c _ | exact shp_gd _ (Shp.k _ _ _) | exact shp_gd _ (Shp.c _) | exact shp_nn _ (fun a => shp_gd _ (Shp.k _ _ _))
  | dup => rcases st with _ | ⟨(x | x | x), st⟩ <;> first | exact Shp.none | exact Shp.k _ _ _ | exact Shp.j _ _ _ _ | exact Shp.c _ | exact shp_gd _ (Shp.k _ _ _) | exact shp_gd _ (Shp.c _) | exact shp_nn _ (fun a => shp_gd _ (Shp.k _ _ _))
  | pop => rcases st with _ | ⟨(x | x | x), st⟩ <;> first | exact Shp.none | exact Shp.k _ _ _ | exact Shp.j _ _ _ _ | exact Shp.c _ | exact shp_gd _ (Shp.k _ _ _) | exact shp_gd _ (Shp.c _) | exact shp_nn _ (fun a => shp_gd _ (Shp.k _ _ _))
  | pop2 => rcases st with _ | ⟨(x | x | (_ | x)), st⟩ <;> first | exact Shp.none | exact Shp.k _ _ _ | exact Shp.j _ _ _ _ | exact Shp.c _ | exact shp_gd _ (Shp.k _ _ _) | exact shp_gd _ (Shp.c _) | exact shp_nn _ (fun a => shp_gd _ (Shp.k _ _ _))
  | iadd => rcases st with _ | ⟨(x | x | x), _ | ⟨(y | y | y), st⟩⟩ <;> first | exact Shp.none | exact Shp.k _ _ _ | exact Shp.j _ _ _ _ | exact Shp.c _ | exact shp_gd _ (Shp.k _ _ _) | exact shp_gd _ (Shp.c _) | exact shp_nn _ (fun a => shp_gd _ (Shp.k _ _ _))
  | isub => rcases st with _ | ⟨(x | x | x), _ | ⟨(y | y | y), st⟩⟩ <;> first | exact Shp.none | exact Shp.k _ _ _ | exact Shp.j _ _ _ _ | exact Shp.c _ | exact shp_gd _ (Shp.k _ _ _) | exact shp_gd _ (Shp.c _) | exact shp_nn _ (fun a => shp_gd _ (Shp.k _ _ _))
  | imul => rcases st with _ | ⟨(x | x | x), _ | ⟨(y | y | y), st⟩⟩ <;> first | exact Shp.none | exact Shp.k _ _ _ | exact Shp.j _ _ _ _ | exact Shp.c _ | exact shp_gd _ (Shp.k _ _ _) | exact shp_gd _ (Shp.c _) | exact shp_nn _ (fun a => shp_gd _ (Shp.k _ _ _))
  | iand => rcases st with _ | ⟨(x | x | x), _ | ⟨(y | y | y), st⟩⟩ <;> first | exact Shp.none | exact Shp.k _ _ _ | exact Shp.j _ _ _ _ | exact Shp.c _ | exact shp_gd _ (Shp.k _ _ _) | exact shp_gd _ (Shp.c _) | exact shp_nn _ (fun a => shp_gd _ (Shp.k _ _ _))
  | ior => rcases st with _ | ⟨(x | x | x), _ | ⟨(y | y | y), st⟩⟩ <;> first | exact Shp.none | exact Shp.k _ _ _ | exact Shp.j _ _ _ _ | exact Shp.c _ | exact shp_gd _ (Shp.k _ _ _) | exact shp_gd _ (Shp.c _) | exact shp_nn _ (fun a => shp_gd _ (Shp.k _ _ _))
  | ixor => rcases st with _ | ⟨(x | x | x), _ | ⟨(y | y | y), st⟩⟩ <;> first | exact Shp.none | exact Shp.k _ _ _ | exact Shp.j _ _ _ _ | exact Shp.c _ | exact shp_gd _ (Shp.k _ _ _) | exact shp_gd _ (Shp.c _) | exact shp_nn _ (fun a => shp_gd _ (Shp.k _ _ _))
  | ishl => rcases st with _ | ⟨(x | x | x), _ | ⟨(y | y | y), st⟩⟩ <;> first | exact Shp.none | exact Shp.k _ _ _ | exact Shp.j _ _ _ _ | exact Shp.c _ | exact shp_gd _ (Shp.k _ _ _) | exact shp_gd _ (Shp.c _) | exact shp_nn _ (fun a => shp_gd _ (Shp.k _ _ _))
  | ishr => rcases st with _ | ⟨(x | x | x), _ | ⟨(y | y | y), st⟩⟩ <;> first | exact Shp.none | exact Shp.k _ _ _ | exact Shp.j _ _ _ _ | exact Shp.c _ | exact shp_gd _ (Shp.k _ _ _) | exact shp_gd _ (Shp.c _) | exact shp_nn _ (fun a => shp_gd _ (Shp.k _ _ _))
  | iushr => rcases st with _ | ⟨(x | x | x), _ | ⟨(y | y | y), st⟩⟩ <;> first | exact Shp.none | exact Shp.k _ _ _ | exact Shp.j _ _ _ _ | exact Shp.c _ | exact shp_gd _ (Shp.k _ _ _) | exact shp_gd _ (Shp.c _) | exact shp_nn _ (fun a => shp_gd _ (Shp.k _ _ _))
  | idiv => rcases st with _ | ⟨(x | x | x), _ | ⟨(y | y | y), st⟩⟩ <;> first | exact Shp.none | exact Shp.k _ _ _ | exact Shp.j _ _ _ _ | exact Shp.c _ | exact shp_gd _ (Shp.k _ _ _) | exact shp_gd _ (Shp.c _) | exact shp_nn _ (fun a => shp_gd _ (Shp.k _ _ _))
  | irem => rcases st with _ | ⟨(x | x | x), _ | ⟨(y | y | y), st⟩⟩ <;> first | exact Shp.none | exact Shp.k _ _ _ | exact Shp.j _ _ _ _ | exact Shp.c _ | exact shp_gd _ (Shp.k _ _ _) | exact shp_gd _ (Shp.c _) | exact shp_nn _ (fun a => shp_gd _ (Shp.k _ _ _))
  | ladd => rcases st with _ | ⟨(x | x | x), _ | ⟨(y | y | y), st⟩⟩ <;> first | exact Shp.none | exact Shp.k _ _ _ | exact Shp.j _ _ _ _ | exact Shp.c _ | exact shp_gd _ (Shp.k _ _ _) | exact shp_gd _ (Shp.c _) | exact shp_nn _ (fun a => shp_gd _ (Shp.k _ _ _))
  | lmul => rcases st with _ | ⟨(x | x | x), _ | ⟨(y | y | y), st⟩⟩ <;> first | exact Shp.none | exact Shp.k _ _ _ | exact Shp.j _ _ _ _ | exact Shp.c _ | exact shp_gd _ (Shp.k _ _ _) | exact shp_gd _ (Shp.c _) | exact shp_nn _ (fun a => shp_gd _ (Shp.k _ _ _))
  | lor => rcases st with _ | ⟨(x | x | x), _ | ⟨(y | y | y), st⟩⟩ <;> first | exact Shp.none | exact Shp.k _ _ _ | exact Shp.j _ _ _ _ | exact Shp.c _ | exact shp_gd _ (Shp.k _ _ _) | exact shp_gd _ (Shp.c _) | exact shp_nn _ (fun a => shp_gd _ (Shp.k _ _ _))
  | ldiv => rcases st with _ | ⟨(x | x | x), _ | ⟨(y | y | y), st⟩⟩ <;> first | exact Shp.none | exact Shp.k _ _ _ | exact Shp.j _ _ _ _ | exact Shp.c _ | exact shp_gd _ (Shp.k _ _ _) | exact shp_gd _ (Shp.c _) | exact shp_nn _ (fun a => shp_gd _ (Shp.k _ _ _))
  | lshl => rcases st with _ | ⟨(x | x | x), _ | ⟨(y | y | y), st⟩⟩ <;> first | exact Shp.none | exact Shp.k _ _ _ | exact Shp.j _ _ _ _ | exact Shp.c _ | exact shp_gd _ (Shp.k _ _ _) | exact shp_gd _ (Shp.c _) | exact shp_nn _ (fun a => shp_gd _ (Shp.k _ _ _))
  | lcmp => rcases st with _ | ⟨(x | x | x), _ | ⟨(y | y | y), st⟩⟩ <;> first | exact Shp.none | exact Shp.k _ _ _ | exact Shp.j _ _ _ _ | exact Shp.c _ | exact shp_gd _ (Shp.k _ _ _) | exact shp_gd _ (Shp.c _) | exact shp_nn _ (fun a => shp_gd _ (Shp.k _ _ _))
  | iaload => rcases st with _ | ⟨(x | x | x), _ | ⟨(y | y | y), st⟩⟩ <;> first | exact Shp.none | exact Shp.k _ _ _ | exact Shp.j _ _ _ _ | exact Shp.c _ | exact shp_gd _ (Shp.k _ _ _) | exact shp_gd _ (Shp.c _) | exact shp_nn _ (fun a => shp_gd _ (Shp.k _ _ _))
  | baload => rcases st with _ | ⟨(x | x | x), _ | ⟨(y | y | y), st⟩⟩ <;> first | exact Shp.none | exact Shp.k _ _ _ | exact Shp.j _ _ _ _ | exact Shp.c _ | exact shp_gd _ (Shp.k _ _ _) | exact shp_gd _ (Shp.c _) | exact shp_nn _ (fun a => shp_gd _ (Shp.k _ _ _))
  | laload => rcases st with _ | ⟨(x | x | x), _ | ⟨(y | y | y), st⟩⟩ <;> first | exact Shp.none | exact Shp.k _ _ _ | exact Shp.j _ _ _ _ | exact Shp.c _ | exact shp_gd _ (Shp.k _ _ _) | exact shp_gd _ (Shp.c _) | exact shp_nn _ (fun a => shp_gd _ (Shp.k _ _ _))
  | aaload => rcases st with _ | ⟨(x | x | x), _ | ⟨(y | y | y), st⟩⟩ <;> first | exact Shp.none | exact Shp.k _ _ _ | exact Shp.j _ _ _ _ | exact Shp.c _ | exact shp_gd _ (Shp.k _ _ _) | exact shp_gd _ (Shp.c _) | exact shp_nn _ (fun a => shp_gd _ (Shp.k _ _ _))
  | dup_x1 => rcases st with _ | ⟨(x | x | x), _ | ⟨(y | y | y), st⟩⟩ <;> first | exact Shp.none | exact Shp.k _ _ _ | exact Shp.j _ _ _ _ | exact Shp.c _ | exact shp_gd _ (Shp.k _ _ _) | exact shp_gd _ (Shp.c _) | exact shp_nn _ (fun a => shp_gd _ (Shp.k _ _ _))
  | dup2 => rcases st with _ | ⟨(x | x | x), _ | ⟨(y | y | y), st⟩⟩ <;> first | exact Shp.none | exact Shp.k _ _ _ | exact Shp.j _ _ _ _ | exact Shp.c _ | exact shp_gd _ (Shp.k _ _ _) | exact shp_gd _ (Shp.c _) | exact shp_nn _ (fun a => shp_gd _ (Shp.k _ _ _))
  | fstore f => rcases st with _ | ⟨(x | x | x), _ | ⟨(y | y | y), st⟩⟩ <;> first | exact Shp.none | exact Shp.k _ _ _ | exact Shp.j _ _ _ _ | exact Shp.c _ | exact shp_gd _ (Shp.k _ _ _) | exact shp_gd _ (Shp.c _) | exact shp_nn _ (fun a => shp_gd _ (Shp.k _ _ _))
  | dstore f => rcases st with _ | ⟨(x | x | x), _ | ⟨(y | y | y), st⟩⟩ <;> first | exact Shp.none | exact Shp.k _ _ _ | exact Shp.j _ _ _ _ | exact Shp.c _ | exact shp_gd _ (Shp.k _ _ _) | exact shp_gd _ (Shp.c _) | exact shp_nn _ (fun a => shp_gd _ (Shp.k _ _ _))
  | putfield f => rcases st with _ | ⟨(x | x | x), _ | ⟨(y | y | y), st⟩⟩ <;> first | exact Shp.none | exact Shp.k _ _ _ | exact Shp.j _ _ _ _ | exact Shp.c _ | exact shp_gd _ (Shp.k _ _ _) | exact shp_gd _ (Shp.c _) | exact shp_nn _ (fun a => shp_gd _ (Shp.k _ _ _))
  | iastore => rcases st with _ | ⟨(x | x | x), _ | ⟨(y | y | y), _ | ⟨(z | z | z), st⟩⟩⟩ <;> first | exact Shp.none | exact Shp.k _ _ _ | exact Shp.j _ _ _ _ | exact Shp.c _ | exact shp_gd _ (Shp.k _ _ _) | exact shp_gd _ (Shp.c _) | exact shp_nn _ (fun a => shp_gd _ (Shp.k _ _ _))
  | bastore => rcases st with _ | ⟨(x | x | x), _ | ⟨(y | y | y), _ | ⟨(z | z | z), st⟩⟩⟩ <;> first | exact Shp.none | exact Shp.k _ _ _ | exact Shp.j _ _ _ _ | exact Shp.c _ | exact shp_gd _ (Shp.k _ _ _) | exact shp_gd _ (Shp.c _) | exact shp_nn _ (fun a => shp_gd _ (Shp.k _ _ _))
  | lastore => rcases st with _ | ⟨(x | x | x), _ | ⟨(y | y | y), _ | ⟨(z | z | z), st⟩⟩⟩ <;> first | exact Shp.none | exact Shp.k _ _ _ | exact Shp.j _ _ _ _ | exact Shp.c _ | exact shp_gd _ (Shp.k _ _ _) | exact shp_gd _ (Shp.c _) | exact shp_nn _ (fun a => shp_gd _ (Shp.k _ _ _))
  | aastore => rcases st with _ | ⟨(x | x | x), _ | ⟨(y | y | y), _ | ⟨(z | z | z), st⟩⟩⟩ <;> first | exact Shp.none | exact Shp.k _ _ _ | exact Shp.j _ _ _ _ | exact Shp.c _ | exact shp_gd _ (Shp.k _ _ _) | exact shp_gd _ (Shp.c _) | exact shp_nn _ (fun a => shp_gd _ (Shp.k _ _ _))
  | instanceof c => rcases st with _ | ⟨(x | x | (_ | x)), st⟩ <;> first | exact Shp.none | exact Shp.k _ _ _ | exact Shp.j _ _ _ _ | exact Shp.c _ | exact shp_gd _ (Shp.k _ _ _) | exact shp_gd _ (Shp.c _) | exact shp_nn _ (fun a => shp_gd _ (Shp.k _ _ _))
  | ifCond c t =>
    rcases st with _ | ⟨(x | x | x), st⟩
    · exact Shp.none
    · cases c <;> simp only [stp, ifC] <;> (split <;> first | exact Shp.k _ _ _ | exact Shp.j _ _ _ _)
    · exact Shp.none
    · exact Shp.none
  | if_icmp c t =>
    rcases st with _ | ⟨(x | x | x), _ | ⟨(y | y | y), st⟩⟩ <;> first | exact Shp.none | (cases c <;> simp only [stp, ifC] <;> (split <;> first | exact Shp.k _ _ _ | exact Shp.j _ _ _ _))
  | if_acmp c t =>
    rcases st with _ | ⟨(x | x | x), _ | ⟨(y | y | y), st⟩⟩ <;> first | exact Shp.none | (cases c <;> simp only [stp] <;> (split <;> first | exact Shp.k _ _ _ | exact Shp.j _ _ _ _))
  | ifnull t =>
    rcases st with _ | ⟨(x | x | x), st⟩ <;> first | exact Shp.none | (simp only [stp] <;> (split <;> first | exact Shp.k _ _ _ | exact Shp.j _ _ _ _))
  | ifnonnull t =>
    rcases st with _ | ⟨(x | x | x), st⟩ <;> first | exact Shp.none | (simp only [stp] <;> (split <;> first | exact Shp.k _ _ _ | exact Shp.j _ _ _ _))
  | tableswitch d lo hi offs =>
    rcases st with _ | ⟨(x | x | x), st⟩ <;> first | exact Shp.none | exact shp_swt _ _ _ _ _ _ _
  | lookupswitch d ps =>
    rcases st with _ | ⟨(x | x | x), st⟩ <;> first | exact Shp.none | exact shp_swk _ _ _ _ _ _
  | athrow => rcases hp with _ | hp <;> (rcases st with _ | ⟨(x | x | x), st⟩ <;> first | exact Shp.none | exact shp_nn _ (fun a => Shp.c _))
  | multianewarray c d =>
    by_cases h2 : d = 2
    · subst h2; rcases st with _ | ⟨(x | x | x), _ | ⟨(y | y | y), st⟩⟩ <;> first | exact Shp.none | exact Shp.k _ _ _ | exact Shp.j _ _ _ _ | exact Shp.c _ | exact shp_gd _ (Shp.k _ _ _) | exact shp_gd _ (Shp.c _) | exact shp_nn _ (fun a => shp_gd _ (Shp.k _ _ _))
    · by_cases h4 : d = 4
      · subst h4
        rcases st with _ | ⟨(x | x | x), _ | ⟨(y | y | y), _ | ⟨(z | z | z), _ | ⟨(q | q | q), st⟩⟩⟩⟩ <;> first | exact Shp.none | exact Shp.k _ _ _ | exact Shp.j _ _ _ _ | exact Shp.c _ | exact shp_gd _ (Shp.k _ _ _) | exact shp_gd _ (Shp.c _) | exact shp_nn _ (fun a => shp_gd _ (Shp.k _ _ _))
      · have e : ∀ C J k, stp E C J hp (.multianewarray c d) ls st h k = none := by
          intro C J k
          simp only [stp]
          split
          · exact absurd rfl h2
          · exact absurd rfl h4
          · rfl
        exact Or.inl ⟨_, e⟩
  | invokeinterface m c => exact shp_gd _ (Or.inr (Or.inr (Or.inr ⟨_, _, h, _, hp, ls, _, fun _ _ _ => rfl⟩)))
  | invokevirtual v => exact shp_iv E hp v ls st h
  | _ => exact Shp.none
theorem retv_mono {t : Nat} {r0 : Option Out} {p p' : Nat → AH → Option Out} {k k' : St → AH → Option Out} {st : St} {r : Out} (hp : ∀ a g r, p a g = some r → p' a g = some r) (hk : ∀ s g r, k s g = some r → k' s g = some r) (h : retv t r0 p k st = some r) : retv t r0 p' k' st = some r := by
  unfold retv at h ⊢
  split at h
  · unfold cV at h ⊢
    split at h
    · exact hk _ _ _ h
    · exact hp _ _ _ h
    · cases h
  · unfold cI at h ⊢
    split at h
    · exact hk _ _ _ h
    · exact hp _ _ _ h
    · cases h
  · unfold cL at h ⊢
    split at h
    · exact hk _ _ _ h
    · exact hp _ _ _ h
    · cases h
  · unfold cR at h ⊢
    split at h
    · exact hk _ _ _ h
    · exact hp _ _ _ h
    · cases h
theorem retv_some {t : Nat} {r0 : Option Out} {p : Nat → AH → Option Out} {k : St → AH → Option Out} {st : St} {r : Out} (h : retv t r0 p k st = some r) : ∃ o, r0 = some o := by
  cases r0 with
  | some o => exact ⟨o, rfl⟩
  | none =>
    unfold retv at h
    split at h <;> simp [cV, cI, cL, cR] at h
/-- what a call's outcome is handed to -/
theorem retv_use {t : Nat} {o : Out} {p : Nat → AH → Option Out} {k : St → AH → Option Out} {st : St} {r : Out} (h : retv t (some o) p k st = some r) : (∃ a g, p a g = some r ∧ ∀ p' k', retv t (some o) p' k' st = p' a g) ∨ (∃ s g, k s g = some r ∧ ∀ p' k', retv t (some o) p' k' st = k' s g) := by
  obtain ⟨v, g⟩ := o
  match t, v, h with
  | 0, Sum.inl none, h => exact Or.inr ⟨_, _, h, fun _ _ => rfl⟩
  | 0, Sum.inr a, h => exact Or.inl ⟨_, _, h, fun _ _ => rfl⟩
  | 1, Sum.inl (some (Sum.inl x)), h => exact Or.inr ⟨_, _, h, fun _ _ => rfl⟩
  | 1, Sum.inr a, h => exact Or.inl ⟨_, _, h, fun _ _ => rfl⟩
  | 2, Sum.inl (some (Sum.inr (Sum.inl x))), h => exact Or.inr ⟨_, _, h, fun _ _ => rfl⟩
  | 2, Sum.inr a, h => exact Or.inl ⟨_, _, h, fun _ _ => rfl⟩
  | t + 3, Sum.inl (some (Sum.inr (Sum.inr x))), h => exact Or.inr ⟨_, _, h, fun _ _ => rfl⟩
  | t + 3, Sum.inr a, h => exact Or.inl ⟨_, _, h, fun _ _ => rfl⟩
section Mono
variable {C C' : Nat → List AV → AH → Option Out} {J J' : Nat → Ls → St → AH → Option Out} {k k' : Ls → St → AH → Option Out}
theorem shp_mono {F : (Nat → List AV → AH → Option Out) → (Nat → Ls → St → AH → Option Out) → (Ls → St → AH → Option Out) → Option Out} (hF : Shp F) (hC : ∀ m a h r, C m a h = some r → C' m a h = some r) (hJ : ∀ t a b c r, J t a b c = some r → J' t a b c = some r) (hk : ∀ a b c r, k a b c = some r → k' a b c = some r) {r : Out} (h : F C J k = some r) : F C' J' k' = some r := by
  rcases hF with ⟨r0, e⟩ | ⟨a, b, c, e⟩ | ⟨t, a, b, c, e⟩ | ⟨m, args, g, t, hp, ls, st, e⟩
  · rw [e] at h ⊢; exact h
  · rw [e] at h ⊢; exact hk _ _ _ _ h
  · rw [e] at h ⊢; exact hJ _ _ _ _ _ h
  · rw [e] at h ⊢
    obtain ⟨o, ho⟩ := retv_some h
    rw [ho] at h
    rw [hC _ _ _ _ ho]
    refine retv_mono ?_ (fun s g r q => hk _ _ _ _ q) h
    intro a g r q
    cases hp with
    | none => exact q
    | some t =>
      revert q
      show gd _ _ = _ → gd _ _ = _
      cases (AH.kd g a == 8) with
      | true => exact fun q => hJ _ _ _ _ _ q
      | false => exact fun q => q
theorem blk_mono (E : EV) (hp : Option Nat) (hC : ∀ m a h r, C m a h = some r → C' m a h = some r) (hJ : ∀ t a b c r, J t a b c = some r → J' t a b c = some r) : ∀ (l : List (Nat × Instr)) (nx : Nat) (ls : Ls) (st : St) (h : AH) (r : Out), blk E C J hp l nx ls st h = some r → blk E C' J' hp l nx ls st h = some r := by
  intro l
  induction l with
  | nil => intro nx ls st h r q; exact hJ _ _ _ _ _ q
  | cons x l ih =>
    intro nx ls st h r q
    exact shp_mono (stp_shape E hp x.2 ls st h) hC hJ (fun a b c r q => ih nx a b c r q) q
end Mono
section Cont
variable {C : Nat → Nat → List AV → AH → Option Out} {J : Nat → Nat → Ls → St → AH → Option Out} {k : Nat → Ls → St → AH → Option Out} {C' : Nat → List AV → AH → Option Out} {J' : Nat → Ls → St → AH → Option Out} {k' : Ls → St → AH → Option Out}
theorem shp_cont {F : (Nat → List AV → AH → Option Out) → (Nat → Ls → St → AH → Option Out) → (Ls → St → AH → Option Out) → Option Out} (hF : Shp F)
    (mC : ∀ n n' m a h r, n ≤ n' → C n m a h = some r → C n' m a h = some r) (mJ : ∀ n n' t a b c r, n ≤ n' → J n t a b c = some r → J n' t a b c = some r) (mk : ∀ n n' a b c r, n ≤ n' → k n a b c = some r → k n' a b c = some r)
    (hC : ∀ m a h r, C' m a h = some r → ∃ n, C n m a h = some r) (hJ : ∀ t a b c r, J' t a b c = some r → ∃ n, J n t a b c = some r) (hk : ∀ a b c r, k' a b c = some r → ∃ n, k n a b c = some r) {r : Out} (h : F C' J' k' = some r) : ∃ n, F (C n) (J n) (k n) = some r := by
  rcases hF with ⟨r0, e⟩ | ⟨a, b, c, e⟩ | ⟨t, a, b, c, e⟩ | ⟨m, args, g, t, hp, ls, st, e⟩
  · rw [e] at h; exact ⟨0, by rw [e]; exact h⟩
  · rw [e] at h
    obtain ⟨n, q⟩ := hk _ _ _ _ h
    exact ⟨n, by rw [e]; exact q⟩
  · rw [e] at h
    obtain ⟨n, q⟩ := hJ _ _ _ _ _ h
    exact ⟨n, by rw [e]; exact q⟩
  · rw [e] at h
    obtain ⟨o, ho⟩ := retv_some h
    rw [ho] at h
    obtain ⟨n, hn⟩ := hC _ _ _ _ ho
    rcases retv_use h with ⟨a, g', q, f⟩ | ⟨s, g', q, f⟩
    · cases hp with
      | none => exact ⟨n, by rw [e, hn, f]; exact q⟩
      | some t' =>
        have q2 : gd (AH.kd g' a == 8) (J' t' ls [vR (some a)] g') = some r := q
        cases hb : (AH.kd g' a == 8) with
        | false => rw [hb] at q2; cases q2
        | true =>
          rw [hb] at q2
          obtain ⟨n', hn'⟩ := hJ _ _ _ _ _ q2
          refine ⟨max n n', ?_⟩
          rw [e, mC n _ _ _ _ _ (Nat.le_max_left _ _) hn, f]
          show gd (AH.kd g' a == 8) _ = _
          rw [hb]
          exact mJ _ _ _ _ _ _ _ (Nat.le_max_right _ _) hn'
    · obtain ⟨n', hn'⟩ := hk _ _ _ _ q
      refine ⟨max n n', ?_⟩
      rw [e, mC n _ _ _ _ _ (Nat.le_max_left _ _) hn, f]
      exact mk _ _ _ _ _ _ (Nat.le_max_right _ _) hn'
theorem blk_cont (E : EV) (hp : Option Nat) (mC : ∀ n n' m a h r, n ≤ n' → C n m a h = some r → C n' m a h = some r) (mJ : ∀ n n' t a b c r, n ≤ n' → J n t a b c = some r → J n' t a b c = some r)
    (hC : ∀ m a h r, C' m a h = some r → ∃ n, C n m a h = some r) (hJ : ∀ t a b c r, J' t a b c = some r → ∃ n, J n t a b c = some r) :
    ∀ (l : List (Nat × Instr)) (nx : Nat) (ls : Ls) (st : St) (h : AH) (r : Out), blk E C' J' hp l nx ls st h = some r → ∃ n, blk E (C n) (J n) hp l nx ls st h = some r := by
  intro l
  induction l with
  | nil => intro nx ls st h r q; exact hJ _ _ _ _ _ q
  | cons x l ih =>
    intro nx ls st h r q
    exact shp_cont (k := fun n ls st h => blk E (C n) (J n) hp l nx ls st h) (stp_shape E hp x.2 ls st h) mC mJ (fun n n' a b c r hn q => blk_mono E hp (fun m a h r => mC n n' m a h r hn) (fun t a b c r => mJ n n' t a b c r hn) l nx a b c r q) hC hJ (fun a b c r q => ih nx a b c r q) q
end Cont
theorem calF_mono {E : EV} {F F' : Nat → Nat → Nat → Ls → St → AH → Option Out} (h : ∀ d m pc ls st g r, F d m pc ls st g = some r → F' d m pc ls st g = some r) : ∀ d m a g r, calF E F d m a g = some r → calF E F' d m a g = some r := by
  intro d m a g r q
  cases d with
  | zero => exact q
  | succ d =>
    unfold calF at q ⊢
    dsimp only at q ⊢
    split at q
    · revert q
      cases (decide ((laya a).length ≤ nloc m) && lok (lsl m) 0 (laya a)) with
      | true => exact fun q => h _ _ _ _ _ _ _ q
      | false => exact fun q => q
    · exact q
theorem rnN_mono1 (E : EV) : ∀ n d m pc ls st h r, rnN E n d m pc ls st h = some r → rnN E (n + 1) d m pc ls st h = some r := by
  intro n
  induction n with
  | zero => intro d m pc ls st h r q; cases q
  | succ n ih =>
    intro d m pc ls st h r q
    unfold rnN at q ⊢
    split at q
    · exact blk_mono E _ (fun m a g r => calF_mono ih d m a g r) (fun t a b c r => ih d m t a b c r) _ _ _ _ _ _ q
    · cases q
theorem rnN_mono (E : EV) : ∀ n n', n ≤ n' → ∀ d m pc ls st h r, rnN E n d m pc ls st h = some r → rnN E n' d m pc ls st h = some r := by
  intro n n' hn
  induction hn with
  | refl => exact fun _ _ _ _ _ _ _ q => q
  | step _ ih => exact fun d m pc ls st h r q => rnN_mono1 E _ _ _ _ _ _ _ _ (ih _ _ _ _ _ _ _ q)
theorem lim_iff {α : Type} {f : Nat → Option α} (hm : ∀ n n', n ≤ n' → ∀ r, f n = some r → f n' = some r) (r : α) : lim f = some r ↔ ∃ n, f n = some r := by
  unfold lim
  constructor
  · intro h
    split at h
    · exact ⟨_, h⟩
    · cases h
  · rintro ⟨n, hn⟩
    have he : ∃ n, f n ≠ none := ⟨n, by rw [hn]; simp⟩
    rw [dif_pos he]
    have hc := Classical.choose_spec he
    generalize Classical.choose he = n' at hc
    cases hf : f n' with
    | none => exact absurd hf hc
    | some r' =>
      have h1 := hm n' (max n n') (Nat.le_max_right _ _) _ hf
      have h2 := hm n (max n n') (Nat.le_max_left _ _) _ hn
      rw [h1] at h2
      exact h2
theorem rn_iff (E : EV) (d m pc : Nat) (ls : Ls) (st : St) (h : AH) (r : Out) : rn E d m pc ls st h = some r ↔ ∃ n, rnN E n d m pc ls st h = some r :=
  lim_iff (fun n n' hn r q => rnN_mono E n n' hn _ _ _ _ _ _ _ q) r
theorem calF_cont (E : EV) (d m : Nat) (a : List AV) (g : AH) (r : Out) (q : cal E d m a g = some r) : ∃ n, calF E (rnN E n) d m a g = some r := by
  cases d with
  | zero => cases q
  | succ d =>
    unfold cal calF at q
    unfold calF
    dsimp only at q ⊢
    split at q
    · revert q
      cases (decide ((laya a).length ≤ nloc m) && lok (lsl m) 0 (laya a)) with
      | true =>
        intro q
        obtain ⟨n, hn⟩ := (rn_iff _ _ _ _ _ _ _ _).mp q
        exact ⟨n, hn⟩
      | false => exact fun q => nomatch (show (none : Option Out) = some r from q)
    · exact ⟨0, q⟩
theorem opt_ext {α : Type} {x y : Option α} (h : ∀ r, x = some r ↔ y = some r) : x = y := by
  cases x with
  | none =>
    cases y with
    | none => rfl
    | some b => exact (((h b).mpr rfl)).symm ▸ rfl
  | some a => exact ((h a).mp rfl).symm
/-- THE RUN's OWN EQUATION -/
theorem rn_eq (E : EV) (d m pc : Nat) (ls : Ls) (st : St) (h : AH) : rn E d m pc ls st h = match blockAt m pc with
    | some b => blk E (cal E d) (rn E d m) b.2.2 b.1 b.2.1 ls st h
    | none => none := by
  apply opt_ext
  intro r
  rw [rn_iff]
  constructor
  · rintro ⟨n, hn⟩
    cases n with
    | zero => cases hn
    | succ n =>
      unfold rnN at hn
      cases hb : blockAt m pc with
      | none => rw [hb] at hn; cases hn
      | some b =>
        rw [hb] at hn
        have hr : ∀ d m pc ls st g r, rnN E n d m pc ls st g = some r → rn E d m pc ls st g = some r := fun d m pc ls st g r q => (rn_iff _ _ _ _ _ _ _ _).mpr ⟨n, q⟩
        exact blk_mono E _ (fun m a g r => calF_mono hr d m a g r) (fun t a b c r => hr d m t a b c r) _ _ _ _ _ _ hn
  · intro q
    cases hb : blockAt m pc with
    | none => rw [hb] at q; cases q
    | some b =>
      rw [hb] at q
      obtain ⟨n, hn⟩ := blk_cont (C := fun n => calF E (rnN E n) d) (J := fun n => rnN E n d m) E _ (fun n n' m a h r hn => calF_mono (fun d m pc ls st g r => rnN_mono E n n' hn d m pc ls st g r) d m a h r) (fun n n' t a b c r hn => rnN_mono E n n' hn d m t a b c r) (fun m a g r => calF_cont E d m a g r) (fun t a b c r q => (rn_iff _ _ _ _ _ _ _ _).mp q) _ _ _ _ _ _ q
      refine ⟨n + 1, ?_⟩
      unfold rnN
      rw [hb]
      exact hn
theorem rn_b {E : EV} {d m pc : Nat} {ls : Ls} {st : St} {h : AH} {b : BLK} (hb : blockAt m pc = some b) : rn E d m pc ls st h = blk E (cal E d) (rn E d m) b.2.2 b.1 b.2.1 ls st h := by
  rw [rn_eq, hb]
theorem cal_rn {E : EV} {d m : Nat} {args : List AV} {h : AH} (hm : Nat.blt m nat0 = true) (hl : (decide ((laya args).length ≤ nloc m) && lok (lsl m) 0 (laya args)) = true) : cal E (d + 1) m args h = rn E d m 0 (padl (nloc m) (laya args)) [] h := by
  unfold cal calF
  dsimp only
  rw [hm, hl]
  rfl
