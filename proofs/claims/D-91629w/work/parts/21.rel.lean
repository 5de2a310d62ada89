/-! the abstract machine against the real one: values, heaps, locals, what a contract says -/
set_option maxRecDepth 100000
def tv : AV → Value
  | Sum.inl x => .int x
  | Sum.inr (Sum.inl x) => .long x
  | Sum.inr (Sum.inr o) => va_rf o
/-- class numbers by kind, slots by field, the heap at the law's start -/
abbrev GV : Type := (Nat → ClassId) × (Nat → Nat) × Heap
def fval (h : AH) (a f : Nat) : Value := match fty f with
  | 0 => .int (h.I a f)
  | 1 => .long (h.L a f)
  | _ => va_rf (h.R a f)
/-- a component's sort, by the array's kind -/
def aval (h : AH) (a i : Nat) : Value := if h.kd a = 104 then .long (h.L a i) else if h.kd a < 105 then .int (h.I a i) else va_rf (h.R a i)
def CellOK (G : GV) (h : AH) (H : Heap) (a : Nat) : Prop := ∃ cell : Cell, H[a]? = some cell ∧ cell.cls = G.1 (h.kd a) ∧ cell.vm = .none ∧
  (h.kd a < 101 → ∀ f, anyK (fk f) (h.kd a) = true → cell.slots[G.2.1 f]? = some (fval h a f)) ∧
  (101 ≤ h.kd a → cell.slots.size = h.ln a ∧ ∀ i, i < h.ln a → cell.slots[i]? = some (aval h a i))
def KOK (k : Nat) : Prop := (1 ≤ k ∧ k < 24) ∨ (101 ≤ k ∧ k < 113)
def HR (E : EV) (G : GV) (h : AH) (H : Heap) : Prop := H.size = h.nx ∧ (∀ a, a < E.bs → H[a]? = G.2.2[a]?) ∧ (∀ a, h.kd a ≠ 0 → CellOK G h H a) ∧ (∀ a, h.kd a ≠ 0 → KOK (h.kd a)) ∧ h.nx ≤ E.lc ∧ h.us ≤ E.lu
def knl : Nat → Ls → List (Nat × Value)
  | _, [] => []
  | i, none :: l => knl (i + 1) l
  | i, some v :: l => (i, tv v) :: knl (i + 1) l
theorem knl_mem (l : Ls) : ∀ (i : Nat) (q : Nat × Value), q ∈ knl i l ↔ ∃ j v, lget l j = some v ∧ q = (i + j, tv v) := by
  induction l with
  | nil => intro i q; simp [knl, lget]
  | cons x l ih =>
    intro i q
    cases x with
    | none =>
      simp only [knl, ih]
      constructor
      · rintro ⟨j, v, h1, h2⟩
        exact ⟨j + 1, v, h1, by rw [h2]; congr 1; omega⟩
      · rintro ⟨j, v, h1, h2⟩
        cases j with
        | zero => cases h1
        | succ j => exact ⟨j, v, h1, by rw [h2]; congr 1; omega⟩
    | some w =>
      simp only [knl, List.mem_cons, ih]
      constructor
      · rintro (h | ⟨j, v, h1, h2⟩)
        · exact ⟨0, w, rfl, h⟩
        · exact ⟨j + 1, v, h1, by rw [h2]; congr 1; omega⟩
      · rintro ⟨j, v, h1, h2⟩
        cases j with
        | zero => cases h1; exact Or.inl h2
        | succ j => exact Or.inr ⟨j, v, h1, by rw [h2]; congr 1; omega⟩
theorem lget_lset (l : Ls) : ∀ (n i : Nat) (v w : Option AV), lget (lset l n v) i = w → w ≠ none → (i = n ∧ v = w) ∨ (i ≠ n ∧ lget l i = w) := by
  induction l with
  | nil => intro n i v w h hw; exact absurd h.symm hw
  | cons x l ih =>
    intro n i v w h hw
    cases n with
    | zero =>
      cases i with
      | zero => exact Or.inl ⟨rfl, h⟩
      | succ i => exact Or.inr ⟨by omega, h⟩
    | succ n =>
      cases i with
      | zero => exact Or.inr ⟨by omega, h⟩
      | succ i =>
        rcases ih n i v w h hw with ⟨h1, h2⟩ | ⟨h1, h2⟩
        · exact Or.inl ⟨by omega, h2⟩
        · exact Or.inr ⟨by omega, h2⟩
/-- locals: what is known is there; longs lie where longs may lie -/
def LR (M : Nat) (als : Ls) (ls : Array Slot) : Prop := lv_has ls (nloc M) (knl 0 als) ∧ ∀ i x, lget als i = some (vL x) → i ∈ lsl M
theorem LR.get {M : Nat} {als : Ls} {ls : Array Slot} (h : LR M als ls) {n : Nat} {v : AV} (hv : lget als n = some v) : ls[n]? = some (.val (tv v)) :=
  h.1.2.2 (n, tv v) ((knl_mem als 0 _).mpr ⟨n, v, hv, by simp⟩)
theorem tv_cat2 {v : AV} (h : (tv v).category = 2) : ∃ x, v = vL x := by
  rcases v with x | x | o
  · simp [tv, Value.category] at h
  · exact ⟨x, rfl⟩
  · cases o <;> simp [tv, va_rf, Value.category] at h
/-- a store of a value of one word -/
theorem LR.store1 {M : Nat} {als : Ls} {ls ls' : Array Slot} {n : Nat} {v : AV} (h : LR M als ls) (hs : ∀ j ∈ lsl M, j + 1 ≠ n) (hv : ∀ x, v ≠ vL x) (hl : lv_has ls' (nloc M) ((n, tv v) :: (knl 0 als).filter (fun q => !(q.1 == n) && !(q.1 + 1 == n && q.2.category == 2)))) : LR M (lset als n (some v)) ls' := by
  refine ⟨⟨hl.1, hl.2.1, ?_⟩, ?_⟩
  · intro q hq
    obtain ⟨j, w, h1, rfl⟩ := (knl_mem _ 0 q).mp hq
    rcases lget_lset als n j (some v) (some w) h1 (by simp) with ⟨h2, h3⟩ | ⟨h2, h3⟩
    · cases h3; subst h2
      exact hl.2.2 (0 + j, tv v) (by rw [Nat.zero_add]; exact List.mem_cons_self)
    · refine hl.2.2 _ (List.mem_cons_of_mem _ (List.mem_filter.mpr ⟨(knl_mem als 0 _).mpr ⟨j, w, h3, rfl⟩, ?_⟩))
      have e1 : ((0 + j == n) = false) := by simpa using h2
      by_cases hc : (tv w).category = 2
      · obtain ⟨x, rfl⟩ := tv_cat2 hc
        have := hs j (h.2 j x h3)
        have e2 : ((0 + j + 1 == n) = false) := by simpa using this
        simp only [e1, e2, Bool.not_false, Bool.false_and, Bool.and_self]
      · have e2 : ((tv w).category == 2) = false := by simpa using hc
        simp only [e1, e2, Bool.not_false, Bool.and_false, Bool.and_self]
  · intro i x hi
    rcases lget_lset als n i (some v) (some (vL x)) hi (by simp) with ⟨h2, h3⟩ | ⟨h2, h3⟩
    · cases h3; exact absurd rfl (hv x)
    · exact h.2 i x h3
/-- a store of a long -/
theorem LR.store2 {M : Nat} {als : Ls} {ls ls' : Array Slot} {n : Nat} {x : Int64} (h : LR M als ls) (hs : ∀ j ∈ lsl M, j + 1 ≠ n) (hn : n ∈ lsl M) (hl : lv_has ls' (nloc M) ((n, Value.long x) :: (knl 0 als).filter (fun q => !(q.1 == n) && (!(q.1 == n + 1) && !(q.1 + 1 == n && q.2.category == 2))))) : LR M (lset (lset als n (some (vL x))) (n + 1) none) ls' := by
  refine ⟨⟨hl.1, hl.2.1, ?_⟩, ?_⟩
  · intro q hq
    obtain ⟨j, w, h1, rfl⟩ := (knl_mem _ 0 q).mp hq
    rcases lget_lset _ (n + 1) j none (some w) h1 (by simp) with ⟨h2, h3⟩ | ⟨h2, h3⟩
    · cases h3
    · rcases lget_lset als n j (some (vL x)) (some w) h3 (by simp) with ⟨h4, h5⟩ | ⟨h4, h5⟩
      · cases h5; subst h4
        exact hl.2.2 (0 + j, tv (vL x)) (by rw [Nat.zero_add]; exact List.mem_cons_self)
      · refine hl.2.2 _ (List.mem_cons_of_mem _ (List.mem_filter.mpr ⟨(knl_mem als 0 _).mpr ⟨j, w, h5, rfl⟩, ?_⟩))
        have e1 : ((0 + j == n) = false) := by simpa using h4
        have e3 : ((0 + j == n + 1) = false) := by simpa using h2
        by_cases hc : (tv w).category = 2
        · obtain ⟨x, rfl⟩ := tv_cat2 hc
          have := hs j (h.2 j x h5)
          have e2 : ((0 + j + 1 == n) = false) := by simpa using this
          simp only [e1, e2, e3, Bool.not_false, Bool.false_and, Bool.and_self]
        · have e2 : ((tv w).category == 2) = false := by simpa using hc
          simp only [e1, e2, e3, Bool.not_false, Bool.and_false, Bool.and_self]
  · intro i y hi
    rcases lget_lset _ (n + 1) i none (some (vL y)) hi (by simp) with ⟨h2, h3⟩ | ⟨h2, h3⟩
    · cases h3
    · rcases lget_lset als n i (some (vL x)) (some (vL y)) h3 (by simp) with ⟨h4, h5⟩ | ⟨h4, h5⟩
      · subst h4; exact hn
      · exact h.2 i y h5
