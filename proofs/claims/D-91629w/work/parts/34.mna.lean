/-! multianewarray -/
set_option maxRecDepth 100000
/-- the kinds along a multianewarray of so many dimensions -/
def KC : Nat → Nat → Prop
  | _, 0 => False
  | k, 1 => k = 101 ∨ k = 103
  | k, n + 2 => 108 ≤ k ∧ k < 112 ∧ KC (cmpK k) (n + 1)
def mstep (k : Nat) (rest : List Nat) (b : Nat) : AH → Nat → AH := fun g i => (mna (cmpK k) rest g).setR b i (some g.nx)
theorem mna_cons {k n m : Nat} {rest : List Nat} {h : AH} : mna k (n :: m :: rest) h = (List.range n).foldl (mstep k (m :: rest) h.nx) (h.mk k n n) := rfl
theorem mna_one {k n : Nat} {h : AH} : mna k [n] h = h.mk k n n := rfl
theorem foldl_range_succ {α : Type} (f : α → Nat → α) (x : α) (i : Nat) : (List.range (i + 1)).foldl f x = f ((List.range i).foldl f x) i := by
  rw [List.range_succ, List.foldl_append]; rfl
theorem mna_mono : ∀ (ns : List Nat) (k : Nat) (h : AH), h.nx ≤ (mna k ns h).nx ∧ h.us ≤ (mna k ns h).us ∧ ∀ a, a < h.nx → (mna k ns h).kd a = h.kd a ∧ (mna k ns h).ln a = h.ln a
  | [], k, h => ⟨Nat.le_refl _, Nat.le_refl _, fun _ _ => ⟨rfl, rfl⟩⟩
  | [n], k, h => by
    rw [mna_one]
    refine ⟨Nat.le_succ _, Nat.le_add_right _ _, fun a ha => ⟨up1_ne (Nat.ne_of_lt ha), up1_ne (Nat.ne_of_lt ha)⟩⟩
  | n :: m :: rest, k, h => by
    rw [mna_cons]
    have key : ∀ i, h.nx + 1 ≤ ((List.range i).foldl (mstep k (m :: rest) h.nx) (h.mk k n n)).nx ∧ h.us ≤ ((List.range i).foldl (mstep k (m :: rest) h.nx) (h.mk k n n)).us ∧ ∀ a, a < h.nx → ((List.range i).foldl (mstep k (m :: rest) h.nx) (h.mk k n n)).kd a = h.kd a ∧ ((List.range i).foldl (mstep k (m :: rest) h.nx) (h.mk k n n)).ln a = h.ln a := by
      intro i
      induction i with
      | zero => exact ⟨Nat.le_refl _, Nat.le_add_right _ _, fun a ha => ⟨up1_ne (Nat.ne_of_lt ha), up1_ne (Nat.ne_of_lt ha)⟩⟩
      | succ i ih =>
        rw [foldl_range_succ]
        obtain ⟨i1, i2, i3⟩ := ih
        obtain ⟨r1, r2, r3⟩ := mna_mono (m :: rest) (cmpK k) ((List.range i).foldl (mstep k (m :: rest) h.nx) (h.mk k n n))
        exact ⟨Nat.le_trans i1 r1, Nat.le_trans i2 r2, fun a ha => ⟨((r3 a (by omega)).1).trans (i3 a ha).1, ((r3 a (by omega)).2).trans (i3 a ha).2⟩⟩
    obtain ⟨k1, k2, k3⟩ := key n
    exact ⟨by omega, k2, k3⟩
/-- what the loop keeps, place by place -/
theorem mst_keep {k n m : Nat} {rest : List Nat} {h : AH} (i : Nat) : h.nx + 1 ≤ ((List.range i).foldl (mstep k (m :: rest) h.nx) (h.mk k n n)).nx ∧ h.us ≤ ((List.range i).foldl (mstep k (m :: rest) h.nx) (h.mk k n n)).us ∧ ((List.range i).foldl (mstep k (m :: rest) h.nx) (h.mk k n n)).kd h.nx = k ∧ ((List.range i).foldl (mstep k (m :: rest) h.nx) (h.mk k n n)).ln h.nx = n := by
  induction i with
  | zero => exact ⟨Nat.le_refl _, Nat.le_add_right _ _, up1_self, up1_self⟩
  | succ i ih =>
    rw [foldl_range_succ]
    obtain ⟨i1, i2, i3, i4⟩ := ih
    obtain ⟨r1, r2, r3⟩ := mna_mono (m :: rest) (cmpK k) ((List.range i).foldl (mstep k (m :: rest) h.nx) (h.mk k n n))
    exact ⟨Nat.le_trans i1 r1, Nat.le_trans i2 r2, ((r3 _ (by omega)).1).trans i3, ((r3 _ (by omega)).2).trans i4⟩
theorem mst_le {k n m : Nat} {rest : List Nat} {h : AH} {i : Nat} : ∀ j, i ≤ j → ((List.range i).foldl (mstep k (m :: rest) h.nx) (h.mk k n n)).nx ≤ ((List.range j).foldl (mstep k (m :: rest) h.nx) (h.mk k n n)).nx ∧ ((List.range i).foldl (mstep k (m :: rest) h.nx) (h.mk k n n)).us ≤ ((List.range j).foldl (mstep k (m :: rest) h.nx) (h.mk k n n)).us := by
  intro j hj
  induction j with
  | zero => rw [show i = 0 by omega]; exact ⟨Nat.le_refl _, Nat.le_refl _⟩
  | succ j ih =>
    by_cases e : i = j + 1
    · rw [e]; exact ⟨Nat.le_refl _, Nat.le_refl _⟩
    · obtain ⟨a1, a2⟩ := ih (by omega)
      rw [foldl_range_succ _ _ j]
      obtain ⟨r1, r2, -⟩ := mna_mono (m :: rest) (cmpK k) ((List.range j).foldl (mstep k (m :: rest) h.nx) (h.mk k n n))
      exact ⟨Nat.le_trans a1 r1, Nat.le_trans a2 r2⟩
section WpMake
variable {Ec : CtlPost} {e : Env} {d : Bool} {acts : List Action} {s : State}
theorem wp_newArr {c comp : ClassId} {k : Class} {type : FieldType} {len : Nat} {init : Value} (hk : s.vm.classes[c]? = some k) (hkind : k.kind = .array comp type)
    (hlimit : ¬ len > e.platform.arrayLengthLimit) (hheap : ¬ len * componentBytes type > e.platform.maxHeapBytes) (hfit : fits type init = true) (hdef : init.isDefault = true)
    (h1 : s.heap.size < e.platform.maxCells) (h2 : s.slotsUsed + len ≤ e.platform.maxSlots) {Q : Addr → Pre}
    (hq : Q s.heap.size d acts (s.pushCell { cls := c, slots := Array.replicate len init, vm := .none })) :
    wp (Jvm.newArray c len init) Q Ec e d acts s := by
  have hfits : ∀ i v, (Array.replicate len init)[i]? = some v → s.fitsSlot c .none i v = true := by
    intro i v hv
    simp only [Array.getElem?_replicate] at hv
    split at hv
    · cases hv; simp [State.fitsSlot, State.slotType?, hk, hkind, hfit]
    · cases hv
  have hda : allocActs (Array.replicate len init) s.heap.size acts = acts := by
    have hall : ((Array.replicate len init).all (·.isDefault)) = true := by
      rw [Array.all_replicate]; split <;> simp [hdef]
    unfold allocActs; rw [if_pos hall]
  simp only [Jvm.newArray, Jvm.arrayFits, wp_bind', W.ask, W.ite, hlimit, if_false, wp_pure', W.theClass, hk, hkind, hheap, W.alloc, W.stop, Option.some.injEq, exists_eq_left', Array.size_replicate, hda]
  rw [if_neg (by omega)]
  exact ⟨h1, h2, hfits, hq⟩
end WpMake
theorem ref_fits {t : FieldType} (h : t.isReference = true) (v : Value) (hv : v = .null ∨ ∃ a, v = .ref a) : fits t v = true := by
  rcases hv with rfl | ⟨a, rfl⟩ <;> cases t <;> simp [FieldType.isReference] at h <;> rfl
theorem KC.arr : ∀ {n k : Nat}, KC k n → 101 ≤ k ∧ k < 113
  | 0, _, h => h.elim
  | 1, _, h => by rcases h with rfl | rfl <;> exact ⟨by decide, by decide⟩
  | _ + 2, _, h => ⟨by have := h.1; omega, by have := h.2.1; omega⟩
theorem cb8 (t : FieldType) : componentBytes t ≤ 8 := by cases t <;> exact Nat.le_of_ble_eq_true rfl
theorem find_neg {cs : List Int32} (h : ∀ x ∈ cs, 0 ≤ x) : cs.find? (· < 0) = none := by
  rw [List.find?_eq_none]
  intro x hx
  simpa using Int32.not_lt.mpr (h x hx)
/-- what 'make' comes to: a state that stands, its heap as 'mna' says -/
def MkTo (E : EV) (G : GV) (p : Program) (l : Launch) (e : Env) (s : State) (m : MethodId) (args : Array Value) (below : List Frame) (meth : Method) (c : Code) (dp : Nat) (h0 : AH) (g : JFrame) {α : Type} (X : Sem α) (r : α) (T : State) (h' : AH) : Prop :=
  ∃ (T' : State) (locs' : List Loc), Stand p l e (RM E dp h0) s m args below meth c T' locs' (h'.nx - h0.nx) (h'.us - h0.us) ∧ HR E G h' T'.heap ∧ (∀ q ∈ locs', E.bs ≤ q.base) ∧
    ∀ (Ec : CtlPost) (dd : Bool) (acts : List Action) (Q : α → Pre), (∀ d' acts', Q r d' acts' (T'.setTop g)) → wp X Q Ec e dd acts (T.setTop g)
/-- THE MODEL's 'make' is 'mna' -/
theorem wp_mk {E : EV} {G : GV} {p : Program} {l : Launch} {e : Env} {s : State} {m : MethodId} {args : Array Value} {below : List Frame} {meth : Method} {c : Code} {dp : Nat} {h0 : AH} {g : JFrame}
    (hE : EnvF E G s) (hcmp : ∀ k, 108 ≤ k → k < 112 → ∃ kA, s.vm.classes[G.1 k]? = some kA ∧ kA.kind = .array (G.1 (cmpK k)) (ety k)) :
    ∀ (cs : List Int32) (k : Nat), KC k cs.length → (∀ x ∈ cs, 0 ≤ x) → (∀ x ∈ cs, x.toNatClampNeg ≤ 1048576) →
      ∀ (T : State) (locs : List Loc) (h : AH), Stand p l e (RM E dp h0) s m args below meth c T locs (h.nx - h0.nx) (h.us - h0.us) → HR E G h T.heap → h0.nx ≤ h.nx → h0.us ≤ h.us →
        (mna k (cs.map Int32.toNatClampNeg) h).nx ≤ E.lc → (mna k (cs.map Int32.toNatClampNeg) h).us ≤ E.lu → (∀ q ∈ locs, E.bs ≤ q.base) →
        MkTo E G p l e s m args below meth c dp h0 g (multianewarray.make (G.1 k) cs) h.nx T (mna k (cs.map Int32.toNatClampNeg) h)
  | [], k, hK, _, _ => hK.elim
  | [n], k, hK, hp, hb => by
    intro T locs h X hH a1 a2 b1 b2 hl
    have hn : ¬ n < 0 := Int32.not_lt.mpr (hp n List.mem_cons_self)
    have hn2 := hb n List.mem_cons_self
    obtain ⟨kA, comp, r1, r2, r3, -⟩ := hE.2.2.2.2.1 k hK.arr.1 hK.arr.2
    obtain ⟨k1, hk1, he⟩ := X.warmed.alike.2.2 _ _ r1
    have hkind : k1.kind = .array comp (ety k) := by rw [he]; exact r2
    have b1 : h.nx + 1 ≤ E.lc := b1
    have b2 : h.us + n.toNatClampNeg ≤ E.lu := b2
    have hc8 : n.toNatClampNeg * componentBytes (ety k) ≤ 536870912 := Nat.le_trans (Nat.mul_le_mul hn2 (cb8 _)) (by decide)
    have hlimit : ¬ n.toNatClampNeg > e.platform.arrayLengthLimit := by rw [Launch.admits_arrayLengthLimit X.admits]; omega
    have hheap : ¬ n.toNatClampNeg * componentBytes (ety k) > e.platform.maxHeapBytes := by rw [Launch.admits_maxHeapBytes X.admits]; omega
    obtain ⟨hr1, hr2⟩ := X.roomAbove (show h.nx - h0.nx + 1 ≤ E.lc - h0.nx by omega) (show h.us - h0.us + n.toNatClampNeg ≤ E.lu - h0.us by omega)
    have hsz : T.heap.size = h.nx := hH.1
    have X2 := X.pushed { cls := G.1 k, slots := Array.replicate n.toNatClampNeg (defaultValue (ety k)), vm := .none }
    have hH' : HR E G (h.mk k n.toNatClampNeg n.toNatClampNeg) (T.pushCell { cls := G.1 k, slots := Array.replicate n.toNatClampNeg (defaultValue (ety k)), vm := .none }).heap := by
      refine hH.new (HR.bs hE hH) b1 b2 (Or.inr hK.arr) rfl rfl (fun q => absurd q (by have := hK.arr.1; omega)) (fun _ => ⟨by simp, fun i hi => ?_⟩)
      rw [Array.getElem?_replicate, if_pos hi]
      rcases hK with rfl | rfl <;> rfl
    refine ⟨_, locs, ?_, hH', hl, fun Ec dd acts Q hq => ?_⟩
    · have e1 : (mna k (List.map Int32.toNatClampNeg [n]) h).nx - h0.nx = h.nx - h0.nx + 1 := by show h.nx + 1 - h0.nx = _; omega
      have e2 : (mna k (List.map Int32.toNatClampNeg [n]) h).us - h0.us = h.us - h0.us + n.toNatClampNeg := by show h.us + n.toNatClampNeg - h0.us = _; omega
      rw [e1, e2]
      simpa using X2
    · rw [multianewarray.make]
      simp only [wp_bind', W.ite, hn, if_false, wp_pure', W.theClass, State.vm_setTop, hk1, hkind, Option.some.injEq, exists_eq_left']
      refine wp_newArr (s := T.setTop g) (k := k1) (comp := comp) (type := ety k) hk1 hkind hlimit hheap ?_ ?_ (by show T.heap.size < _; omega) (by show T.slotsUsed + _ ≤ _; exact hr2) ?_
      · rcases hK with rfl | rfl <;> rfl
      · rcases hK with rfl | rfl <;> rfl
      · have q := hq dd acts
        rw [← hsz] at q
        exact q
  | n :: n2 :: cs, k, hK, hp, hb => by
    intro T locs h X hH a1 a2 b1 b2 hl
    have hn : ¬ n < 0 := Int32.not_lt.mpr (hp n List.mem_cons_self)
    have hnb := hb n List.mem_cons_self
    have hKa := hK.arr
    obtain ⟨hk108, hk112, hK'⟩ := hK
    obtain ⟨kA, r1, r2⟩ := hcmp k hk108 hk112
    obtain ⟨k1, hk1, he⟩ := X.warmed.alike.2.2 _ _ r1
    have hkind : k1.kind = .array (G.1 (cmpK k)) (ety k) := by rw [he]; exact r2
    have href : (ety k).isReference = true := ety_ref (by omega)
    have b1' : (mna k (n.toNatClampNeg :: n2.toNatClampNeg :: cs.map Int32.toNatClampNeg) h).nx ≤ E.lc := b1
    have b2' : (mna k (n.toNatClampNeg :: n2.toNatClampNeg :: cs.map Int32.toNatClampNeg) h).us ≤ E.lu := b2
    show MkTo E G p l e s m args below meth c dp h0 g (multianewarray.make (G.1 k) (n :: n2 :: cs)) h.nx T (mna k (n.toNatClampNeg :: n2.toNatClampNeg :: cs.map Int32.toNatClampNeg) h)
    rw [mna_cons] at b1' b2' ⊢
    generalize hN : n.toNatClampNeg = N at *
    have z0 := mst_le (k := k) (n := N) (m := n2.toNatClampNeg) (rest := cs.map Int32.toNatClampNeg) (h := h) (i := 0) N (Nat.zero_le _)
    have z1 : h.nx + 1 ≤ E.lc := Nat.le_trans z0.1 b1'
    have z2 : h.us + N ≤ E.lu := Nat.le_trans z0.2 b2'
    have hc8 : N * componentBytes (ety k) ≤ 536870912 := Nat.le_trans (Nat.mul_le_mul hnb (cb8 _)) (by decide)
    have hlimit : ¬ N > e.platform.arrayLengthLimit := by rw [Launch.admits_arrayLengthLimit X.admits]; omega
    have hheap : ¬ N * componentBytes (ety k) > e.platform.maxHeapBytes := by rw [Launch.admits_maxHeapBytes X.admits]; omega
    obtain ⟨hr1, hr2⟩ := X.roomAbove (show h.nx - h0.nx + 1 ≤ E.lc - h0.nx by omega) (show h.us - h0.us + N ≤ E.lu - h0.us by omega)
    have hfind : ((n2 :: cs).find? (· < 0)) = none := find_neg (fun x hx => hp x (List.mem_cons_of_mem _ hx))
    have hsz : T.heap.size = h.nx := hH.1
    have X2 := X.pushed { cls := G.1 k, slots := Array.replicate N .null, vm := .none }
    have hH2 : HR E G (h.mk k N N) (T.pushCell { cls := G.1 k, slots := Array.replicate N .null, vm := .none }).heap := by
      refine hH.new (HR.bs hE hH) z1 z2 (Or.inr hKa) rfl rfl (fun q => absurd q (by omega)) (fun _ => ⟨by simp, fun i hi => ?_⟩)
      rw [Array.getElem?_replicate, if_pos hi, if_neg (by omega), if_neg (by omega)]
    have loop : ∀ (r i : Nat) (Ti : State) (locsi : List Loc), i + r = N → (∀ q ∈ locsi, E.bs ≤ q.base) → HR E G ((List.range i).foldl (mstep k (n2.toNatClampNeg :: cs.map Int32.toNatClampNeg) h.nx) (h.mk k N N)) Ti.heap →
        Stand p l e (RM E dp h0) s m args below meth c Ti locsi (((List.range i).foldl (mstep k (n2.toNatClampNeg :: cs.map Int32.toNatClampNeg) h.nx) (h.mk k N N)).nx - h0.nx) (((List.range i).foldl (mstep k (n2.toNatClampNeg :: cs.map Int32.toNatClampNeg) h.nx) (h.mk k N N)).us - h0.us) →
        MkTo E G p l e s m args below meth c dp h0 g (forIn (List.range' i r 1) PUnit.unit (fun i _ => do
          let z ← multianewarray.make (G.1 (cmpK k)) (n2 :: cs)
          writeLoc h.nx i (Value.ref z)
          Pure.pure (ForInStep.yield PUnit.unit))) PUnit.unit Ti ((List.range N).foldl (mstep k (n2.toNatClampNeg :: cs.map Int32.toNatClampNeg) h.nx) (h.mk k N N)) := by
      intro r
      induction r with
      | zero =>
        intro i Ti locsi hir hli hHi Xi
        obtain rfl : i = N := by omega
        exact ⟨Ti, locsi, Xi, hHi, hli, fun Ec dd acts Q hq => by
          simp only [List.range'_zero, List.forIn_nil, wp_pure']
          exact hq _ _⟩
      | succ r ih =>
        intro i Ti locsi hir hli hHi Xi
        have hlt : i < N := by omega
        obtain ⟨j1, j2, j3, j4⟩ := mst_keep (k := k) (n := N) (m := n2.toNatClampNeg) (rest := cs.map Int32.toNatClampNeg) (h := h) i
        obtain ⟨u1, u2⟩ := mst_le (k := k) (n := N) (m := n2.toNatClampNeg) (rest := cs.map Int32.toNatClampNeg) (h := h) (i := i + 1) N hlt
        have hstep := foldl_range_succ (mstep k (n2.toNatClampNeg :: cs.map Int32.toNatClampNeg) h.nx) (h.mk k N N) i
        have ih := ih (i + 1)
        rw [hstep] at u1 u2 ih
        generalize hgg : (List.range i).foldl (mstep k (n2.toNatClampNeg :: cs.map Int32.toNatClampNeg) h.nx) (h.mk k N N) = gg at *
        obtain ⟨T2, locs2, X3, hH3, hl3, hwp⟩ := wp_mk (g := g) hE hcmp (n2 :: cs) (cmpK k) hK' (fun y hy => hp y (List.mem_cons_of_mem _ hy)) (fun y hy => hb y (List.mem_cons_of_mem _ hy)) Ti locsi gg Xi hHi (by omega) (by omega) (Nat.le_trans u1 b1') (Nat.le_trans u2 b2') hli
        obtain ⟨v1, v2, v3⟩ := mna_mono (n2.toNatClampNeg :: cs.map Int32.toNatClampNeg) (cmpK k) gg
        obtain ⟨w1, w2⟩ := v3 h.nx (by omega)
        have hkdn : (mna (cmpK k) (n2.toNatClampNeg :: cs.map Int32.toNatClampNeg) gg).kd h.nx = k := w1.trans j3
        have hlnn : (mna (cmpK k) (n2.toNatClampNeg :: cs.map Int32.toNatClampNeg) gg).ln h.nx = N := w2.trans j4
        obtain ⟨cell, kB, cmpB, c1, c2, c3, c4, c5, c6, c7, c8, c9⟩ := HR.arr hE hH3 (a := h.nx) (by show 101 ≤ (mna (cmpK k) (n2.toNatClampNeg :: cs.map Int32.toNatClampNeg) gg).kd h.nx; rw [hkdn]; omega)
        have c4 : cell.slots.size = N := c4.trans hlnn
        have c2 : cell.cls = G.1 k := by rw [c2]; exact congrArg G.1 hkdn
        have hbs : E.bs ≤ h.nx := HR.bs hE hH
        obtain ⟨kT, hkT, heT⟩ := X3.warmed.alike.2.2 _ _ r1
        have hkindT : kT.kind = .array (G.1 (cmpK k)) (ety k) := by rw [heT]; exact r2
        have hH4 : HR E G (mstep k (n2.toNatClampNeg :: cs.map Int32.toNatClampNeg) h.nx gg i) (T2.setCell h.nx (cell.setSlot i (.ref gg.nx))).heap := by
          have hlt2 : h.nx < T2.heap.size := (Array.getElem?_eq_some_iff.mp c1).1
          have e1 : (T2.setCell h.nx (cell.setSlot i (.ref gg.nx))).heap = T2.heap.setIfInBounds h.nx (cell.setSlot i (.ref gg.nx)) := rfl
          rw [e1]
          refine HR.putA hH3 (a := h.nx) (i := i) (v := .ref gg.nx) c1 hbs (by show 101 ≤ (mna (cmpK k) (n2.toNatClampNeg :: cs.map Int32.toNatClampNeg) gg).kd h.nx; rw [hkdn]; omega) (by show i < (mna (cmpK k) (n2.toNatClampNeg :: cs.map Int32.toNatClampNeg) gg).ln h.nx; rw [hlnn]; exact hlt) (by simp [Array.getElem?_setIfInBounds, hlt2]) (by simp) (fun q hq => by simp [Array.getElem?_setIfInBounds, Ne.symm hq]) rfl rfl rfl rfl (fun b hb f => fval_setR (fun z => hb z.1)) (fun b hb f => aval_setR (fun z => hb z.1)) ?_ (fun j hj => aval_setR (fun z => hj z.2))
          have z : (mstep k (n2.toNatClampNeg :: cs.map Int32.toNatClampNeg) h.nx gg i).kd h.nx = k := hkdn
          unfold aval
          rw [z, if_neg (by omega), if_neg (by omega)]
          exact congrArg va_rf up2_self
        obtain ⟨TN, locsN, XN, hHN, hlN, hwN⟩ := ih _ (locs2 ++ [⟨h.nx, i⟩]) (by omega) (locs_one hl3 hbs) hH4 (X3.stored c1 i (.ref gg.nx))
        refine ⟨TN, locsN, XN, hHN, hlN, fun Ec dd acts Q hq => ?_⟩
        rw [List.range'_succ]
        simp only [List.forIn_cons, wp_bind']
        refine hwp _ _ _ _ (fun d' acts' => ?_)
        simp only [wp_bind', W.writeLoc, wp_pure']
        refine ⟨cell, c1, by rw [c3]; simp, by rw [c4]; exact hlt, ?_, hwN _ _ _ _ hq⟩
        rw [c2, c3]
        have hfr : fits (ety k) (.ref gg.nx) = true := ref_fits href _ (Or.inr ⟨_, rfl⟩)
        have hst : (T2.setTop g).slotType? (G.1 k) .none i = some (ety k) := by simp [State.slotType?, hkT, hkindT]
        unfold State.fitsSlot
        rw [hst]
        exact hfr
    obtain ⟨TN, locsN, XN, hHN, hlN, hwN⟩ := loop N 0 _ locs (by omega) hl hH2 (by
      have e1 : ((List.range 0).foldl (mstep k (n2.toNatClampNeg :: cs.map Int32.toNatClampNeg) h.nx) (h.mk k N N)).nx - h0.nx = h.nx - h0.nx + 1 := by show h.nx + 1 - h0.nx = _; omega
      have e2 : ((List.range 0).foldl (mstep k (n2.toNatClampNeg :: cs.map Int32.toNatClampNeg) h.nx) (h.mk k N N)).us - h0.us = h.us - h0.us + N := by show h.us + N - h0.us = _; omega
      rw [e1, e2]
      simpa using X2)
    refine ⟨TN, locsN, XN, hHN, hlN, fun Ec dd acts Q hq => ?_⟩
    rw [multianewarray.make]
    simp only [wp_bind', W.ite, hn, if_false, wp_pure', W.theClass, State.vm_setTop, hk1, hkind, Option.some.injEq, exists_eq_left', hN]
    refine wp_newArr (s := T.setTop g) (k := k1) (comp := G.1 (cmpK k)) (type := ety k) hk1 hkind hlimit hheap (ref_fits href _ (Or.inl rfl)) rfl (by show T.heap.size < _; omega) (by show T.slotsUsed + _ ≤ _; exact hr2) ?_
    simp only [hfind]
    rw [ite_self, wp_bind', Std.Legacy.Range.forIn_eq_forIn_range']
    have hrs : ([:N] : Std.Legacy.Range).size = N := by simp [Std.Legacy.Range.size]
    rw [hrs]
    have hszT : (T.setTop g).heap.size = h.nx := hsz
    rw [hszT]
    refine hwN _ _ _ _ (fun d' acts' => ?_)
    simp only [wp_pure']
    exact hq _ _
theorem cmp_one {E : EV} {G : GV} {s : State} (hE : EnvF E G s) {k : Nat} {t : FieldType} (h1 : 101 ≤ k ∧ k < 113) (h2 : 101 ≤ cmpK k ∧ cmpK k < 113) (e2 : (FieldType.array t).toString = knm (cmpK k)) (e3 : ety k = .array t) : ∃ kA, s.vm.classes[G.1 k]? = some kA ∧ kA.kind = .array (G.1 (cmpK k)) (ety k) := by
  obtain ⟨kA, cp, r1, r2, r3, -, r5⟩ := hE.2.2.2.2.1 k h1.1 h1.2
  obtain ⟨kB, cq, q1, q2, q3, -⟩ := hE.2.2.2.2.1 (cmpK k) h2.1 h2.2
  have f1 := r5 t e3
  rw [e2] at f1
  cases f1.symm.trans q3
  exact ⟨kA, r1, r2⟩
theorem cmp_all {E : EV} {G : GV} {s : State} (hE : EnvF E G s) : ∀ k, 108 ≤ k → k < 112 → ∃ kA, s.vm.classes[G.1 k]? = some kA ∧ kA.kind = .array (G.1 (cmpK k)) (ety k) := by
  intro k h1 h2
  have : k = 108 ∨ k = 109 ∨ k = 110 ∨ k = 111 := by omega
  rcases this with rfl | rfl | rfl | rfl <;> exact cmp_one hE (by decide) (by decide) (by decide +kernel) rfl
theorem wp_ints {Ec : CtlPost} {e : Env} {f : Value → Sem Int32} (hf : ∀ n, f (.int n) = Pure.pure n) : ∀ (cs : List Int32) {d : Bool} {acts : List Action} {s : State} {Q : List Int32 → Pre}, Q cs d acts s → wp ((cs.map Value.int).mapM f) Q Ec e d acts s
  | [], d, acts, s, Q, h => by simp only [List.map_nil, List.mapM_nil, wp_pure']; exact h
  | x :: cs, d, acts, s, Q, h => by
    simp only [List.map_cons, List.mapM_cons, wp_bind', hf, wp_pure']
    exact wp_ints hf cs h
/-- the instruction, in general -/
theorem w_mna {E : EV} {G : GV} {p : Program} {l : Launch} {e : Env} {s : State} {m : MethodId} {args : Array Value} {below : List Frame} {meth : Method} {c : Code} {dp : Nat} {h0 : AH} {H : Heap} {locs : List Loc} {h : AH} {Q : State → Prop} {ls : Array Slot} {rest : List Value} {own : String}
    (hx : p.tables.exec = Jvm.exec) {pc i k : Nat} {nm : String} (hown : s.vm.findClass own = some m.cls) (hw : (Jvm.Cond.classLink own i nm).before args s = true) (hnm : nm = knm k) (hE : EnvF E G s)
    (cs : List Int32) (hK : KC k cs.length) (hp : ∀ x ∈ cs, 0 ≤ x) (hb : ∀ x ∈ cs, x.toNatClampNeg ≤ 1048576) (hd : decode c.code pc = .ok (.multianewarray i cs.length, 4)) (hH : HR E G h H) (a1 : h0.nx ≤ h.nx) (a2 : h0.us ≤ h.us)
    (b1 : (mna k (cs.map Int32.toNatClampNeg) h).nx ≤ E.lc) (b2 : (mna k (cs.map Int32.toNatClampNeg) h).us ≤ E.lu) (hl : ∀ q ∈ locs, E.bs ≤ q.base)
    (kk : ∀ (H' : Heap) (locs' : List Loc), HR E G (mna k (cs.map Int32.toNatClampNeg) h) H' → (∀ q ∈ locs', E.bs ≤ q.base) → W p l e (RM E dp h0) s m args below meth c H' locs' ((mna k (cs.map Int32.toNatClampNeg) h).nx - h0.nx) ((mna k (cs.map Int32.toNatClampNeg) h).us - h0.us) Q (F0 m (pc + 4) ls (.ref h.nx :: rest))) :
    W p l e (RM E dp h0) s m args below meth c H locs (h.nx - h0.nx) (h.us - h0.us) Q (F0 m pc ls ((cs.map Value.int).reverse ++ rest)) := by
  intro T hT X
  have hpl : e.platform.magicAccessors = ({} : Platform).magicAccessors := by rw [X.admits.platform]
  obtain ⟨kA, cp, r1, r2, r3, -⟩ := hE.2.2.2.2.1 k hK.arr.1 hK.arr.2
  obtain ⟨c0, hfc0, hcl⟩ := Cond.classLink_spec hown hw e.platform hpl
  rw [hnm] at hfc0
  cases hfc0.symm.trans r3
  obtain ⟨hg₁, hwarm₁, hready₁⟩ := State.classEntry (e := e) X.warmed hcl
  have X₁ := X.noted hwarm₁
  have hTv : HR E G h (T.setVm (T.vm.noted m.cls i (.cls (G.1 k)))).heap := by show HR E G h T.heap; rw [hT]; exact hH
  obtain ⟨T2, locs2, X2, hH2, hl2, hwp⟩ := wp_mk (g := F0 m pc ls rest) hE (cmp_all hE) cs k hK hp hb _ locs h X₁ hTv a1 a2 b1 b2 hl
  obtain ⟨t, z1, z2⟩ := kk T2.heap locs2 hH2 hl2 T2 rfl X2
  refine ⟨t, ?_, z2⟩
  have hh := X.here
  jvm_step hh [hx, hd]
  have hlen : ¬ cs.length = 0 := by
    intro z
    rw [z] at hK
    exact hK
  simp only [multianewarray.sem, wp_bind', W.resolveClassAt_links (State.method?_setTop (F0 m pc ls ((cs.map Value.int).reverse ++ rest)) X.here.top) hg₁]
  rw [W.popN]
  rw [if_neg hlen]
  refine ⟨F0 m pc ls ((cs.map Value.int).reverse ++ rest), State.topJava?_setTop' (s := T.setVm (T.vm.noted m.cls i (.cls (G.1 k)))) _ X.here.top, cs.map Value.int, rest, List.length_map .., rfl, ?_⟩
  simp only [wp_bind']
  refine wp_ints (fun n => rfl) cs ?_
  have eS : ((T.setTop (F0 m pc ls ((cs.map Value.int).reverse ++ rest))).setVm (T.vm.noted m.cls i (.cls (G.1 k)))).setTop (F0 m pc ls rest) = (T.setVm (T.vm.noted m.cls i (.cls (G.1 k)))).setTop (F0 m pc ls rest) := by
    show ((T.setVm (T.vm.noted m.cls i (.cls (G.1 k)))).setTop (F0 m pc ls ((cs.map Value.int).reverse ++ rest))).setTop _ = _
    rw [State.setTop_setTop]
  simp only [wp_bind']
  show wp (multianewarray.make (G.1 k) cs) _ _ e true [] (((T.setTop (F0 m pc ls ((cs.map Value.int).reverse ++ rest))).setVm (T.vm.noted m.cls i (.cls (G.1 k)))).setTop (F0 m pc ls rest))
  rw [eS]
  refine hwp _ _ _ _ (fun d' acts' => ?_)
  simp only [wp_bind', W.mark, W.pushRef, State.topJava?_setTop' _ X2.here.top, Option.some.injEq, exists_eq_left', State.setTop_setTop]
  intro acts
  simp [jvm, X2.here.top]
  exact z1
theorem si_mna2 {M pc i : Nat} {hp : Option Nat} (hd : decode (mby M) pc = .ok (.multianewarray i 2, 4)) (hw : Jvm.Cond.classLink (mnm M).cls i "[[I" ∈ lw_all) : SimI M pc (.multianewarray 108 2) (pc + 4) hp := by
  intro E G p l e s m args below meth c hX d h0 out C J k hC hJ hk als ast h hs
  obtain ⟨hx, hb, hml, hown, hts, hlk, hrt, hnm, hE, hht⟩ := hX
  rcases ast with _ | ⟨x2 | x2 | x2, _ | ⟨x1 | x1 | x1, st⟩⟩ <;> first | exact nomatch (show (none : Option Out) = some out from hs) | skip
  obtain ⟨q1, q2⟩ := gd_some hs
  simp only [Bool.and_eq_true, decide_eq_true_eq] at q1
  obtain ⟨⟨⟨⟨⟨p1, p2⟩, p3⟩, p4⟩, p5⟩, p6⟩ := q1
  intro h1 h2 H locs ls hH hL hl
  refine w_mna (k := 108) hx hown (hts _ hw) (by decide +kernel) hE [x1, x2] ⟨by decide, by decide, Or.inl rfl⟩ (fun x hx => ?_) (fun x hx => ?_) (by rw [hb]; exact hd) hH h1 h2 p5 p6 hl (fun H' locs' hH' hl' => ?_)
  · simp only [List.mem_cons, List.not_mem_nil, or_false] at hx
    rcases hx with rfl | rfl <;> assumption
  · simp only [List.mem_cons, List.not_mem_nil, or_false] at hx
    rcases hx with rfl | rfl <;> assumption
  · obtain ⟨m1, m2, -⟩ := mna_mono [x1.toNatClampNeg, x2.toNatClampNeg] 108 h
    exact hk _ _ _ q2 (Nat.le_trans h1 m1) (Nat.le_trans h2 m2) H' locs' ls hH' hL hl'
theorem si_mna4 {M pc i : Nat} {hp : Option Nat} (hd : decode (mby M) pc = .ok (.multianewarray i 4, 4)) (hw : Jvm.Cond.classLink (mnm M).cls i "[[[[Z" ∈ lw_all) : SimI M pc (.multianewarray 111 4) (pc + 4) hp := by
  intro E G p l e s m args below meth c hX d h0 out C J k hC hJ hk als ast h hs
  obtain ⟨hx, hb, hml, hown, hts, hlk, hrt, hnm, hE, hht⟩ := hX
  rcases ast with _ | ⟨x4 | x4 | x4, _ | ⟨x3 | x3 | x3, _ | ⟨x2 | x2 | x2, _ | ⟨x1 | x1 | x1, st⟩⟩⟩⟩ <;> first | exact nomatch (show (none : Option Out) = some out from hs) | skip
  obtain ⟨q1, q2⟩ := gd_some hs
  simp only [Bool.and_eq_true, decide_eq_true_eq] at q1
  obtain ⟨⟨⟨⟨⟨⟨⟨⟨⟨p1, p2⟩, p3⟩, p4⟩, p5⟩, p6⟩, p7⟩, p8⟩, p9⟩, p10⟩ := q1
  intro h1 h2 H locs ls hH hL hl
  refine w_mna (k := 111) hx hown (hts _ hw) (by decide +kernel) hE [x1, x2, x3, x4] ⟨by decide, by decide, by decide, by decide, by decide, by decide, Or.inr rfl⟩ (fun x hx => ?_) (fun x hx => ?_) (by rw [hb]; exact hd) hH h1 h2 p9 p10 hl (fun H' locs' hH' hl' => ?_)
  · simp only [List.mem_cons, List.not_mem_nil, or_false] at hx
    rcases hx with rfl | rfl | rfl | rfl <;> assumption
  · simp only [List.mem_cons, List.not_mem_nil, or_false] at hx
    rcases hx with rfl | rfl | rfl | rfl <;> assumption
  · obtain ⟨m1, m2, -⟩ := mna_mono [x1.toNatClampNeg, x2.toNatClampNeg, x3.toNatClampNeg, x4.toNatClampNeg] 111 h
    exact hk _ _ _ q2 (Nat.le_trans h1 m1) (Nat.le_trans h2 m2) H' locs' ls hH' hL hl'
theorem si_nop {M pc pc' : Nat} {hp : Option Nat} : SimI M pc .nop pc' hp := by
  intro E G p l e s m args below meth c hX d h0 out C J k hC hJ hk als ast h hs
  exact nomatch (show (none : Option Out) = some out from hs)
