/-! what a run takes along: the tables' facts that hold all through it; the judgement WA; a method's contract -/
set_option maxRecDepth 100000
def nwOK (w : Jvm.Cond) : Bool := match w with
  | .fieldLinkNest .. => true
  | .methodLinkNest .. => true
  | .castable .. => true
  | .declares .. => true
  | .privateMethod .. => true
  | _ => false
def lw_nw : List Jvm.Cond := lw_tbl.filter nwOK
def ety (k : Nat) : FieldType := match k with
  | 101 => .int
  | 102 => .byte
  | 103 => .boolean
  | 104 => .long
  | 105 => .object "java/lang/Object"
  | 106 => .object "FastPlane$Ex"
  | 107 => .object "FastPlane$Treaty"
  | 108 => .array .int
  | 109 => .array .boolean
  | 110 => .array (.array .boolean)
  | 111 => .array (.array (.array .boolean))
  | _ => .object "java/lang/Integer"
/-- a static, as the law found it -/
def StF (G : GV) (q : String × String × String) (v : Value) (U : State) : Prop := ∃ (cf : ClassId) (kf : Class) (fi : Nat) (f : Field) (a : Nat) (cell : Cell), U.fieldFound? q.1 q.2.1 q.2.2 = some (cf, kf, fi, f) ∧ f.isStatic = true ∧ kf.init = .initialized ∧ kf.statics = some a ∧ G.2.2[a]? = some cell ∧ cell.vm.isStatics = true ∧ cell.slots[f.slot]? = some v
def ArF (G : GV) (k : Nat) (U : State) : Prop := ∃ (kA : Class) (comp : ClassId), U.vm.classes[G.1 k]? = some kA ∧ kA.kind = .array comp (ety k) ∧ U.vm.findClass (knm k) = some (G.1 k) ∧ (∀ C, ety k = .object C → U.vm.findClass C = some comp) ∧ ∀ t, ety k = .array t → U.vm.findClass (FieldType.array t).toString = some comp
def EnvF (E : EV) (G : GV) (U : State) : Prop :=
  G.2.2.size = E.bs ∧
  (∀ k, 1 ≤ k → k < 24 → ClassAt U (knm k) (G.1 k)) ∧
  (∀ f, f < 198 → SlotIs U (ftab f).1 (ftab f).2.1 (ftab f).2.2 (G.2.1 f)) ∧
  (∀ k f f', anyK (fk f) k = true → anyK (fk f') k = true → f ≠ f' → G.2.1 f ≠ G.2.1 f') ∧
  (∀ k, 101 ≤ k → k < 113 → ArF G k U) ∧
  (∀ w ∈ lw_nw, va_Nw w U) ∧
  (∀ k, 105 ≤ k → k < 108 → ∀ C, ety k = .object C → va_AO C U) ∧
  (∀ c k, anyK (insk c) k = true → anyK (sbk c) k = false → va_Nc (knm k) (knm c) U) ∧
  (∀ q ∈ strs, vk_R q.1 q.2.1 q.2.2.1 (E.sa q.2.2.2) U) ∧
  (∀ q ∈ sttI, StF G q.1 (.int (E.si q.2)) U) ∧
  (∀ q ∈ sttR, StF G q.1 (va_rf (E.sr q.2)) U) ∧
  (∃ mi, E.sr mirr = some mi ∧ va_Mi "[Ljava/lang/Object;" mi U)
theorem ArF.moved {G : GV} {k : Nat} {u U : State} (hvm : u.vm.Alike U.vm) (h : ArF G k u) : ArF G k U := by
  obtain ⟨kA, comp, h1, h2, h3, h4⟩ := h
  obtain ⟨k', hk', he⟩ := hvm.2.2 _ _ h1
  exact ⟨k', comp, hk', by rw [he]; exact h2, by rw [hvm.findClass]; exact h3, fun C hC => by rw [hvm.findClass]; exact h4.1 C hC, fun C hC => by rw [hvm.findClass]; exact h4.2 C hC⟩
theorem StF.moved {G : GV} {q : String × String × String} {v : Value} {u U : State} (hvm : u.vm.Alike U.vm) (h : StF G q v u) : StF G q v U := by
  obtain ⟨cf, kf, fi, f, a, cell, h1, h2, h3, h4, h5, h6, h7⟩ := h
  obtain ⟨kf', hi', he⟩ := State.fieldFound?_setVm (s := u) hvm h1
  exact ⟨cf, kf', fi, f, a, cell, by simpa only [State.fieldFound?, State.vm_setVm] using hi', h2, by rw [he]; exact h3, by rw [he]; exact h4, h5, h6, h7⟩
theorem nw_priv {x : MethodName} {s U : State} (hW : s.WarmedH U.vm) (h : va_Nw (.privateMethod x) s) : va_Nw (.privateMethod x) U := va_tabs rfl (rfl : (s.setVm U.vm).vm = U.vm) (by rw [Cond.privateMethod_setVm hW.alike]; exact h)
theorem nw_warm {w : Jvm.Cond} (hw : nwOK w = true) {s U : State} (hW : s.WarmedH U.vm) (h : va_Nw w s) : va_Nw w U := by
  cases w <;> first | exact va_Nw.warmF hW h | exact va_Nw.warmM hW h | exact va_Nw.warmC hW h | exact va_Nw.warmD hW h | exact nw_priv hW h | exact absurd hw (by simp [nwOK])
theorem EnvF.warm {E : EV} {G : GV} {s U : State} (hW : s.WarmedH U.vm) (h : EnvF E G s) : EnvF E G U := by
  obtain ⟨h0, h1, h2, h3, h4, h5, h6, h7, h8, h9, h10, mi, h11, h12⟩ := h
  have hA := hW.alike
  exact ⟨h0, fun k a b => classAt_moved hA (h1 k a b), fun f a => slotIs_moved hA (h2 f a), h3, fun k a b => (h4 k a b).moved hA, fun w hw => nw_warm (List.mem_filter.mp hw).2 hW (h5 w hw),
    fun k a b C c => (h6 k a b C c).moved hA, fun c k a b => (h7 c k a b).moved hA, fun q hq => (h8 q hq).warm hW, fun q hq => (h9 q hq).moved hA, fun q hq => (h10 q hq).moved hA, mi, h11, h12.moved hA⟩
def RM (E : EV) (d : Nat) (h0 : AH) : Room := { frames := d + 1, cells := E.lc - h0.nx, slots := E.lu - h0.us, locals := 64 * (d + 1) }
def OutR (r : Option AV ⊕ Nat) (o : Outcome) : Prop := match r with
  | Sum.inl v => o = .returned (v.map tv)
  | Sum.inr a => o = .threw a
def QE (E : EV) (G : GV) (out : Out) (h0 : AH) (s : State) (o : Outcome) (t : State) : Prop := OutR out.1 o ∧ HR E G out.2 t.heap ∧ h0.nx ≤ out.2.nx ∧ h0.us ≤ out.2.us ∧ ∃ L, s.WarmedH t.vm ∧ s.sameButNew ({ t with vm := s.vm } : State) L (out.2.nx - h0.nx) (out.2.us - h0.us) ∧ ∀ q ∈ L, E.bs ≤ q.base
def QO (E : EV) (G : GV) (below : List Frame) (out : Out) (h0 : AH) (s : State) : State → Prop := fun t => ∃ o, t.status = .running ∧ Ended t below o ∧ QE E G out h0 s o t
/-- A METHOD's CONTRACT at depth d: from the heap h0, with these arguments, it ends as 'out' says -/
def MetS (E : EV) (G : GV) (l : Launch) (M d : Nat) (args : List AV) (h0 : AH) (out : Out) : Prop :=
  MetFree l (mnm M) (headSpec lw_all (RM E d h0)) (fun a U => a = (args.map tv).toArray ∧ HR E G h0 U.heap ∧ EnvF E G U) (fun _ _ _ _ _ => True) (fun _ st o t => QE E G out h0 st o t)
def CodeW (M : Nat) : Prop := Jvm.Cond.initialized (mnm M).cls ∈ lw_all ∧ nloc M ≤ 37 ∧
  ((Jvm.Cond.code (mnm M) (mby M) (nloc M) (mrt M) ∈ lw_all ∧ hnd M = []) ∨ Jvm.Cond.codeWith (mnm M) (mby M) (nloc M) (mrt M) (hnd M) ∈ lw_all)
/-- what calls may be made: C's answers are contracts of the depth below -/
def CSnd (E : EV) (G : GV) (l : Launch) (d : Nat) (C : Nat → List AV → AH → Option Out) : Prop :=
  ∀ M args h out, C M args h = some out → ∃ d', d = d' + 1 ∧ (M < nat0 → CodeW M → MetS E G l M d' args h out) ∧ (nat0 ≤ M → natS E M args h = some out)
/-- the handler table, as the code has it -/
def HT (M : Nat) (c : Code) : Prop := c.exceptionTable.toList.map (fun x => (x.startPc, x.endPc, x.handlerPc, x.catchType)) = hnd M
def CX (E : EV) (G : GV) (p : Program) (s : State) (m : MethodId) (args : Array Value) (meth : Method) (c : Code) (M : Nat) : Prop :=
  p.tables.exec = Jvm.exec ∧ c.code = mby M ∧ c.maxLocals = nloc M ∧ s.vm.findClass (mnm M).cls = some m.cls ∧ (∀ w ∈ lw_all, w.before args s = true) ∧ meth.locks = false ∧ meth.sig.returnType = mrt M ∧ meth.name = (mnm M).name ∧ EnvF E G s ∧ HT M c
/-- THE JUDGEMENT: at this label with this abstract state the machine comes to 'out' -/
def WA (E : EV) (G : GV) (p : Program) (l : Launch) (e : Env) (s : State) (m : MethodId) (args : Array Value) (below : List Frame) (meth : Method) (c : Code) (M d : Nat) (h0 : AH) (out : Out) (pc : Nat) (als : Ls) (ast : St) (h : AH) : Prop :=
  h0.nx ≤ h.nx → h0.us ≤ h.us → ∀ (H : Heap) (locs : List Loc) (ls : Array Slot), HR E G h H → LR M als ls → (∀ q ∈ locs, E.bs ≤ q.base) →
    W p l e (RM E d h0) s m args below meth c H locs (h.nx - h0.nx) (h.us - h0.us) (QO E G below out h0 s) (F0 m pc ls (ast.map tv))
/-- where a throw at pc goes in the method M -/
def HpOK (M pc : Nat) (hp : Option Nat) : Prop := match hp with
  | none => ∀ q ∈ hnd M, ¬ (q.1 ≤ pc ∧ pc < q.2.1)
  | some t => ∃ a b, hnd M = [(a, b, t, 129)] ∧ a ≤ pc ∧ pc < b ∧ (mnm M).cls = "FastPlane"
/-- AN INSTRUCTION IS SIMULATED -/
def SimI (M pc : Nat) (op : Instr) (pc' : Nat) (hp : Option Nat) : Prop :=
  ∀ (E : EV) (G : GV) (p : Program) (l : Launch) (e : Env) (s : State) (m : MethodId) (args : Array Value) (below : List Frame) (meth : Method) (c : Code), CX E G p s m args meth c M →
    ∀ (d : Nat) (h0 : AH) (out : Out) (C : Nat → List AV → AH → Option Out) (J : Nat → Ls → St → AH → Option Out) (k : Ls → St → AH → Option Out), CSnd E G l d C →
      (∀ t als ast h, J t als ast h = some out → WA E G p l e s m args below meth c M d h0 out t als ast h) →
      (∀ als ast h, k als ast h = some out → WA E G p l e s m args below meth c M d h0 out pc' als ast h) →
      ∀ als ast h, stp E C J hp op als ast h k = some out → WA E G p l e s m args below meth c M d h0 out pc als ast h
/-- A BLOCK IS SIMULATED, from pc on -/
def SimL (M : Nat) (hp : Option Nat) : List (Nat × Instr) → Nat → Nat → Prop
  | [], nx, pc => nx = pc
  | q :: l, nx, pc => q.1 = pc ∧ ∃ pc', SimI M pc q.2 pc' hp ∧ SimL M hp l nx pc'
