/-! calls: a call by the callee's contract, whether it returns or throws -/
set_option maxRecDepth 100000
/-- the invoking instruction at g calls the method y with av, leaving 'rest' on the stack -/
def Inv (p : Program) (l : Launch) (e : Env) (R : Room) (s : State) (m : MethodId) (args : Array Value) (below : List Frame) (meth : Method) (c : Code) (T : State) (locs : List Loc) (cells slots : Nat) (g : JFrame) (rest : List Value) (y : MethodName) (len : Nat) (av : Array Value) : Prop :=
  ∃ (vm₁ : Vm) (mk : MethodId) (ig : Instr), Stand p l e R s m args below meth c (T.setVm vm₁) locs cells slots ∧ (T.setVm vm₁).methodNamed? y = some mk ∧ decode c.code g.pc = .ok (ig, len) ∧
    ∀ tg, Steps p.tables e below (doInvoke e ((T.setVm vm₁).setTop { g with stack := rest }) [] mk av).1 tg → Steps p.tables e below (T.setTop g) tg
theorem CodeW.spec {M : Nat} (h : CodeW M) {args : Array Value} {s : State} (hts : ∀ w ∈ lw_all, w.before args s = true) {mk : MethodId} (hn : s.methodNamed? (mnm M) = some mk) :
    ∃ (methY : Method) (cY : Code), s.vm.method? mk = some methY ∧ methY.code = some cY ∧ cY.code = mby M ∧ cY.maxLocals = nloc M ∧ methY.sig.returnType = mrt M ∧ methY.locks = false ∧ HT M cY := by
  rcases h.2.2 with ⟨h1, h2⟩ | h1
  · obtain ⟨methY, cY, r1, r2, r3, r4, r5, r6, r7, -⟩ := Cond.code_spec hn (hts _ h1)
    refine ⟨methY, cY, r1, r2, r3, r4, r5, r6, ?_⟩
    unfold HT
    have h0 : cY.exceptionTable.size = 0 := by simpa [Array.isEmpty] using r7
    have h1 : cY.exceptionTable.toList = [] := List.eq_nil_of_length_eq_zero (by simpa using h0)
    rw [h1, h2]; rfl
  · obtain ⟨mk', methY, cY, r0, r1, r2, r3, r4, r7, r5, r6, -⟩ := Cond.codeWith_spec (hts _ h1)
    cases hn.symm.trans r0
    exact ⟨methY, cY, r1, r2, r3, r4, r5, r6, r7⟩
section
variable {E : EV} {G : GV} {p : Program} {l : Launch} {e : Env} {s : State} {m : MethodId} {args : Array Value} {below : List Frame} {meth : Method} {c : Code} {H : Heap} {locs : List Loc} {Q : State → Prop}
theorem w_call {M d d' M' pc len : Nat} {h0 h h' : AH} {r : Option AV ⊕ Nat} {ls : Array Slot} {stk : List Value} {rest : St} {avs : List AV} (hd : d = d' + 1) (hml : c.maxLocals = nloc M) (hts : ∀ w ∈ lw_all, w.before args s = true) (hE : EnvF E G s) (hC : CodeW M') (hM : MetS E G l M' d' avs h (r, h')) (hH : HR E G h H) (hls : ls.size = nloc M) (h1 : h0.nx ≤ h.nx) (h2 : h0.us ≤ h.us) (hrest : rest.length ≤ 8)
    (hI : ∀ T : State, T.heap = H → Stand p l e (RM E d h0) s m args below meth c T locs (h.nx - h0.nx) (h.us - h0.us) → Inv p l e (RM E d h0) s m args below meth c T locs (h.nx - h0.nx) (h.us - h0.us) (F0 m pc ls stk) (rest.map tv) (mnm M') len (avs.map tv).toArray)
    (kr : ∀ v, r = Sum.inl v → h.nx ≤ h'.nx → h.us ≤ h'.us → ∀ (H' : Heap) (L : List Loc), HR E G h' H' → (∀ q ∈ L, E.bs ≤ q.base) → W p l e (RM E d h0) s m args below meth c H' (locs ++ L) (h'.nx - h0.nx) (h'.us - h0.us) Q (F0 m (pc + len) ls ((v.map tv).toList ++ rest.map tv)))
    (kt : ∀ a, r = Sum.inr a → h.nx ≤ h'.nx → h.us ≤ h'.us → ∀ (T' : State) (L : List Loc), HR E G h' T'.heap → (∀ q ∈ L, E.bs ≤ q.base) → Stand p l e (RM E d h0) s m args below meth c T' (locs ++ L) (h'.nx - h0.nx) (h'.us - h0.us) → ∃ t, Steps p.tables e below ((T'.setTop (F0 m pc ls (rest.map tv))).pushFrame (.throwing a)) t ∧ Q t) :
    W p l e (RM E d h0) s m args below meth c H locs (h.nx - h0.nx) (h.us - h0.us) Q (F0 m pc ls stk) := by
  intro T hT X
  obtain ⟨vm₁, mk, ig, X₁, hn, hdg, hst⟩ := hI T hT X
  have htsU : ∀ w ∈ lw_all, ∀ (a' : Array Value) (U : State), s.WarmedH U.vm → w.before a' U = true := fun w hw a' U hW => word_at hW (lw_self w hw).2 (hts w hw)
  have htsV : ∀ w ∈ lw_all, w.before (avs.map tv).toArray (T.setVm vm₁) = true := fun w hw => htsU w hw _ _ X₁.warmed
  obtain ⟨methY, cY, hmY, hcY, -, hlY, -⟩ := hC.spec htsV hn
  obtain ⟨kY, hkY, -⟩ := className_of_methodNamed hn
  have hinitY : kY.init = .initialized := Cond.initialized_spec (findClass_of_methodNamed hn) hkY (htsV _ hC.1)
  have hcat := cat_sum rest
  have hAt : At (T.setVm vm₁) (F0 m pc ls (rest.map tv)).method c below := X₁.here
  have hroom : ((T.setVm vm₁).calling (F0 m pc ls (rest.map tv)) mk (avs.map tv).toArray).hasRoom e.platform (RM E d' h) = true := by
    refine X₁.room_calling (g := F0 m pc ls (rest.map tv)) (R' := RM E d' h) (by rw [hml]; exact hls) hmY hcY ?_ ?_ ?_ ?_
    · show d' + 1 + 1 ≤ d + 1
      omega
    · show 2 * 0 + ((rest.map tv).map fun v => v.category).sum + (cY.maxLocals + 11) + 64 * (d' + 1) ≤ 64 * (d + 1)
      rw [hlY]
      have := hC.2.1
      omega
    · show h.nx - h0.nx + (E.lc - h.nx) ≤ E.lc - h0.nx
      have := hH.2.2.2.2.1
      omega
    · show h.us - h0.us + (E.lu - h.us) ≤ E.lu - h0.us
      have := hH.2.2.2.2.2
      omega
  have happ : (headSpec lw_all (RM E d' h)).appliesLoose (mnm M') e.platform ((T.setVm vm₁).calling (F0 m pc ls (rest.map tv)) mk (avs.map tv).toArray) = true :=
    Spec.appliesLoose_calling (g := F0 m pc ls (rest.map tv)) hAt hdg hn hkY hinitY hroom (atoms_intro htsV)
  obtain ⟨mid, hmid⟩ := hAt.above
  have hfr : ((T.setVm vm₁).setTop (F0 m pc ls (rest.map tv))).frames = (.java (F0 m pc ls (rest.map tv)) :: mid) ++ below := by rw [State.frames_setTop' _ hAt.top, hmid]; rfl
  have hP : (avs.map tv).toArray = (avs.map tv).toArray ∧ HR E G h ((T.setVm vm₁).calling (F0 m pc ls (rest.map tv)) mk (avs.map tv).toArray).heap ∧ EnvF E G ((T.setVm vm₁).calling (F0 m pc ls (rest.map tv)) mk (avs.map tv).toArray) :=
    ⟨rfl, by show HR E G h T.heap; rw [hT]; exact hH, EnvF.warm (U := (T.setVm vm₁).calling (F0 m pc ls (rest.map tv)) mk (avs.map tv).toArray) X₁.warmed hE⟩
  obtain ⟨o, s₂, hsteps, -, hend, hq⟩ := Steps.callFree hM p X.admits X.cas X.clock (acts := []) hfr happ hP trivial
  rw [State.frames_setTop' _ hAt.top, X₁.tail] at hend
  obtain ⟨ho, hH', e1, e2, L, hW2, hsame, hL⟩ := hq
  have e1 : h.nx ≤ h'.nx := e1
  have e2 : h.us ≤ h'.us := e2
  have ec : h.nx - h0.nx + (h'.nx - h.nx) = h'.nx - h0.nx := by omega
  have es : h.us - h0.us + (h'.us - h.us) = h'.us - h0.us := by omega
  cases r with
  | inl v =>
    have ho : o = .returned (v.map tv) := ho
    subst ho
    obtain ⟨T', X', -, -, ht⟩ := X₁.outOf (g := F0 m pc ls (rest.map tv)) rfl hdg hend hW2 hsame
    rw [ec, es] at X'
    have hT' : T'.heap = s₂.heap := by rw [ht]; rfl
    obtain ⟨t, a1, b1⟩ := kr v rfl e1 e2 s₂.heap L hH' hL T' hT' X'
    refine ⟨t, hst t (hsteps.trans ?_), b1⟩
    rw [ht]
    exact a1
  | inr a =>
    have ho : o = .threw a := ho
    subst ho
    obtain ⟨T', X', -, -, ht⟩ := X₁.outOfThrown (g := F0 m pc ls (rest.map tv)) rfl hend hW2 hsame
    rw [ec, es] at X'
    have hT' : T'.heap = s₂.heap := by rw [ht]; rfl
    obtain ⟨t, a1, b1⟩ := kt a rfl e1 e2 T' L (by rw [hT']; exact hH') hL X'
    refine ⟨t, hst t (hsteps.trans ?_), b1⟩
    rw [ht]
    exact a1
/-- a thrown object leaves the method -/
theorem w_out {M d pc a : Nat} {h0 h' : AH} {ls : Array Slot} {stk : List Value} {T' : State} (hht : HT M c) (hh : HpOK M pc none) (hlk : meth.locks = false) (h1 : h0.nx ≤ h'.nx) (h2 : h0.us ≤ h'.us) (hH : HR E G h' T'.heap) (hl : ∀ q ∈ locs, E.bs ≤ q.base) (X : Stand p l e (RM E d h0) s m args below meth c T' locs (h'.nx - h0.nx) (h'.us - h0.us)) :
    ∃ t, Steps p.tables e below ((T'.setTop (F0 m pc ls stk)).pushFrame (.throwing a)) t ∧ QO E G below (Sum.inr a, h') h0 s t := by
  obtain ⟨q1, q2, q3, q4, q5⟩ := X.leaveThrown a (g := F0 m pc ls stk) rfl rfl rfl (ht_out hht hh) hlk
  exact ⟨_, q1, .threw a, q2, q3, rfl, hH, h1, h2, locs, q4, q5, hl⟩
end
