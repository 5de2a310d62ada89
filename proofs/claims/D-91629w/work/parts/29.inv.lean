/-! the invoking instructions, one by one; a call is simulated; a throw is caught -/
set_option maxRecDepth 100000
/-- at pc the method M calls, by the reference rid, with n values -/
def CallI (M pc rid n len : Nat) : Prop :=
  ∀ (E : EV) (G : GV) (p : Program) (l : Launch) (e : Env) (R : Room) (s : State) (m : MethodId) (args : Array Value) (below : List Frame) (meth : Method) (c : Code) (T : State) (locs : List Loc) (cells slots : Nat), CX E G p s m args meth c M → Stand p l e R s m args below meth c T locs cells slots →
    ∀ (h : AH), HR E G h T.heap → ∀ (ls : Array Slot) (avs : List AV) (rest : List Value), avs.length = n → rcO rid avs h = true →
      Inv p l e R s m args below meth c T locs cells slots (F0 m pc ls ((avs.map tv).reverse ++ rest)) rest (mnm (rm_ rid)) len (avs.map tv).toArray
/-- how many values a method takes, its receiver apart -/
def NArg (y : MethodName) (n : Nat) : Prop := (parseMethodDescriptor y.desc).map (fun d => d.parameters.length) = some n
theorem NArg.len {y : MethodName} {n : Nat} (h : NArg y n) {sig : MethodDescriptor} (hs : parseMethodDescriptor y.desc = some sig) {α : Type} {L : List α} (hL : L.length = n) : L.length = sig.parameters.length := by
  unfold NArg at h
  rw [hs] at h
  rw [hL]
  exact (Option.some.inj h).symm
def NotMH (y : MethodName) : Prop := y.cls ≠ "java/lang/invoke/MethodHandle" ∧ y.cls ≠ "java/lang/invoke/VarHandle"
theorem CodeW.specS {M : Nat} (h : CodeW M) {args : Array Value} {s : State} (hts : ∀ w ∈ lw_all, w.before args s = true) {mk : MethodId} (hn : s.methodNamed? (mnm M) = some mk) :
    ∃ (methY : Method) (cY : Code), s.vm.method? mk = some methY ∧ methY.code = some cY ∧ cY.code = mby M ∧ cY.maxLocals = nloc M ∧ methY.sig.returnType = mrt M ∧ methY.locks = false ∧ parseMethodDescriptor (mnm M).desc = some methY.sig := by
  rcases h.2.2 with ⟨h1, h2⟩ | h1
  · obtain ⟨methY, cY, r1, r2, r3, r4, r5, r6, r7, r8⟩ := Cond.code_spec hn (hts _ h1)
    exact ⟨methY, cY, r1, r2, r3, r4, r5, r6, r8⟩
  · obtain ⟨mk', methY, cY, r0, r1, r2, r3, r4, r7, r5, r6, r8⟩ := Cond.codeWith_spec (hts _ h1)
    cases hn.symm.trans r0
    exact ⟨methY, cY, r1, r2, r3, r4, r5, r6, r8⟩
theorem ci_S {M pc rid n i : Nat} (hd : decode (mby M) pc = .ok (.invokestatic i, 3)) (hw1 : Jvm.Cond.methodLink (mnm M).cls i (mnm (rm_ rid)) ∈ lw_all) (hw2 : Jvm.Cond.static (mnm (rm_ rid)) ∈ lw_all) (hC : CodeW (rm_ rid)) (hw3 : Jvm.Cond.code (mnm (rm_ rid)) (mby (rm_ rid)) (nloc (rm_ rid)) (mrt (rm_ rid)) ∈ lw_all) (hn : NArg (mnm (rm_ rid)) n) (hy : NotMH (mnm (rm_ rid))) : CallI M pc rid n 3 := by
  intro E G p l e R s m args below meth c T locs cells slots hX X h hH ls avs rest hlen hrc
  obtain ⟨hx, hb, hml, hown, hts, -⟩ := hX
  obtain ⟨mk, hnamed⟩ := Cond.code_named (hts _ hw3)
  obtain ⟨methM, cM, hmethM, -, -, -, -, -, -, hsigM⟩ := Cond.code_spec hnamed (hts _ hw3)
  have hstatic : methM.isStatic = true := Cond.static_spec hnamed hmethM (hts _ hw2)
  obtain ⟨kP, hkP, -⟩ := className_of_methodNamed hnamed
  have hinitP : kP.init = .initialized := Cond.initialized_spec (findClass_of_methodNamed hnamed) hkP (hts _ hC.1)
  obtain ⟨vm₁, X₁, hstep₁⟩ := X.invokestatic hx hown (hts _ hw1) hnamed hmethM hstatic hkP hinitP hy (g := F0 m pc ls ((avs.map tv).reverse ++ rest)) rfl (argsL := avs.map tv) (rest := rest) (hn.len hsigM (by rw [List.length_map]; exact hlen)) rfl (by rw [hb]; exact hd)
  exact ⟨vm₁, mk, _, X₁, X₁.named hnamed, by rw [hb]; exact hd, fun tg h => hstep₁ _ fun acts => by rw [doInvoke_state]; exact h⟩
theorem ci_SN {M pc rid n i : Nat} {host : String} (hd : decode (mby M) pc = .ok (.invokestatic i, 3)) (hw1 : Jvm.Cond.methodLinkNest (mnm M).cls i (mnm (rm_ rid)) host ∈ lw_nw) (hw2 : Jvm.Cond.static (mnm (rm_ rid)) ∈ lw_all) (hC : CodeW (rm_ rid)) (hw3 : Jvm.Cond.code (mnm (rm_ rid)) (mby (rm_ rid)) (nloc (rm_ rid)) (mrt (rm_ rid)) ∈ lw_all) (hn : NArg (mnm (rm_ rid)) n) (hy : NotMH (mnm (rm_ rid))) : CallI M pc rid n 3 := by
  intro E G p l e R s m args below meth c T locs cells slots hX X h hH ls avs rest hlen hrc
  obtain ⟨hx, hb, hml, hown, hts, -, -, -, hE, -⟩ := hX
  obtain ⟨mk, hnamed⟩ := Cond.code_named (hts _ hw3)
  obtain ⟨methM, cM, hmethM, -, -, -, -, -, -, hsigM⟩ := Cond.code_spec hnamed (hts _ hw3)
  have hstatic : methM.isStatic = true := Cond.static_spec hnamed hmethM (hts _ hw2)
  obtain ⟨kP, hkP, -⟩ := className_of_methodNamed hnamed
  have hinitP : kP.init = .initialized := Cond.initialized_spec (findClass_of_methodNamed hnamed) hkP (hts _ hC.1)
  obtain ⟨vm₁, X₁, hstep₁⟩ := X.invokestaticNest hx hown (va_Nw.use rfl (hE.2.2.2.2.2.1 _ hw1)) hnamed hmethM hstatic hkP hinitP hy (g := F0 m pc ls ((avs.map tv).reverse ++ rest)) rfl (argsL := avs.map tv) (rest := rest) (hn.len hsigM (by rw [List.length_map]; exact hlen)) rfl (by rw [hb]; exact hd)
  exact ⟨vm₁, mk, _, X₁, X₁.named hnamed, by rw [hb]; exact hd, fun tg h => hstep₁ _ fun acts => by rw [doInvoke_state]; exact h⟩
/-- the receiver of a call that has one -/
theorem rc_recv {rid : Nat} {avs : List AV} {h : AH} (h0 : rct rid ≠ 0) (hr : rcO rid avs h = true) : ∃ a as, avs = vR (some a) :: as ∧ (rct rid = 1 ∨ anyK (rck rid) (h.kd a) = true) := by
  unfold rcO at hr
  split at hr
  · rename_i q; exact absurd q h0
  · rename_i q
    split at hr
    · exact ⟨_, _, rfl, Or.inl q⟩
    · cases hr
  · split at hr
    · exact ⟨_, _, rfl, Or.inr hr⟩
    · cases hr
theorem map_recv {a : Nat} {as : List AV} {rest : List Value} : (((vR (some a) :: as : List AV).map tv).reverse ++ rest) = (as.map tv).reverse ++ .ref a :: rest := by
  simp [tv, va_rf]
/-- the constructor of a class -/
theorem ci_I {M pc rid n i : Nat} (hd : decode (mby M) pc = .ok (.invokespecial i, 3)) (h0 : rct rid = 1) (hi : (mnm (rm_ rid)).name = "<init>") (hr : mrt (rm_ rid) = none) (hw1 : Jvm.Cond.methodLink (mnm M).cls i (mnm (rm_ rid)) ∈ lw_all) (hw2 : Jvm.Cond.instanceMethod (mnm (rm_ rid)) ∈ lw_all) (hw3 : Jvm.Cond.code (mnm (rm_ rid)) (mby (rm_ rid)) (nloc (rm_ rid)) (mrt (rm_ rid)) ∈ lw_all) (hn : NArg (mnm (rm_ rid)) n) (hy : NotMH (mnm (rm_ rid))) : CallI M pc rid (n + 1) 3 := by
  intro E G p l e R s m args below meth c T locs cells slots hX X h hH ls avs rest hlen hrc
  obtain ⟨hx, hb, hml, hown, hts, -⟩ := hX
  obtain ⟨a, as, rfl, -⟩ := rc_recv (by rw [h0]; decide) hrc
  rw [hr] at hw3
  rw [map_recv]
  have hpl : e.platform.magicAccessors = ({} : Platform).magicAccessors := by rw [X.admits.platform]
  obtain ⟨mk, methM, cM, kP, vm₁, hnamed, hmethM, hcodeM, -, hlocalsM, -, hkP, -, hW₁, hstep₁⟩ := Steps.initColdArgs (e := e) X.here hx X.warmed hpl hown hi hy (hts _ hw1) (hts _ hw2) (hts _ hw3) (f := F0 m pc ls ((as.map tv).reverse ++ .ref a :: rest)) rfl (fun sig hs => hn.len hs (by rw [List.length_map]; simpa using hlen)) rfl (by rw [hb]; exact hd)
  have X₁ := X.noted hW₁
  exact ⟨vm₁, mk, _, X₁, X₁.named hnamed, by rw [hb]; exact hd, fun tg h => hstep₁ _ fun acts => by rw [doInvoke_state]; exact h⟩
theorem ci_IN {M pc rid n i : Nat} {host : String} (hd : decode (mby M) pc = .ok (.invokespecial i, 3)) (h0 : rct rid = 1) (hi : (mnm (rm_ rid)).name = "<init>") (hr : mrt (rm_ rid) = none) (hw1 : Jvm.Cond.methodLinkNest (mnm M).cls i (mnm (rm_ rid)) host ∈ lw_nw) (hw2 : Jvm.Cond.instanceMethod (mnm (rm_ rid)) ∈ lw_all) (hw3 : Jvm.Cond.code (mnm (rm_ rid)) (mby (rm_ rid)) (nloc (rm_ rid)) (mrt (rm_ rid)) ∈ lw_all) (hn : NArg (mnm (rm_ rid)) n) (hy : NotMH (mnm (rm_ rid))) : CallI M pc rid (n + 1) 3 := by
  intro E G p l e R s m args below meth c T locs cells slots hX X h hH ls avs rest hlen hrc
  obtain ⟨hx, hb, hml, hown, hts, -, -, -, hE, -⟩ := hX
  obtain ⟨a, as, rfl, -⟩ := rc_recv (by rw [h0]; decide) hrc
  rw [hr] at hw3
  rw [map_recv]
  have hpl : e.platform.magicAccessors = ({} : Platform).magicAccessors := by rw [X.admits.platform]
  obtain ⟨mk, methM, cM, kP, vm₁, hnamed, hmethM, hcodeM, -, hlocalsM, -, hkP, -, hW₁, hstep₁⟩ := Steps.initColdArgsNest (e := e) X.here hx X.warmed hpl hown hi hy (va_Nw.use rfl (hE.2.2.2.2.2.1 _ hw1)) (hts _ hw2) (hts _ hw3) (f := F0 m pc ls ((as.map tv).reverse ++ .ref a :: rest)) rfl (fun sig hs => hn.len hs (by rw [List.length_map]; simpa using hlen)) rfl (by rw [hb]; exact hd)
  have X₁ := X.noted hW₁
  exact ⟨vm₁, mk, _, X₁, X₁.named hnamed, by rw [hb]; exact hd, fun tg h => hstep₁ _ fun acts => by rw [doInvoke_state]; exact h⟩
/-- a method of the receiver's own class, under its own name -/
theorem ci_V {M pc rid n i : Nat} (hd : decode (mby M) pc = .ok (.invokevirtual i, 3)) (h0 : rct rid = 2) (hw1 : Jvm.Cond.methodLink (mnm M).cls i (mnm (rm_ rid)) ∈ lw_all) (hw2 : Jvm.Cond.instanceMethod (mnm (rm_ rid)) ∈ lw_all) (hC : CodeW (rm_ rid)) (hk0 : anyK (rck rid) 0 = false) (hw3 : ∀ k, anyK (rck rid) k = true → Jvm.Cond.selects (knm k) (mnm (rm_ rid)) (mnm (rm_ rid)) ∈ lw_all) (hn : NArg (mnm (rm_ rid)) n) (hy : NotMH (mnm (rm_ rid))) : CallI M pc rid (n + 1) 3 := by
  intro E G p l e R s m args below meth c T locs cells slots hX X h hH ls avs rest hlen hrc
  obtain ⟨hx, hb, hml, hown, hts, -, -, -, hE, -⟩ := hX
  obtain ⟨a, as, rfl, hk⟩ := rc_recv (by rw [h0]; decide) hrc
  have hk : anyK (rck rid) (h.kd a) = true := hk.resolve_left (by rw [h0]; decide)
  rw [map_recv]
  have ha0 : h.kd a ≠ 0 := by intro z; rw [z, hk0] at hk; cases hk
  obtain ⟨cell, kA, c1, c2, c3, c4, c5⟩ := hH.cell hE ha0
  obtain ⟨mk, methM, hnamed, hmethM, hstM, habM⟩ := Cond.instanceMethod_spec (hts _ hw2)
  obtain ⟨c2', r2, m2, q1, q2, q3, q4, kP, hkP, hkPi⟩ := Cond.selects_spec (hts _ (hw3 _ hk))
  cases c4.symm.trans q1
  cases (State.methodFound?_of_named hnamed hy).symm.trans q2
  cases hnamed.symm.trans q3
  have hselP : selectMethod e.platform s.vm cell.cls mk = .method mk := by rw [Launch.admits_selectMethod X.admits]; exact q4
  obtain ⟨methM', cM', hmM', -, -, -, -, -, hsig⟩ := hC.specS hts hnamed
  cases hmethM.symm.trans hmM'
  obtain ⟨vm₁, X₁, hstep₁⟩ := X.invokevirtual hx hown (hts _ hw1) hnamed hmethM hstM hkP hkPi hy (a := a) (cell := cell) c1
    (fun z h => by rw [c3] at h; cases h) hselP hmethM habM hkP hkPi (g := F0 m pc ls ((as.map tv).reverse ++ .ref a :: rest)) rfl (argsL := as.map tv) (rest := rest) (hn.len hsig (by rw [List.length_map]; simpa using hlen)) rfl (by rw [hb]; exact hd)
  exact ⟨vm₁, mk, _, X₁, X₁.named hnamed, by rw [hb]; exact hd, fun tg h => hstep₁ _ fun acts => by rw [doInvoke_state]; exact h⟩
/-- an inherited method, or one under another name: the entry names x, declared in 'owner'; the call goes to the target -/
theorem ci_U {M pc rid n i : Nat} {x : MethodName} {owner : String} (hd : decode (mby M) pc = .ok (.invokevirtual i, 3)) (h0 : rct rid = 2) (hw1 : Jvm.Cond.methodLink (mnm M).cls i x ∈ lw_all) (hw2 : Jvm.Cond.sameMethod x.cls owner x.name x.desc ∈ lw_all) (hdc : Jvm.Cond.declares ⟨owner, x.name, x.desc⟩ ∈ lw_nw ∨ (Jvm.Cond.instanceMethod ⟨owner, x.name, x.desc⟩ ∈ lw_all ∧ ∃ b k r, Jvm.Cond.code ⟨owner, x.name, x.desc⟩ b k r ∈ lw_all)) (how : owner ≠ "java/lang/invoke/MethodHandle" ∧ owner ≠ "java/lang/invoke/VarHandle") (hw4 : Jvm.Cond.instanceMethod (mnm (rm_ rid)) ∈ lw_all) (hC : CodeW (rm_ rid)) (hk0 : anyK (rck rid) 0 = false) (hw3 : ∀ k, anyK (rck rid) k = true → Jvm.Cond.selects (knm k) x (mnm (rm_ rid)) ∈ lw_all) (hn : NArg x n) : CallI M pc rid (n + 1) 3 := by
  intro E G p l e R s m args below meth c T locs cells slots hX X h hH ls avs rest hlen hrc
  obtain ⟨hx, hb, hml, hown, hts, -, -, -, hE, -⟩ := hX
  obtain ⟨a, as, rfl, hk⟩ := rc_recv (by rw [h0]; decide) hrc
  have hk : anyK (rck rid) (h.kd a) = true := hk.resolve_left (by rw [h0]; decide)
  rw [map_recv]
  have ha0 : h.kd a ≠ 0 := by intro z; rw [z, hk0] at hk; cases hk
  obtain ⟨cell, kA, c1, c2, c3, c4, c5⟩ := hH.cell hE ha0
  have hdecl : va_Decl s ⟨owner, x.name, x.desc⟩ := by
    rcases hdc with q | ⟨q, b, k, r, q'⟩
    · exact va_Decl.abs (hE.2.2.2.2.2.1 _ q)
    · exact va_Decl.of (hts _ q) (hts _ q')
  obtain ⟨r0, r, hnr, hrm, hstR, hsigR⟩ := hdecl
  obtain ⟨cn, ck, r1, hcn, hck, hni, hf, hn1⟩ := Cond.sameMethod_found (hts _ hw2)
  cases hnr.symm.trans hn1
  obtain ⟨mk, methM, hnamed, hmethM, -, habM⟩ := Cond.instanceMethod_spec (hts _ hw4)
  obtain ⟨c2', r2, m2, q1, q2, q3, q4, kP, hkP, hkPi⟩ := Cond.selects_spec (hts _ (hw3 _ hk))
  cases c4.symm.trans q1
  cases hf.symm.trans q2
  cases hnamed.symm.trans q3
  have hselP : selectMethod e.platform s.vm cell.cls r0 = .method mk := by rw [Launch.admits_selectMethod X.admits]; exact q4
  obtain ⟨vm₁, X₁, hstep₁⟩ := X.invokevirtualUp hx hown (hts _ hw1) (hts _ hw2) how hnr hrm hstR (a := a) (cell := cell) c1
    (fun z h => by rw [c3] at h; cases h) hselP hmethM habM hkP hkPi (g := F0 m pc ls ((as.map tv).reverse ++ .ref a :: rest)) rfl (argsL := as.map tv) (rest := rest) (hn.len hsigR (by rw [List.length_map]; simpa using hlen)) rfl (by rw [hb]; exact hd)
  exact ⟨vm₁, mk, _, X₁, X₁.named hnamed, by rw [hb]; exact hd, fun tg h => hstep₁ _ fun acts => by rw [doInvoke_state]; exact h⟩
/-- a private method, of whatever object -/
theorem ci_P {M pc rid n i : Nat} {C0 : String} {x0 y0 : MethodName} (hd : decode (mby M) pc = .ok (.invokevirtual i, 3)) (h0 : rct rid = 2) (hw1 : Jvm.Cond.methodLink (mnm M).cls i (mnm (rm_ rid)) ∈ lw_all) (hw2 : Jvm.Cond.instanceMethod (mnm (rm_ rid)) ∈ lw_all) (hwp : Jvm.Cond.privateMethod (mnm (rm_ rid)) ∈ lw_nw) (hws : Jvm.Cond.selects C0 x0 y0 ∈ lw_all) (hy0 : y0.cls = (mnm (rm_ rid)).cls) (hC : CodeW (rm_ rid)) (hn : NArg (mnm (rm_ rid)) n) (hy : NotMH (mnm (rm_ rid))) (hk0 : anyK (rck rid) 0 = false) : CallI M pc rid (n + 1) 3 := by
  intro E G p l e R s m args below meth c T locs cells slots hX X h hH ls avs rest hlen hrc
  obtain ⟨hx, hb, hml, hown, hts, -, -, -, hE, -⟩ := hX
  obtain ⟨a, as, rfl, hk⟩ := rc_recv (by rw [h0]; decide) hrc
  have hk : anyK (rck rid) (h.kd a) = true := hk.resolve_left (by rw [h0]; decide)
  rw [map_recv]
  have ha0 : h.kd a ≠ 0 := by intro z; rw [z, hk0] at hk; cases hk
  obtain ⟨cell, kA, c1, c2, c3, c4, c5⟩ := hH.cell hE ha0
  obtain ⟨mk, methM, hnamed, hmethM, hstM, habM⟩ := Cond.instanceMethod_spec (hts _ hw2)
  obtain ⟨c2', r2, m2, q1, q2, q3, q4, kP, hkP, hkPi⟩ := Cond.selects_spec (hts _ hws)
  have e1 : m2.cls = mk.cls := by
    have z1 := findClass_of_methodNamed q3
    have z2 := findClass_of_methodNamed hnamed
    rw [hy0] at z1
    exact Option.some.inj (z1.symm.trans z2)
  rw [e1] at hkP
  have hselP : selectMethod e.platform s.vm cell.cls mk = .method mk := selectMethod_private hmethM (Cond.privateMethod_at (va_Nw.use (A := #[]) rfl (hE.2.2.2.2.2.1 _ hwp)) mk methM hnamed hmethM)
  obtain ⟨methM', cM', hmM', -, -, -, -, -, hsig⟩ := hC.specS hts hnamed
  cases hmethM.symm.trans hmM'
  obtain ⟨vm₁, X₁, hstep₁⟩ := X.invokevirtual hx hown (hts _ hw1) hnamed hmethM hstM hkP hkPi hy (a := a) (cell := cell) c1
    (fun z h => by rw [c3] at h; cases h) hselP hmethM habM hkP hkPi (g := F0 m pc ls ((as.map tv).reverse ++ .ref a :: rest)) rfl (argsL := as.map tv) (rest := rest) (hn.len hsig (by rw [List.length_map]; simpa using hlen)) rfl (by rw [hb]; exact hd)
  exact ⟨vm₁, mk, _, X₁, X₁.named hnamed, by rw [hb]; exact hd, fun tg h => hstep₁ _ fun acts => by rw [doInvoke_state]; exact h⟩
/-- super.method(..) -/
theorem ci_SU {M pc rid n i : Nat} (hd : decode (mby M) pc = .ok (.invokespecial i, 3)) (h0 : rct rid = 2) (hi : (mnm (rm_ rid)).name ≠ "<init>") (hw1 : Jvm.Cond.methodLink (mnm M).cls i (mnm (rm_ rid)) ∈ lw_all) (hw2 : Jvm.Cond.sameMethod (mnm (rm_ rid)).cls (mnm (rm_ rid)).cls (mnm (rm_ rid)).name (mnm (rm_ rid)).desc ∈ lw_all) (hw3 : Jvm.Cond.superclass (mnm M).cls (mnm (rm_ rid)).cls ∈ lw_all) (hw4 : Jvm.Cond.instanceMethod (mnm (rm_ rid)) ∈ lw_all) (hC : CodeW (rm_ rid)) (hn : NArg (mnm (rm_ rid)) n) (hk0 : anyK (rck rid) 0 = false) : CallI M pc rid (n + 1) 3 := by
  intro E G p l e R s m args below meth c T locs cells slots hX X h hH ls avs rest hlen hrc
  obtain ⟨hx, hb, hml, hown, hts, -, -, -, hE, -⟩ := hX
  obtain ⟨a, as, rfl, hk⟩ := rc_recv (by rw [h0]; decide) hrc
  have hk : anyK (rck rid) (h.kd a) = true := hk.resolve_left (by rw [h0]; decide)
  rw [map_recv]
  have ha0 : h.kd a ≠ 0 := by intro z; rw [z, hk0] at hk; cases hk
  obtain ⟨cell, kA, c1, c2, c3, c4, c5⟩ := hH.cell hE ha0
  obtain ⟨mk, methM, hnamed, hmethM, hstM, habM⟩ := Cond.instanceMethod_spec (hts _ hw4)
  obtain ⟨methM', cM', hmM', -, -, -, -, -, hsig⟩ := hC.specS hts hnamed
  cases hmethM.symm.trans hmM'
  obtain ⟨ps, dk, kp, hps, hdk, hkp, hsuper, -, -, hnid⟩ := Cond.superclass_spec hown (hts _ hw3)
  have hn' : s.methodNamed? ⟨(mnm (rm_ rid)).cls, (mnm (rm_ rid)).name, (mnm (rm_ rid)).desc⟩ = some mk := hnamed
  have hpm : ps = mk.cls := Option.some.inj (hps.symm.trans (findClass_of_methodNamed hnamed))
  have hsub : s.vm.isSubclass ps mk.cls = true := by rw [hpm]; simp [Vm.isSubclass, Vm.isSubclassAux]
  obtain ⟨vm₁, X₁, hstep₁⟩ := X.invokespecialUp hx hown (hts _ hw1) (hts _ hw2) hn' hmethM hstM habM hi hdk hnid hps hsuper hsub (a := a) (cell := cell) c1
    (fun z h => by rw [c3] at h; cases h) c5 (g := F0 m pc ls ((as.map tv).reverse ++ .ref a :: rest)) rfl (argsL := as.map tv) (rest := rest) (hn.len hsig (by rw [List.length_map]; simpa using hlen)) rfl (by rw [hb]; exact hd)
  exact ⟨vm₁, mk, _, X₁, X₁.named hnamed, by rw [hb]; exact hd, fun tg h => hstep₁ _ (by rw [doInvoke_state]; exact h)⟩
theorem retv_inl {t : Nat} {v : Option AV} {g : AH} {p : Nat → AH → Option Out} {k : St → AH → Option Out} {st : St} {r : Out} (h : retv t (some (Sum.inl v, g)) p k st = some r) : k (v.toList ++ st) g = some r := by
  match t, v, h with
  | 0, none, h => exact h
  | 1, some (Sum.inl x), h => exact h
  | 2, some (Sum.inr (Sum.inl x)), h => exact h
  | t + 3, some (Sum.inr (Sum.inr x)), h => exact h
theorem retv_inr {t : Nat} {a : Nat} {g : AH} {p : Nat → AH → Option Out} {k : St → AH → Option Out} {st : St} {r : Out} (h : retv t (some (Sum.inr a, g)) p k st = some r) : p a g = some r := by
  match t, h with
  | 0, h => exact h
  | 1, h => exact h
  | 2, h => exact h
  | t + 3, h => exact h
/-- A CALL IS SIMULATED -/
theorem si_call {M pc rid n t len cc : Nat} (hcc : cc = n * 4 + t) (ht : t < 4) (hci : CallI M pc rid n len) (hnat : rm_ rid < nat0) (hcw : CodeW (rm_ rid)) (hh : HpOK M pc none) : SimI M pc (.invokeinterface rid cc) (pc + len) none := by
  intro E G p l e s m args below meth c hX d h0 out C J k hC hJ hk als ast h hs
  have hX' := hX
  obtain ⟨hx, hb, hml, hown, hts, hlk, hrt, hnm, hE, hht⟩ := hX
  have e1 : cc / 4 = n := by omega
  have e2 : cc % 4 = t := by omega
  obtain ⟨q1, q2⟩ := gd_some hs
  rw [e1, e2] at q2
  rw [e1] at q1
  simp only [Bool.and_eq_true, decide_eq_true_eq] at q1
  obtain ⟨⟨q3, q4⟩, q5⟩ := q1
  intro h1 h2 H locs ls hH hL hl
  obtain ⟨o, ho⟩ := retv_some q2
  rw [ho] at q2
  obtain ⟨d', hd', hM, -⟩ := hC _ _ _ _ ho
  have hM := hM hnat hcw
  obtain ⟨r, h'⟩ := o
  have hstk : ast.map tv = (((ast.take n).reverse).map tv).reverse ++ (ast.drop n).map tv := by
    rw [← List.map_reverse, List.reverse_reverse, ← List.map_append, List.take_append_drop]
  rw [hstk]
  refine w_call (M := M) (len := len) hd' hml hts hE hcw hM hH hL.1.1 h1 h2 q4 ?_ ?_ ?_
  · intro T hT X
    exact hci E G p l e _ s m args below meth c T locs _ _ hX' X h (by rw [hT]; exact hH) ls (ast.take n).reverse ((ast.drop n).map tv) (by rw [List.length_reverse, List.length_take]; omega) q5
  · intro v hv k1 k2 H' L hH' hL'
    subst hv
    have q6 := retv_inl q2
    have q7 := hk _ _ _ q6 (by omega) (by omega) H' (locs ++ L) ls hH' hL (fun q hq => (List.mem_append.mp hq).elim (hl q) (hL' q))
    have e3 : (v.toList ++ ast.drop n).map tv = (v.map tv).toList ++ (ast.drop n).map tv := by cases v <;> rfl
    rw [e3] at q7
    exact q7
  · intro a ha k1 k2 T' L hH' hL' X'
    subst ha
    have q6 : some (Sum.inr a, h') = some out := retv_inr q2
    cases q6
    exact w_out hht hh hlk (by omega) (by omega) hH' (fun q hq => (List.mem_append.mp hq).elim (hl q) (hL' q)) X'
