/-! a throw that is caught: the catch type may have to be resolved first -/
set_option maxRecDepth 100000
theorem find_cold {e : Env} {s : State} {f : JFrame} {a : Addr} {meth : Method} {code : Code} {x : ExceptionTableEntry} {c : ClassId} {cell : Cell} {vm' : Vm} (hm : s.vm.method? f.method = some meth) (hc : meth.code = some code) (ht : code.exceptionTable.toList = [x]) (hx : covers x f.pc = true) (h0 : x.catchType ≠ 0)
    (hg : (Jvm.resolveClass f.method.cls x.catchType).Gives e.toSetting s.vm (.ok c) vm') (hsz : vm'.classes.size ≤ s.vm.classes.size) (hcell : s.heap[a]? = some cell) (hobj : ∀ k, cell.vm ≠ .statics k) (hk : ∃ k, vm'.classes[cell.cls]? = some k) (hcc : ∃ k, vm'.classes[c]? = some k) (hfit : vm'.assignable cell.cls c = true) :
    ∀ (Q : Handler → Pre) (E : CtlPost) (d : Bool) (acts : List Action), wp (findHandler f a) Q E e d acts s ↔ Q (.found x.handlerPc) d acts (s.setVm vm') := by
  intro Q E d acts
  obtain ⟨ha, ht'⟩ := hg.op (op := VmOp.resolveClass f.method.cls x.catchType) rfl
  rw [W.findHandler_eq hm hc, ht]
  simp only [covers] at hx
  simp [findHandler.go, hx, h0, ha, ht', hsz, hcell, hobj, hk, hcc, hfit, VmOp.dirties, VmOp.acts]
theorem catch_cold {e : Env} {s : State} {a : Addr} {f : JFrame} {r : List Frame} {pc : Nat} {vm' : Vm} (hfind : ∀ (Q : Handler → Pre) (E : CtlPost) (d : Bool) (acts : List Action), wp (findHandler f a) Q E e d acts s ↔ Q (.found pc) d acts (s.setVm vm')) :
    (stepThrowing e s a (.java f :: r)).Is ((s.setVm vm').setFrames (.java { f with pc := pc, stack := [.ref a] } :: r)) [] := by
  simp only [stepThrowing, searchFrame, vmDo]
  generalize hr : Sem.go _ e false [] s = res
  obtain ⟨as, rfl, ha⟩ := Sem.eq_ok_of hr (a := Handler.found pc) (s' := s.setVm vm') (acts' := []) (by simp [hfind _ _ _ _])
  exact ⟨rfl, ha⟩
theorem caught_cold {tb : Tables} {e : Env} {s target : State} {g : JFrame} {c : Code} {below : List Frame} {a : Addr} (h : At s g.method c below) {pc : Nat} {vm' : Vm} (hfind : ∀ (Q : Handler → Pre) (E : CtlPost) (d : Bool) (acts : List Action), wp (findHandler g a) Q E e d acts ((s.setTop g).pushFrame (.throwing a)) ↔ Q (.found pc) d acts (((s.setTop g).pushFrame (.throwing a)).setVm vm'))
    (hrest : Steps tb e below ((s.setVm vm').setTop { g with pc := pc, stack := [.ref a] }) target) :
    Steps tb e below ((s.setTop g).pushFrame (.throwing a)) target := by
  obtain ⟨hgo, hw⟩ := h.throwing a
  refine Steps.head hgo hw ?_
  rw [stepThread_throwing (frames_entered h.top _), (catch_cold (s := (s.setTop g).pushFrame (.throwing a)) hfind).1]
  obtain ⟨g₀, hg⟩ := Option.isSome_iff_exists.mp h.top
  obtain ⟨r, hr⟩ := State.topJava?_eq_some.mp hg
  have hr' : (s.setVm vm').frames = .java g₀ :: r := hr
  rw [State.setTop_of_frames _ hr'] at hrest
  have e1 : ((((s.setTop g).pushFrame (.throwing a)).setVm vm').setFrames (.java { g with pc := pc, stack := [.ref a] } :: s.frames.tail)) = (s.setVm vm').setFrames (.java { g with pc := pc, stack := [.ref a] } :: r) := by
    rw [hr]
    show ((((s.setTop g).pushFrame (.throwing a)).setFrames _).setVm vm') = ((s.setFrames _).setVm vm')
    rw [State.pushFrame, State.setFrames_setFrames, State.setTop_of_frames _ hr, State.setFrames_setFrames]
    rfl
  rw [e1]
  exact hrest
/-- a thrown Wrong comes to the handler -/
theorem w_caught {E : EV} {G : GV} {p : Program} {l : Launch} {e : Env} {s : State} {m : MethodId} {args : Array Value} {below : List Frame} {meth : Method} {c : Code} {locs : List Loc} {R : Room} {cells slots : Nat} {Q : State → Prop} {M pc t a : Nat} {h' : AH} {ls : Array Slot} {stk : List Value} {T' : State} (hX : CX E G p s m args meth c M) (hh : HpOK M pc (some t)) (hw : Jvm.Cond.classLink "FastPlane" 129 "FastPlane$Wrong" ∈ lw_all) (hH : HR E G h' T'.heap) (hk : h'.kd a = 8) (X : Stand p l e R s m args below meth c T' locs cells slots)
    (kk : W p l e R s m args below meth c T'.heap locs cells slots Q (F0 m t ls [.ref a])) : ∃ z, Steps p.tables e below ((T'.setTop (F0 m pc ls stk)).pushFrame (.throwing a)) z ∧ Q z := by
  obtain ⟨hx, hb, hml, hown, hts, hlk, hrt, hnm, hE, hht⟩ := hX
  obtain ⟨a0, b0, e1, e2, e3, e4⟩ := hh
  have hwb := hts _ hw
  rw [e4] at hown
  have hpl : e.platform.magicAccessors = ({} : Platform).magicAccessors := by rw [X.admits.platform]
  obtain ⟨cc, hfcc, hcl⟩ := Cond.classLink_spec hown hwb e.platform hpl
  obtain ⟨hg₁, hwarm₁, hready₁⟩ := State.classEntry (e := e) X.warmed hcl
  generalize hvm : T'.vm.noted m.cls 129 (.cls cc) = vm₁ at hg₁ hwarm₁ hready₁
  have hsz : vm₁.classes.size ≤ T'.vm.classes.size := by rw [← hvm, Vm.size_noted]; exact Nat.le_refl _
  have X₁ := X.noted hwarm₁
  obtain ⟨cell, kA, c1, c2, c3, c4, c5⟩ := hH.cell hE (a := a) (by omega)
  rw [hk] at c2 c4
  have ecc : cell.cls = cc := Option.some.inj ((show s.vm.findClass "FastPlane$Wrong" = some cell.cls from c4).symm.trans hfcc)
  obtain ⟨kA', c6, -⟩ := hwarm₁.alike.2.2 _ _ c5
  have hht : c.exceptionTable.toList.map (fun x => (x.startPc, x.endPc, x.handlerPc, x.catchType)) = hnd M := hht
  rw [e1] at hht
  obtain ⟨x, hxl, hxe⟩ : ∃ x, c.exceptionTable.toList = [x] ∧ (x.startPc, x.endPc, x.handlerPc, x.catchType) = (a0, b0, t, 129) := by
    cases hl : c.exceptionTable.toList with
    | nil => rw [hl] at hht; cases hht
    | cons x r =>
      rw [hl] at hht
      simp only [List.map_cons, List.cons.injEq, List.map_eq_nil_iff] at hht
      exact ⟨x, by rw [hht.2], hht.1⟩
  have x1 : x.startPc = a0 := congrArg (·.1) hxe
  have x2 : x.endPc = b0 := congrArg (·.2.1) hxe
  have x3 : x.handlerPc = t := congrArg (·.2.2.1) hxe
  have x4 : x.catchType = 129 := congrArg (·.2.2.2) hxe
  have hfind := find_cold (e := e) (s := (T'.setTop (F0 m pc ls stk)).pushFrame (.throwing a)) (f := F0 m pc ls stk) (a := a) (meth := meth) (code := c) (x := x) (c := cc) (cell := cell) (vm' := vm₁)
    (by rw [Stand.throwing_vm]; exact X.method') X.code hxl (by simp only [covers, x1, x2, Bool.and_eq_true, decide_eq_true_eq]; exact ⟨e2, e3⟩) (by rw [x4]; decide)
    (by rw [Stand.throwing_vm, x4]; exact hg₁) (by rw [Stand.throwing_vm]; exact hsz) (by rw [Stand.throwing_heap]; exact c1) (fun k => by rw [c3]; simp) ⟨kA', c6⟩ (by rw [← ecc]; exact ⟨kA', c6⟩) (by rw [ecc]; exact va_asg _ _)
  rw [x3] at hfind
  obtain ⟨z, s1, s2⟩ := kk (T'.setVm vm₁) rfl X₁
  exact ⟨z, caught_cold (g := F0 m pc ls stk) X.here hfind s1, s2⟩
/-- A CALL IN THE REACH OF A HANDLER -/
theorem si_callH {M pc rid n t len cc t0 : Nat} (hcc : cc = n * 4 + t) (ht : t < 4) (hci : CallI M pc rid n len) (hnat : rm_ rid < nat0) (hcw : CodeW (rm_ rid)) (hh : HpOK M pc (some t0)) (hw : Jvm.Cond.classLink "FastPlane" 129 "FastPlane$Wrong" ∈ lw_all) : SimI M pc (.invokeinterface rid cc) (pc + len) (some t0) := by
  intro E G p l e s m args below meth c hX d h0 out C J k hC hJ hk als ast h hs
  have hX' := hX
  obtain ⟨hx, hb, hml, hown, hts, hlk, hrt, hnm, hE, hht⟩ := hX
  have e1 : cc / 4 = n := by omega
  have e2 : cc % 4 = t := by omega
  obtain ⟨q1, q2⟩ := gd_some hs
  rw [e1, e2] at q2
  rw [e1] at q1
  simp only [Bool.and_eq_true, decide_eq_true_eq] at q1
  obtain ⟨⟨q3, q4⟩, q5⟩ := q1
  intro h1 h2 H locs ls hH hL hl
  obtain ⟨o, ho⟩ := retv_some q2
  rw [ho] at q2
  obtain ⟨d', hd', hM, -⟩ := hC _ _ _ _ ho
  have hM := hM hnat hcw
  obtain ⟨r, h'⟩ := o
  have hstk : ast.map tv = (((ast.take n).reverse).map tv).reverse ++ (ast.drop n).map tv := by
    rw [← List.map_reverse, List.reverse_reverse, ← List.map_append, List.take_append_drop]
  rw [hstk]
  refine w_call (M := M) (len := len) hd' hml hts hE hcw hM hH hL.1.1 h1 h2 q4 ?_ ?_ ?_
  · intro T hT X
    exact hci E G p l e _ s m args below meth c T locs _ _ hX' X h (by rw [hT]; exact hH) ls (ast.take n).reverse ((ast.drop n).map tv) (by rw [List.length_reverse, List.length_take]; omega) q5
  · intro v hv k1 k2 H' L hH' hL'
    subst hv
    have q6 := retv_inl q2
    have q7 := hk _ _ _ q6 (by omega) (by omega) H' (locs ++ L) ls hH' hL (fun q hq => (List.mem_append.mp hq).elim (hl q) (hL' q))
    have e3 : (v.toList ++ ast.drop n).map tv = (v.map tv).toList ++ (ast.drop n).map tv := by cases v <;> rfl
    rw [e3] at q7
    exact q7
  · intro a ha k1 k2 T' L hH' hL' X'
    subst ha
    have q6 : gd (h'.kd a == 8) (J t0 als [vR (some a)] h') = some out := retv_inr q2
    obtain ⟨q7, q8⟩ := gd_some q6
    have q7 : h'.kd a = 8 := by simpa using q7
    have q9 := hJ _ _ _ _ q8 (by omega) (by omega) T'.heap (locs ++ L) ls hH' hL (fun q hq => (List.mem_append.mp hq).elim (hl q) (hL' q))
    exact w_caught hX' hh hw hH' q7 X' q9
