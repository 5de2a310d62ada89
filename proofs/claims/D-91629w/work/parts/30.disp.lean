/-! calls that go by the receiver's kind; throws that are caught -/
set_option maxRecDepth 100000
theorem inv_D {E : EV} {G : GV} {p : Program} {l : Launch} {e : Env} {R : Room} {s : State} {m : MethodId} {args : Array Value} {below : List Frame} {meth : Method} {c : Code} {T : State} {locs : List Loc} {cells slots : Nat} {h : AH} {ls : Array Slot} {M M' pc n i a : Nat} {as : List AV} {rest : List Value} {x : MethodName} {owner : String} (hX : CX E G p s m args meth c M) (X : Stand p l e R s m args below meth c T locs cells slots) (hH : HR E G h T.heap) (ha0 : h.kd a ≠ 0) (hlen : as.length = n)
    (hd : decode (mby M) pc = .ok (.invokevirtual i, 3)) (hw1 : Jvm.Cond.methodLink (mnm M).cls i x ∈ lw_all) (hw2 : Jvm.Cond.sameMethod x.cls owner x.name x.desc ∈ lw_all) (hdc : Jvm.Cond.declares ⟨owner, x.name, x.desc⟩ ∈ lw_nw) (how : owner ≠ "java/lang/invoke/MethodHandle" ∧ owner ≠ "java/lang/invoke/VarHandle") (hw4 : Jvm.Cond.instanceMethod (mnm M') ∈ lw_all) (hw3 : Jvm.Cond.selects (knm (h.kd a)) x (mnm M') ∈ lw_all) (hn : NArg x n) :
    Inv p l e R s m args below meth c T locs cells slots (F0 m pc ls ((as.map tv).reverse ++ .ref a :: rest)) rest (mnm M') 3 ((vR (some a) :: as).map tv).toArray := by
  obtain ⟨hx, hb, hml, hown, hts, -, -, -, hE, -⟩ := hX
  obtain ⟨cell, kA, c1, c2, c3, c4, c5⟩ := hH.cell hE ha0
  obtain ⟨r0, r, hnr, hrm, hstR, hsigR⟩ := va_Decl.abs (hE.2.2.2.2.2.1 _ hdc)
  obtain ⟨cn, ck, r1, hcn, hck, hni, hf, hn1⟩ := Cond.sameMethod_found (hts _ hw2)
  cases hnr.symm.trans hn1
  obtain ⟨mk, methM, hnamed, hmethM, -, habM⟩ := Cond.instanceMethod_spec (hts _ hw4)
  obtain ⟨c2', r2, m2, q1, q2, q3, q4, kP, hkP, hkPi⟩ := Cond.selects_spec (hts _ hw3)
  cases c4.symm.trans q1
  cases hf.symm.trans q2
  cases hnamed.symm.trans q3
  have hselP : selectMethod e.platform s.vm cell.cls r0 = .method mk := by rw [Launch.admits_selectMethod X.admits]; exact q4
  obtain ⟨vm₁, X₁, hstep₁⟩ := X.invokevirtualUp hx hown (hts _ hw1) (hts _ hw2) how hnr hrm hstR (a := a) (cell := cell) c1
    (fun z h => by rw [c3] at h; cases h) hselP hmethM habM hkP hkPi (g := F0 m pc ls ((as.map tv).reverse ++ .ref a :: rest)) rfl (argsL := as.map tv) (rest := rest) (hn.len hsigR (by rw [List.length_map]; exact hlen)) rfl (by rw [hb]; exact hd)
  exact ⟨vm₁, mk, _, X₁, X₁.named hnamed, by rw [hb]; exact hd, fun tg h => hstep₁ _ fun acts => by rw [doInvoke_state]; exact h⟩
/-- what is behind such a call -/
theorem w_callI {E : EV} {G : GV} {p : Program} {l : Launch} {e : Env} {s : State} {m : MethodId} {args : Array Value} {below : List Frame} {meth : Method} {c : Code} {H : Heap} {locs : List Loc} {ls : Array Slot} {M M' d pc len : Nat} {h0 h : AH} {out : Out} {C : Nat → List AV → AH → Option Out} {k : Ls → St → AH → Option Out} {als : Ls} {st : St} {avs : List AV} {stk : List Value} (hX : CX E G p s m args meth c M) (hC : CSnd E G l d C) (hcw : CodeW M') (hnat : M' < nat0) (hh : HpOK M pc none) (hst : st.length ≤ 8)
    (hs : cI (C M' avs h) th (fun x g => k als (vI x :: st) g) = some out) (hk : ∀ als ast h, k als ast h = some out → WA E G p l e s m args below meth c M d h0 out (pc + len) als ast h) (h1 : h0.nx ≤ h.nx) (h2 : h0.us ≤ h.us) (hH : HR E G h H) (hL : LR M als ls) (hl : ∀ q ∈ locs, E.bs ≤ q.base)
    (hI : ∀ T : State, T.heap = H → Stand p l e (RM E d h0) s m args below meth c T locs (h.nx - h0.nx) (h.us - h0.us) → Inv p l e (RM E d h0) s m args below meth c T locs (h.nx - h0.nx) (h.us - h0.us) (F0 m pc ls stk) (st.map tv) (mnm M') len (avs.map tv).toArray) :
    W p l e (RM E d h0) s m args below meth c H locs (h.nx - h0.nx) (h.us - h0.us) (QO E G below out h0 s) (F0 m pc ls stk) := by
  obtain ⟨hx, hb, hml, hown, hts, hlk, hrt, hnm, hE, hht⟩ := hX
  have q2 : retv 1 (C M' avs h) th (fun st g => k als st g) st = some out := hs
  obtain ⟨o, ho⟩ := retv_some q2
  rw [ho] at q2
  obtain ⟨d', hd', hM, -⟩ := hC _ _ _ _ ho
  have hM := hM hnat hcw
  obtain ⟨r, h'⟩ := o
  refine w_call (M := M) (len := len) hd' hml hts hE hcw hM hH hL.1.1 h1 h2 hst hI ?_ ?_
  · intro v hv k1 k2 H' L hH' hL'
    subst hv
    have q6 := retv_inl q2
    have q7 := hk _ _ _ q6 (by omega) (by omega) H' (locs ++ L) ls hH' hL (fun q hq => (List.mem_append.mp hq).elim (hl q) (hL' q))
    have e3 : (v.toList ++ st).map tv = (v.map tv).toList ++ st.map tv := by cases v <;> rfl
    rw [e3] at q7
    exact q7
  · intro a ha k1 k2 T' L hH' hL' X'
    subst ha
    have q6 : some (Sum.inr a, h') = some out := retv_inr q2
    cases q6
    exact w_out hht hh hlk (by omega) (by omega) hH' (fun q hq => (List.mem_append.mp hq).elim (hl q) (hL' q)) X'
/-- Part.millimetres -/
theorem si_mm {M pc i : Nat} {x : MethodName} {owner : String} (hd : decode (mby M) pc = .ok (.invokevirtual i, 3)) (hw1 : Jvm.Cond.methodLink (mnm M).cls i x ∈ lw_all) (hw2 : Jvm.Cond.sameMethod x.cls owner x.name x.desc ∈ lw_all) (hdc : Jvm.Cond.declares ⟨owner, x.name, x.desc⟩ ∈ lw_nw) (how : owner ≠ "java/lang/invoke/MethodHandle" ∧ owner ≠ "java/lang/invoke/VarHandle") (hn : NArg x 0)
    (hwA : Jvm.Cond.selects (knm 9) x (mnm vt0_9) ∈ lw_all) (hwB : Jvm.Cond.selects (knm 10) x (mnm vt0_10) ∈ lw_all) (hiA : Jvm.Cond.instanceMethod (mnm vt0_9) ∈ lw_all) (hiB : Jvm.Cond.instanceMethod (mnm vt0_10) ∈ lw_all) (hcA : CodeW vt0_9) (hcB : CodeW vt0_10) (hh : HpOK M pc none) : SimI M pc (.invokevirtual 0) (pc + 3) none := by
  intro E G p l e s m args below meth c hX d h0 out C J k hC hJ hk als ast h hs
  rcases ast with _ | ⟨y | y | y, st⟩ <;> first | exact nomatch (show (none : Option Out) = some out from hs) | skip
  obtain ⟨a, rfl, q2⟩ := nn_of hs
  obtain ⟨q3, q4⟩ := gd_some q2
  simp only [Bool.and_eq_true, decide_eq_true_eq, Bool.or_eq_true, beq_iff_eq] at q3
  obtain ⟨q5, q6⟩ := q3
  intro h1 h2 H locs ls hH hL hl
  rcases q6 with q6 | q6
  · rw [if_pos q6] at q4
    refine w_callI (avs := [vR (some a)]) (M' := vt0_9) hX hC hcA (by decide) hh q5 q4 hk h1 h2 hH hL hl (fun T hT X => ?_)
    exact inv_D (as := []) hX X (by rw [hT]; exact hH) (by omega) rfl hd hw1 hw2 hdc how hiA (by rw [q6]; exact hwA) hn
  · rw [if_neg (by omega)] at q4
    refine w_callI (avs := [vR (some a)]) (M' := vt0_10) hX hC hcB (by decide) hh q5 q4 hk h1 h2 hH hL hl (fun T hT X => ?_)
    exact inv_D (as := []) hX X (by rw [hT]; exact hH) (by omega) rfl hd hw1 hw2 hdc how hiB (by rw [q6]; exact hwB) hn
/-- Ex.of -/
theorem si_of {M pc i : Nat} {x : MethodName} {owner : String} (hd : decode (mby M) pc = .ok (.invokevirtual i, 3)) (hw1 : Jvm.Cond.methodLink (mnm M).cls i x ∈ lw_all) (hw2 : Jvm.Cond.sameMethod x.cls owner x.name x.desc ∈ lw_all) (hdc : Jvm.Cond.declares ⟨owner, x.name, x.desc⟩ ∈ lw_nw) (how : owner ≠ "java/lang/invoke/MethodHandle" ∧ owner ≠ "java/lang/invoke/VarHandle") (hn : NArg x 1)
    (hw : ∀ k, anyK exk k = true → Jvm.Cond.selects (knm k) x (mnm (vt1 k)) ∈ lw_all ∧ Jvm.Cond.instanceMethod (mnm (vt1 k)) ∈ lw_all ∧ CodeW (vt1 k) ∧ vt1 k < nat0 ∧ k ≠ 0) (hh : HpOK M pc none) : SimI M pc (.invokevirtual 1) (pc + 3) none := by
  intro E G p l e s m args below meth c hX d h0 out C J k hC hJ hk als ast h hs
  rcases ast with _ | ⟨w, _ | ⟨y | y | y, st⟩⟩
  · exact nomatch (show (none : Option Out) = some out from hs)
  · rcases w with w | w | w <;> exact nomatch (show (none : Option Out) = some out from hs)
  · rcases w with w | w | w <;> exact nomatch (show (none : Option Out) = some out from hs)
  · rcases w with w | w | w <;> exact nomatch (show (none : Option Out) = some out from hs)
  · obtain ⟨a, rfl, q2⟩ := nn_of hs
    obtain ⟨q3, q4⟩ := gd_some q2
    simp only [Bool.and_eq_true, decide_eq_true_eq] at q3
    obtain ⟨q5, q6⟩ := q3
    obtain ⟨z1, z2, z3, z4, z5⟩ := hw _ q6
    intro h1 h2 H locs ls hH hL hl
    refine w_callI (avs := [vR (some a), w]) (M' := vt1 (h.kd a)) hX hC z3 z4 hh q5 q4 hk h1 h2 hH hL hl (fun T hT X => ?_)
    exact inv_D (as := [w]) hX X (by rw [hT]; exact hH) z5 rfl hd hw1 hw2 hdc how z2 z1 hn
