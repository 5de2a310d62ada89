/-! SOUNDNESS: what the abstract machine answers, the machine does -/
set_option maxRecDepth 100000
theorem lay_len (avs : List AV) : (lg_sl (avs.map tv)).length = (laya avs).length := by
  induction avs with
  | nil => rfl
  | cons v l ih =>
    have e : lg_sl ((v :: l).map tv) = (if (tv v).category = 2 then [Slot.val (tv v), .second] else [.val (tv v)]) ++ lg_sl (l.map tv) := by
      simp [lg_sl]
    rw [e, List.length_append, ih]
    rcases v with x | x | (_ | x) <;> simp [tv, va_rf, Value.category, laya] <;> omega
theorem padl_get (l : Ls) : ∀ (n i : Nat) (v : AV), lget (padl n l) i = some v → lget l i = some v := by
  induction l with
  | nil =>
    intro n
    induction n with
    | zero => intro i v h; exact h
    | succ n ih =>
      intro i v h
      cases i with
      | zero => cases h
      | succ i => exact ih i v h
  | cons x l ih =>
    intro n i v h
    cases n with
    | zero => exact h
    | succ n =>
      cases i with
      | zero => exact h
      | succ i => exact ih n i v h
theorem lay_args (avs : List AV) : ∀ (b i : Nat) (v : AV), lget (laya avs) i = some v → (b + i, tv v) ∈ lv_args b (avs.map tv) := by
  induction avs with
  | nil => intro b i v h; cases h
  | cons w l ih =>
    intro b i v h
    rcases w with x | x | o
    · cases i with
      | zero => cases h; exact List.mem_cons_self
      | succ i =>
        have := ih (b + 1) i v h
        refine List.mem_cons_of_mem _ ?_
        have e : b + 1 + i = b + (i + 1) := by omega
        rw [e] at this
        exact this
    · cases i with
      | zero => cases h; exact List.mem_cons_self
      | succ i =>
        cases i with
        | zero => cases h
        | succ i =>
          have := ih (b + 2) i v h
          refine List.mem_cons_of_mem _ ?_
          have e : b + 2 + i = b + (i + 1 + 1) := by omega
          rw [e] at this
          exact this
    · cases i with
      | zero => cases h; exact List.mem_cons_self
      | succ i =>
        have := ih (b + 1) i v h
        refine List.mem_cons_of_mem _ ?_
        have e : b + 1 + i = b + (i + 1) := by omega
        rw [e] at this
        cases o <;> exact this
theorem lok_mem (L : List Nat) (l : Ls) : ∀ (b i : Nat) (x : Int64), lok L b l = true → lget l i = some (vL x) → b + i ∈ L := by
  induction l with
  | nil => intro b i x _ h; cases h
  | cons y l ih =>
    intro b i x hk h
    have hk2 : lok L (b + 1) l = true := by
      rcases y with _ | (y | y | y)
      · exact hk
      · exact hk
      · exact ((Bool.and_eq_true _ _).mp hk).2
      · exact hk
    cases i with
    | zero =>
      have h : y = some (vL x) := h
      subst h
      have := ((Bool.and_eq_true _ _).mp hk).1
      simpa using this
    | succ i =>
      have := ih (b + 1) i x hk2 h
      have e : b + 1 + i = b + (i + 1) := by omega
      rw [e] at this
      exact this
/-- the locals at a method's entry -/
theorem LR.entry {M : Nat} {avs : List AV} (h1 : (laya avs).length ≤ nloc M) (h2 : lok (lsl M) 0 (laya avs) = true) : LR M (padl (nloc M) (laya avs)) ((lg_sl (avs.map tv) ++ List.replicate (nloc M - (lg_sl (avs.map tv)).length) Slot.unset).toArray) := by
  have h := lv_entry (avs.map tv) (n := nloc M) (by rw [lay_len]; exact h1)
  refine ⟨⟨h.1, h.2.1, fun q hq => ?_⟩, fun i x hi => ?_⟩
  · obtain ⟨j, v, q1, rfl⟩ := (knl_mem _ 0 q).mp hq
    exact h.2.2 _ (lay_args avs 0 j v (padl_get _ _ _ _ q1))
  · have := lok_mem _ _ 0 i x h2 (padl_get _ _ _ _ hi)
    rwa [Nat.zero_add] at this
theorem blk_snd {E : EV} {G : GV} {p : Program} {l : Launch} {e : Env} {s : State} {m : MethodId} {args : Array Value} {below : List Frame} {meth : Method} {c : Code} {M d : Nat} {h0 : AH} {out : Out} {C : Nat → List AV → AH → Option Out} {J : Nat → Ls → St → AH → Option Out} {hp : Option Nat} (hX : CX E G p s m args meth c M) (hC : CSnd E G l d C) (hJ : ∀ t als ast h, J t als ast h = some out → WA E G p l e s m args below meth c M d h0 out t als ast h) :
    ∀ (L : List (Nat × Instr)) (nx pc : Nat), SimL M hp L nx pc → ∀ als ast h, blk E C J hp L nx als ast h = some out → WA E G p l e s m args below meth c M d h0 out pc als ast h := by
  intro L
  induction L with
  | nil =>
    intro nx pc hS als ast h hb
    have hS : nx = pc := hS
    subst hS
    exact hJ _ _ _ _ hb
  | cons q L ih =>
    intro nx pc hS als ast h hb
    obtain ⟨h1, pc', hI, hL⟩ := hS
    exact hI E G p l e s m args below meth c hX d h0 out C J (fun als ast h => blk E C J hp L nx als ast h) hC hJ (fun als ast h hk => ih nx pc' hL als ast h hk) als ast h hb
/-- all blocks are simulated; every method's code stands in the tables -/
def Good : Prop := (∀ M pc b, blockAt M pc = some b → SimL M b.2.2 b.1 b.2.1 pc) ∧ ∀ M, M < nat0 → plainFor (mnm M) = true
theorem met_of (hG : Good) {E : EV} {G : GV} {l : Launch} {M d : Nat} {avs : List AV} {h : AH} {out : Out} (hM : M < nat0) (hC : CodeW M) (h1 : (laya avs).length ≤ nloc M) (h2 : lok (lsl M) 0 (laya avs) = true)
    (ih : ∀ (p : Program) (e : Env) (s : State) (m : MethodId) (args : Array Value) (below : List Frame) (meth : Method) (c : Code), CX E G p s m args meth c M → WA E G p l e s m args below meth c M d h out 0 (padl (nloc M) (laya avs)) [] h) : MetS E G l M d avs h out := by
  have hpl := hG.2 M hM
  refine MetFree.of_bodySF (code := mby M) (maxLocals := nloc M) (ret := mrt M) hpl ?_ ?_
  · intro args s m hpre hn
    obtain ⟨methY, cY, r1, r2, r3, r4, r5, r6, -⟩ := hC.spec (atoms_spec (ws := lw_all) hpre) hn
    exact ⟨methY, cY, r1, r2, r3, r4, r5, r6⟩
  · intro p e s m args below meth c s₁ B hml hP _
    obtain ⟨rfl, hH, hE⟩ := hP
    have hts := atoms_spec (ws := lw_all) B.pre
    obtain ⟨methY, cY, r1, r2, r3, r4, r5, r6, r7⟩ := hC.spec hts B.named
    cases B.method.symm.trans r1
    cases (Stand.of_body B).code.symm.trans r2
    have hX : CX E G p s m (avs.map tv).toArray meth c M := ⟨B.exec, B.bytes, hml, findClass_of_methodNamed B.named, hts, B.notSynchronized, B.returns, (name_of_methodNamed B.named B.method).1, hE, r7⟩
    have hW := ih p e s m (avs.map tv).toArray below meth c hX (Nat.le_refl _) (Nat.le_refl _) s.heap [] _ hH (LR.entry h1 h2) (fun q hq => nomatch hq)
    rw [Nat.sub_self, Nat.sub_self] at hW
    have hh0 : s₁.heap = s.heap := by rw [B.state]; rfl
    obtain ⟨t, a1, o, b1, b2, b3⟩ := hW s₁ hh0 (Stand.of_body B)
    refine ⟨t, o, ?_, b1, b2, b3⟩
    rw [lg_entry_eq]
    exact a1
theorem rn_snd (hG : Good) {E : EV} {G : GV} {l : Launch} : ∀ (n d M pc : Nat) (als : Ls) (ast : St) (h : AH) (out : Out), rnN E n d M pc als ast h = some out → ∀ (p : Program) (e : Env) (s : State) (m : MethodId) (args : Array Value) (below : List Frame) (meth : Method) (c : Code) (h0 : AH), CX E G p s m args meth c M → WA E G p l e s m args below meth c M d h0 out pc als ast h := by
  intro n
  induction n with
  | zero => intro d M pc als ast h out hr; cases hr
  | succ n ih =>
    intro d M pc als ast h out hr p e s m args below meth c h0 hX
    unfold rnN at hr
    cases hb : blockAt M pc with
    | none => rw [hb] at hr; cases hr
    | some b =>
      rw [hb] at hr
      refine blk_snd hX ?_ (fun t als ast h hj => ih d M t als ast h out hj p e s m args below meth c h0 hX) b.1 b.2.1 pc (hG.1 M pc b hb) als ast h hr
      intro M' avs h' out' hc
      cases d with
      | zero => cases hc
      | succ d' =>
        refine ⟨d', rfl, fun hlt hcw => ?_, fun hge => ?_⟩
        · unfold calF at hc
          dsimp only at hc
          have e1 : Nat.blt M' nat0 = true := by rw [Nat.blt_eq]; exact hlt
          rw [e1] at hc
          obtain ⟨q1, q2⟩ := gd_some hc
          simp only [Bool.and_eq_true, decide_eq_true_eq] at q1
          exact met_of hG hlt hcw q1.1 q1.2 (fun p e s m args below meth c hX => ih d' M' 0 _ [] h' out' q2 p e s m args below meth c h' hX)
        · unfold calF at hc
          dsimp only at hc
          have e1 : Nat.blt M' nat0 = false := by
            cases hbl : Nat.blt M' nat0 with
            | false => rfl
            | true => rw [Nat.blt_eq] at hbl; omega
          rw [e1] at hc
          exact hc
/-- THE SOUNDNESS OF A CALL -/
theorem cal_snd (hG : Good) {E : EV} {G : GV} {l : Launch} {M d : Nat} {avs : List AV} {h : AH} {out : Out} (hM : M < nat0) (hcw : CodeW M) (hc : cal E (d + 1) M avs h = some out) : MetS E G l M d avs h out := by
  obtain ⟨n, hn⟩ := calF_cont E (d + 1) M avs h out hc
  unfold calF at hn
  dsimp only at hn
  have e1 : Nat.blt M nat0 = true := by rw [Nat.blt_eq]; exact hM
  rw [e1] at hn
  obtain ⟨q1, q2⟩ := gd_some hn
  simp only [Bool.and_eq_true, decide_eq_true_eq] at q1
  exact met_of hG hM hcw q1.1 q1.2 (fun p e s m args below meth c hX => rn_snd hG n d M 0 _ [] h out q2 p e s m args below meth c h hX)
