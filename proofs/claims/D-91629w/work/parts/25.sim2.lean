/-! instructions on the heap -/
set_option maxRecDepth 100000
theorem HR.bs {E : EV} {G : GV} {s : State} {h : AH} {H : Heap} (hE : EnvF E G s) (hH : HR E G h H) : E.bs ≤ h.nx := by
  rcases Nat.eq_zero_or_pos E.bs with q | q
  · omega
  · have h1 := hH.2.1 (E.bs - 1) (by omega)
    have h2 : E.bs - 1 < G.2.2.size := by rw [hE.1]; omega
    rw [Array.getElem?_eq_getElem h2] at h1
    have h3 := (Array.getElem?_eq_some_iff.mp h1).1
    rw [hH.1] at h3
    omega
/-- the field under the name by which the class spells it -/
def RefOK (ref : String) (f : Nat) : Prop := ref = (ftab f).1 ∨ Jvm.Cond.sameField ref (ftab f).1 (ftab f).2.1 (ftab f).2.2 ∈ lw_all
theorem RefOK.found {s : State} {args : Array Value} (hts : ∀ w ∈ lw_all, w.before args s = true) {ref : String} {f : Nat} (h : RefOK ref f) {x : ClassId × Class × Nat × Field} (hx : s.fieldFound? (ftab f).1 (ftab f).2.1 (ftab f).2.2 = some x) : s.fieldFound? ref (ftab f).2.1 (ftab f).2.2 = some x := by
  rcases h with rfl | h
  · exact hx
  · exact u_same (hts _ h) x hx
/-- the link of a field, by a class's own entry or a nest mate's -/
def FLink (M i : Nat) (ref : String) (f : Nat) : Prop := Jvm.Cond.fieldLink (mnm M).cls i ref (ftab f).2.1 (ftab f).2.2 ∈ lw_all ∨ ∃ host, Jvm.Cond.fieldLinkNest (mnm M).cls i ref (ftab f).2.1 (ftab f).2.2 host ∈ lw_nw
theorem nn_of {α : Type} {o : Option Nat} {k : Nat → Option α} {r : α} (h : nn o k = some r) : ∃ a, o = some a ∧ k a = some r := nn_some h
section
variable {E : EV} {G : GV} {p : Program} {l : Launch} {e : Env} {R : Room} {s : State} {m : MethodId} {args : Array Value} {below : List Frame} {meth : Method} {c : Code} {H : Heap} {locs : List Loc} {cells slots : Nat} {Q : State → Prop}
theorem w_get {M i pc a f : Nat} {ref : String} {ls : Array Slot} {rest : List Value} {h : AH} (hx : p.tables.exec = Jvm.exec) (hb : c.code = mby M) (hown : s.vm.findClass (mnm M).cls = some m.cls) (hts : ∀ w ∈ lw_all, w.before args s = true) (hE : EnvF E G s) (hH : HR E G h H) (hk : anyK (fk f) (h.kd a) = true) (hL : FLink M i ref f) (hr : RefOK ref f) (hd : decode (mby M) pc = .ok (.getfield i, 3))
    (kk : W p l e R s m args below meth c H locs cells slots Q (F0 m (pc + 3) ls (fval h a f :: rest))) : W p l e R s m args below meth c H locs cells slots Q (F0 m pc ls (.ref a :: rest)) := by
  obtain ⟨cf, kf, fi, fd, kC, ty, f1, f2, f3, -⟩ := field_at hE hts hk
  obtain ⟨-, hk1, hk2⟩ := lay_in hk
  obtain ⟨cell, c1, c2, c3, c4, -⟩ := hH.2.2.1 a (by omega)
  have hs := c4 (by omega) f hk
  rw [← f2] at hs
  rcases hL with hL | ⟨host, hL⟩
  · exact W.getf hx hb hown (hts _ hL) (hr.found hts f1) f3 c1 (by rw [c3]; simp) hs rfl rfl hd kk
  · exact va_Wgetf hx hb hown (va_Nw.use rfl (hE.2.2.2.2.2.1 _ hL)) (hr.found hts f1) f3 c1 (by rw [c3]; simp) hs rfl rfl hd kk
/-- a value that a field of that sort may hold -/
def FitV (f : Nat) (v : Value) : Prop := ∀ ty, ftypOK f ty = true → narrow ty v = v ∧ fits ty v = true
theorem w_put {M i pc a f : Nat} {ref : String} {ls : Array Slot} {v : Value} {rest : List Value} {h : AH} (hx : p.tables.exec = Jvm.exec) (hb : c.code = mby M) (hown : s.vm.findClass (mnm M).cls = some m.cls) (hts : ∀ w ∈ lw_all, w.before args s = true) (hnm : meth.name = (mnm M).name) (hE : EnvF E G s) (hH : HR E G h H) (hk : anyK (fk f) (h.kd a) = true) (hv : FitV f v) (hL : FLink M i ref f) (hr : RefOK ref f)
    (hf : ffin f = false ∨ ((mnm M).cls = (ftab f).1 ∧ (mnm M).name = "<init>")) (hd : decode (mby M) pc = .ok (.putfield i, 3))
    (kk : ∀ (H' : Heap) (cell : Cell), H[a]? = some cell → H'[a]? = some (cell.setSlot (G.2.1 f) v) → H'.size = H.size → (∀ q, q ≠ a → H'[q]? = H[q]?) → W p l e R s m args below meth c H' (locs ++ [⟨a, G.2.1 f⟩]) cells slots Q (F0 m (pc + 3) ls rest)) : W p l e R s m args below meth c H locs cells slots Q (F0 m pc ls (v :: .ref a :: rest)) := by
  obtain ⟨cf, kf, fi, fd, kC, ty, f1, f2, f3, f4, f5, f6, f7, f8, f9, f10, f11⟩ := field_at hE hts hk
  obtain ⟨-, hk1, hk2⟩ := lay_in hk
  obtain ⟨cell, c1, c2, c3, c4, -⟩ := hH.2.2.1 a (by omega)
  have hs := c4 (by omega) f hk
  rw [← f2] at hs
  have hlt := (Array.getElem?_eq_some_iff.mp hs).1
  have halt := (Array.getElem?_eq_some_iff.mp c1).1
  obtain ⟨n1, n2⟩ := hv ty f9
  have hnar : narrow fd.type v = v := by rw [f8]; exact n1
  have hfit : s.fitsSlot cell.cls cell.vm fd.slot v = true := by
    rw [c2, c3]
    exact fresh_fits (s := s) (U := s) (Vm.Alike.refl _) f5 f6 f7 n2
  have hfin : hasFlag fd.accessFlags Acc.final = false ∨ (m.cls = cf ∧ meth.name = "<init>") := by
    rcases hf with hf | ⟨hf1, hf2⟩
    · exact Or.inl (f11 hf)
    · refine Or.inr ⟨?_, by rw [hnm]; exact hf2⟩
      rw [hf1, f10] at hown
      exact (Option.some.inj hown).symm
  have e1 : (H.setIfInBounds a (cell.setSlot fd.slot v))[a]? = some (cell.setSlot (G.2.1 f) v) := by
    rw [Array.getElem?_setIfInBounds_self_of_lt halt, f2]
  have e3 : ∀ q, q ≠ a → (H.setIfInBounds a (cell.setSlot fd.slot v))[q]? = H[q]? := fun q hq => Array.getElem?_setIfInBounds_ne (fun z => hq z.symm)
  have kk2 := kk _ cell c1 e1 (by simp) e3
  rw [← f2] at kk2
  rcases hL with hL | ⟨host, hL⟩
  · exact W.putf hx hb hown (hts _ hL) (hr.found hts f1) f3 hfin c1 (by rw [c3]; simp) hlt hnar hfit rfl rfl hd kk2
  · exact va_Wputf hx hb hown (va_Nw.use rfl (hE.2.2.2.2.2.1 _ hL)) (hr.found hts f1) f3 hfin c1 (by rw [c3]; simp) hlt hnar hfit rfl rfl hd kk2
end
theorem locs_one {E : EV} {locs : List Loc} {a n : Nat} (hl : ∀ q ∈ locs, E.bs ≤ q.base) (ha : E.bs ≤ a) : ∀ q ∈ locs ++ [(⟨a, n⟩ : Loc)], E.bs ≤ q.base := by
  intro q hq
  rcases List.mem_append.mp hq with h | h
  · exact hl q h
  · rw [List.mem_singleton] at h; rw [h]; exact ha
theorem fitI {f : Nat} {x : Int32} (hf : fty f = 0) (h : narO (fnr f) x = true) : FitV f (.int x) := by
  intro ty hty
  unfold ftypOK at hty
  rw [hf] at hty
  generalize fnr f = n at hty h
  rcases n with _ | _ | _ | n <;> cases ty <;> first | exact nomatch (show false = true from hty) | exact ⟨rfl, rfl⟩ | skip
  · simp only [narO, Bool.or_eq_true, decide_eq_true_eq] at h
    rcases h with rfl | rfl <;> exact ⟨by decide, by decide⟩
  · have h' : x.toInt8.toInt32 = x := by simpa [narO] using h
    exact ⟨by rw [narrow_byte, h'], by rw [← h']; exact pk_fb x⟩
theorem fitL {f : Nat} {x : Int64} (hf : fty f = 1) : FitV f (.long x) := by
  intro ty hty
  unfold ftypOK at hty
  rw [hf] at hty
  generalize fnr f = n at hty
  rcases n with _ | _ | _ | n <;> cases ty <;> first | exact ⟨rfl, rfl⟩ | exact absurd hty (by simp)
theorem fitR {f : Nat} {o : Option Nat} (hf : fty f = 2) : FitV f (va_rf o) := by
  intro ty hty
  unfold ftypOK at hty
  rw [hf] at hty
  generalize fnr f = n at hty
  rcases n with _ | _ | _ | n <;> cases ty <;> first | (cases o <;> exact ⟨rfl, rfl⟩) | exact absurd hty (by simp)
theorem si_fload {M pc i f : Nat} {ref : String} {hp : Option Nat} (hd : decode (mby M) pc = .ok (.getfield i, 3)) (hL0 : FLink M i ref f) (hr : RefOK ref f) (hf : fty f = 0) : SimI M pc (.fload f) (pc + 3) hp := by
  intro E G p l e s m args below meth c hX d h0 out C J k hC hJ hk als ast h hs
  obtain ⟨hx, hb, hml, hown, hts, hlk, hrt, hnm, hE, hht⟩ := hX
  rcases ast with _ | ⟨x | x | x, st⟩ <;> first | exact nomatch (show (none : Option Out) = some out from hs) | skip
  obtain ⟨a, rfl, q2⟩ := nn_of hs
  obtain ⟨q3, q4⟩ := gd_some q2
  intro h1 h2 H locs ls hH hL hl
  refine w_get hx hb hown hts hE hH q3 hL0 hr hd ?_
  have q5 := hk _ _ _ q4 h1 h2 H locs ls hH hL hl
  have e9 : fval h a f = tv (vI (h.I a f)) := by simp only [fval, hf]; rfl
  rw [e9]
  exact q5
theorem si_dload {M pc i f : Nat} {ref : String} {hp : Option Nat} (hd : decode (mby M) pc = .ok (.getfield i, 3)) (hL0 : FLink M i ref f) (hr : RefOK ref f) (hf : fty f = 1) : SimI M pc (.dload f) (pc + 3) hp := by
  intro E G p l e s m args below meth c hX d h0 out C J k hC hJ hk als ast h hs
  obtain ⟨hx, hb, hml, hown, hts, hlk, hrt, hnm, hE, hht⟩ := hX
  rcases ast with _ | ⟨x | x | x, st⟩ <;> first | exact nomatch (show (none : Option Out) = some out from hs) | skip
  obtain ⟨a, rfl, q2⟩ := nn_of hs
  obtain ⟨q3, q4⟩ := gd_some q2
  intro h1 h2 H locs ls hH hL hl
  refine w_get hx hb hown hts hE hH q3 hL0 hr hd ?_
  have q5 := hk _ _ _ q4 h1 h2 H locs ls hH hL hl
  have e9 : fval h a f = tv (vL (h.L a f)) := by simp only [fval, hf]; rfl
  rw [e9]
  exact q5
theorem si_getfield {M pc i f : Nat} {ref : String} {hp : Option Nat} (hd : decode (mby M) pc = .ok (.getfield i, 3)) (hL0 : FLink M i ref f) (hr : RefOK ref f) (hf : fty f = 2) : SimI M pc (.getfield f) (pc + 3) hp := by
  intro E G p l e s m args below meth c hX d h0 out C J k hC hJ hk als ast h hs
  obtain ⟨hx, hb, hml, hown, hts, hlk, hrt, hnm, hE, hht⟩ := hX
  rcases ast with _ | ⟨x | x | x, st⟩ <;> first | exact nomatch (show (none : Option Out) = some out from hs) | skip
  obtain ⟨a, rfl, q2⟩ := nn_of hs
  obtain ⟨q3, q4⟩ := gd_some q2
  intro h1 h2 H locs ls hH hL hl
  refine w_get hx hb hown hts hE hH q3 hL0 hr hd ?_
  have q5 := hk _ _ _ q4 h1 h2 H locs ls hH hL hl
  have e9 : fval h a f = tv (vR (h.R a f)) := by simp only [fval, hf]; rfl
  rw [e9]
  exact q5
theorem si_fstore {M pc i f : Nat} {ref : String} {hp : Option Nat} (hd : decode (mby M) pc = .ok (.putfield i, 3)) (hL0 : FLink M i ref f) (hr : RefOK ref f) (hf : fty f = 0) (hfn : ffin f = false ∨ ((mnm M).cls = (ftab f).1 ∧ (mnm M).name = "<init>")) : SimI M pc (.fstore f) (pc + 3) hp := by
  intro E G p l e s m args below meth c hX d h0 out C J k hC hJ hk als ast h hs
  obtain ⟨hx, hb, hml, hown, hts, hlk, hrt, hnm, hE, hht⟩ := hX
  rcases ast with _ | ⟨y | y | y, _ | ⟨x | x | x, st⟩⟩ <;> first | exact nomatch (show (none : Option Out) = some out from hs) | skip
  obtain ⟨a, rfl, q2⟩ := nn_of hs
  obtain ⟨q3, q4⟩ := gd_some q2
  have q6 := (Bool.and_eq_true _ _).mp q3
  have q7 := (Bool.and_eq_true _ _).mp q6.1
  have ha : E.bs ≤ a := by simpa using q7.2
  intro h1 h2 H locs ls hH hL hl
  refine w_put hx hb hown hts hnm hE hH q7.1 (fitI hf q6.2) hL0 hr hfn hd (fun H' cell e0 e1 e2 e3 => ?_)
  obtain ⟨-, k1, k2⟩ := lay_in q7.1
  have hH' : HR E G (h.setI a f y) H' := hH.putO e0 ha q7.1 (by omega) (fun f' hf' hne => hE.2.2.2.1 _ _ _ hf' q7.1 hne) e1 e2 e3 rfl rfl rfl rfl (fun b hb g => fval_setI (fun z => hb z.1)) (fun b hb g => aval_setI (fun z => hb z.1)) (by simp only [fval, hf]; first | exact congrArg Value.int up2_self | exact congrArg Value.long up2_self | exact congrArg va_rf up2_self) (fun g hg => fval_setI (fun z => hg z.2))
  exact hk _ _ _ q4 h1 h2 H' _ ls hH' hL (locs_one hl ha)
theorem si_dstore {M pc i f : Nat} {ref : String} {hp : Option Nat} (hd : decode (mby M) pc = .ok (.putfield i, 3)) (hL0 : FLink M i ref f) (hr : RefOK ref f) (hf : fty f = 1) (hfn : ffin f = false ∨ ((mnm M).cls = (ftab f).1 ∧ (mnm M).name = "<init>")) : SimI M pc (.dstore f) (pc + 3) hp := by
  intro E G p l e s m args below meth c hX d h0 out C J k hC hJ hk als ast h hs
  obtain ⟨hx, hb, hml, hown, hts, hlk, hrt, hnm, hE, hht⟩ := hX
  rcases ast with _ | ⟨y | y | y, _ | ⟨x | x | x, st⟩⟩ <;> first | exact nomatch (show (none : Option Out) = some out from hs) | skip
  obtain ⟨a, rfl, q2⟩ := nn_of hs
  obtain ⟨q3, q4⟩ := gd_some q2
  have q7 := (Bool.and_eq_true _ _).mp q3
  have ha : E.bs ≤ a := by simpa using q7.2
  intro h1 h2 H locs ls hH hL hl
  refine w_put hx hb hown hts hnm hE hH q7.1 (fitL hf) hL0 hr hfn hd (fun H' cell e0 e1 e2 e3 => ?_)
  obtain ⟨-, k1, k2⟩ := lay_in q7.1
  have hH' : HR E G (h.setL a f y) H' := hH.putO e0 ha q7.1 (by omega) (fun f' hf' hne => hE.2.2.2.1 _ _ _ hf' q7.1 hne) e1 e2 e3 rfl rfl rfl rfl (fun b hb g => fval_setL (fun z => hb z.1)) (fun b hb g => aval_setL (fun z => hb z.1)) (by simp only [fval, hf]; first | exact congrArg Value.int up2_self | exact congrArg Value.long up2_self | exact congrArg va_rf up2_self) (fun g hg => fval_setL (fun z => hg z.2))
  exact hk _ _ _ q4 h1 h2 H' _ ls hH' hL (locs_one hl ha)
theorem si_putfield {M pc i f : Nat} {ref : String} {hp : Option Nat} (hd : decode (mby M) pc = .ok (.putfield i, 3)) (hL0 : FLink M i ref f) (hr : RefOK ref f) (hf : fty f = 2) (hfn : ffin f = false ∨ ((mnm M).cls = (ftab f).1 ∧ (mnm M).name = "<init>")) : SimI M pc (.putfield f) (pc + 3) hp := by
  intro E G p l e s m args below meth c hX d h0 out C J k hC hJ hk als ast h hs
  obtain ⟨hx, hb, hml, hown, hts, hlk, hrt, hnm, hE, hht⟩ := hX
  rcases ast with _ | ⟨y | y | y, _ | ⟨x | x | x, st⟩⟩ <;> first | exact nomatch (show (none : Option Out) = some out from hs) | skip
  obtain ⟨a, rfl, q2⟩ := nn_of hs
  obtain ⟨q3, q4⟩ := gd_some q2
  have q7 := (Bool.and_eq_true _ _).mp q3
  have ha : E.bs ≤ a := by simpa using q7.2
  intro h1 h2 H locs ls hH hL hl
  refine w_put hx hb hown hts hnm hE hH q7.1 (fitR hf) hL0 hr hfn hd (fun H' cell e0 e1 e2 e3 => ?_)
  obtain ⟨-, k1, k2⟩ := lay_in q7.1
  have hH' : HR E G (h.setR a f y) H' := hH.putO e0 ha q7.1 (by omega) (fun f' hf' hne => hE.2.2.2.1 _ _ _ hf' q7.1 hne) e1 e2 e3 rfl rfl rfl rfl (fun b hb g => fval_setR (fun z => hb z.1)) (fun b hb g => aval_setR (fun z => hb z.1)) (by simp only [fval, hf]; first | exact congrArg Value.int up2_self | exact congrArg Value.long up2_self | exact congrArg va_rf up2_self) (fun g hg => fval_setR (fun z => hg z.2))
  exact hk _ _ _ q4 h1 h2 H' _ ls hH' hL (locs_one hl ha)
