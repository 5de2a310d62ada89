/-! instructions: new cells, arrays, casts, statics, the ends of a method -/
set_option maxRecDepth 100000
theorem kok_pos {k : Nat} (h : KOK k) : k ≠ 0 := by
  rcases h with h | h <;> omega
theorem KOK.arr {k : Nat} (h : KOK k) (h1 : 101 ≤ k) : 101 ≤ k ∧ k < 113 := by
  rcases h with h | h <;> omega
theorem inb_in {i : Int32} {n : Nat} (h : inb i n = true) : ¬ (i < 0 ∨ n ≤ i.toNatClampNeg) := by
  simp only [inb, Bool.and_eq_true, decide_eq_true_eq] at h
  rintro (q | q)
  · exact Int32.not_lt.mpr h.1 q
  · omega
theorem inb_lt {i : Int32} {n : Nat} (h : inb i n = true) : i.toNatClampNeg < n := by
  simp only [inb, Bool.and_eq_true, decide_eq_true_eq] at h
  exact h.2
/-- an array's cell -/
theorem HR.arr {E : EV} {G : GV} {s : State} {h : AH} {H : Heap} (hE : EnvF E G s) (hH : HR E G h H) {a : Nat} (ha : 101 ≤ h.kd a) :
    ∃ (cell : Cell) (kA : Class) (comp : ClassId), H[a]? = some cell ∧ cell.cls = G.1 (h.kd a) ∧ cell.vm = .none ∧ cell.slots.size = h.ln a ∧ (∀ i, i < h.ln a → cell.slots[i]? = some (aval h a i)) ∧ s.isArrayOf cell (ety (h.kd a)) ∧ s.vm.classes[cell.cls]? = some kA ∧ kA.kind = .array comp (ety (h.kd a)) ∧ (∀ C, ety (h.kd a) = .object C → s.vm.findClass C = some comp) := by
  have h0 : h.kd a ≠ 0 := by omega
  obtain ⟨k1, k2⟩ := (hH.2.2.2.1 a h0).arr ha
  obtain ⟨cell, c1, c2, c3, -, c5⟩ := hH.2.2.1 a h0
  obtain ⟨kA, comp, a1, a2, a3, a4⟩ := hE.2.2.2.2.1 _ k1 k2
  refine ⟨cell, kA, comp, c1, c2, c3, (c5 ha).1, (c5 ha).2, ⟨fun q => by rw [c3]; simp, kA, by rw [c2]; exact a1, comp, a2⟩, by rw [c2]; exact a1, a2, a4.1⟩
/-- an object's cell, or an array's -/
theorem HR.cell {E : EV} {G : GV} {s : State} {h : AH} {H : Heap} (hE : EnvF E G s) (hH : HR E G h H) {a : Nat} (ha : h.kd a ≠ 0) :
    ∃ (cell : Cell) (kA : Class), H[a]? = some cell ∧ cell.cls = G.1 (h.kd a) ∧ cell.vm = .none ∧ s.vm.findClass (knm (h.kd a)) = some cell.cls ∧ s.vm.classes[cell.cls]? = some kA := by
  obtain ⟨cell, c1, c2, c3, -⟩ := hH.2.2.1 a ha
  rcases hH.2.2.2.1 a ha with ⟨q1, q2⟩ | ⟨q1, q2⟩
  · obtain ⟨f1, kC, f2, -⟩ := hE.2.1 _ q1 q2
    exact ⟨cell, kC, c1, c2, c3, by rw [c2]; exact f1, by rw [c2]; exact f2⟩
  · obtain ⟨kA, comp, a1, a2, a3, a4⟩ := hE.2.2.2.2.1 _ q1 q2
    exact ⟨cell, kA, c1, c2, c3, by rw [c2]; exact a3, by rw [c2]; exact a1⟩
def CastOK (k : Nat) (nm : String) : Prop := nm = knm k ∨ Jvm.Cond.castable (knm k) nm ∈ lw_nw
theorem CastOK.asg {E : EV} {G : GV} {s : State} (hE : EnvF E G s) {k : Nat} {c0 : ClassId} {nm : String} (h : CastOK k nm) (hf : s.vm.findClass (knm k) = some c0) : ∃ t, s.vm.findClass nm = some t ∧ s.vm.assignable c0 t = true := by
  rcases h with rfl | h
  · exact ⟨c0, hf, va_asg _ _⟩
  · obtain ⟨c1, t, f1, f2, f3⟩ := Cond.castable_spec (va_Nw.use (A := #[]) rfl (hE.2.2.2.2.2.1 _ h))
    cases hf.symm.trans f1
    exact ⟨t, f2, f3⟩
theorem si_arraylength {M pc : Nat} {hp : Option Nat} (hd : decode (mby M) pc = .ok (.arraylength, 1)) : SimI M pc .arraylength (pc + 1) hp := by
  intro E G p l e s m args below meth c hX d h0 out C J k hC hJ hk als ast h hs
  obtain ⟨hx, hb, hml, hown, hts, hlk, hrt, hnm, hE, hht⟩ := hX
  rcases ast with _ | ⟨x | x | x, st⟩ <;> first | exact nomatch (show (none : Option Out) = some out from hs) | skip
  obtain ⟨a, rfl, q2⟩ := nn_of hs
  obtain ⟨q3, q4⟩ := gd_some q2
  intro h1 h2 H locs ls hH hL hl
  obtain ⟨cell, kA, comp, c1, c2, c3, c4, c5, c6, -⟩ := hH.arr hE (by simpa using q3)
  exact W.alen hx hb c1 c6 (by rw [c4]) rfl rfl hd (hk _ _ _ q4 h1 h2 H locs ls hH hL hl)
theorem si_iaload {M pc : Nat} {hp : Option Nat} (hd : decode (mby M) pc = .ok (.iaload, 1)) : SimI M pc .iaload (pc + 1) hp := by
  intro E G p l e s m args below meth c hX d h0 out C J k hC hJ hk als ast h hs
  obtain ⟨hx, hb, hml, hown, hts, hlk, hrt, hnm, hE, hht⟩ := hX
  rcases ast with _ | ⟨y | y | y, _ | ⟨x | x | x, st⟩⟩ <;> first | exact nomatch (show (none : Option Out) = some out from hs) | skip
  obtain ⟨a, rfl, q2⟩ := nn_of hs
  obtain ⟨q3, q4⟩ := gd_some q2
  have q5 := (Bool.and_eq_true _ _).mp q3
  have e5 : h.kd a = 101 := by simpa using q5.1
  intro h1 h2 H locs ls hH hL hl
  obtain ⟨cell, kA, comp, c1, c2, c3, c4, c5, c6, -⟩ := hH.arr hE (a := a) (by omega)
  rw [e5] at c6
  have e6 := c5 _ (inb_lt q5.2)
  have e7 : aval h a y.toNatClampNeg = tv (vI (h.I a y.toNatClampNeg)) := by simp only [aval, e5]; rfl
  rw [e7] at e6
  exact W.iald hx hb c1 c6 (by rw [c3]; simp) (by rw [c4]; exact inb_in q5.2) e6 rfl rfl hd (hk _ _ _ q4 h1 h2 H locs ls hH hL hl)
theorem si_laload {M pc : Nat} {hp : Option Nat} (hd : decode (mby M) pc = .ok (.laload, 1)) : SimI M pc .laload (pc + 1) hp := by
  intro E G p l e s m args below meth c hX d h0 out C J k hC hJ hk als ast h hs
  obtain ⟨hx, hb, hml, hown, hts, hlk, hrt, hnm, hE, hht⟩ := hX
  rcases ast with _ | ⟨y | y | y, _ | ⟨x | x | x, st⟩⟩ <;> first | exact nomatch (show (none : Option Out) = some out from hs) | skip
  obtain ⟨a, rfl, q2⟩ := nn_of hs
  obtain ⟨q3, q4⟩ := gd_some q2
  have q5 := (Bool.and_eq_true _ _).mp q3
  have e5 : h.kd a = 104 := by simpa using q5.1
  intro h1 h2 H locs ls hH hL hl
  obtain ⟨cell, kA, comp, c1, c2, c3, c4, c5, c6, -⟩ := hH.arr hE (a := a) (by omega)
  rw [e5] at c6
  have e6 := c5 _ (inb_lt q5.2)
  have e7 : aval h a y.toNatClampNeg = tv (vL (h.L a y.toNatClampNeg)) := by simp only [aval, e5]; rfl
  rw [e7] at e6
  exact W.lald hx hb c1 c6 (by rw [c3]; simp) (by rw [c4]; exact inb_in q5.2) e6 rfl rfl hd (hk _ _ _ q4 h1 h2 H locs ls hH hL hl)
theorem si_baload {M pc : Nat} {hp : Option Nat} (hd : decode (mby M) pc = .ok (.baload, 1)) : SimI M pc .baload (pc + 1) hp := by
  intro E G p l e s m args below meth c hX d h0 out C J k hC hJ hk als ast h hs
  obtain ⟨hx, hb, hml, hown, hts, hlk, hrt, hnm, hE, hht⟩ := hX
  rcases ast with _ | ⟨y | y | y, _ | ⟨x | x | x, st⟩⟩ <;> first | exact nomatch (show (none : Option Out) = some out from hs) | skip
  obtain ⟨a, rfl, q2⟩ := nn_of hs
  obtain ⟨q3, q4⟩ := gd_some q2
  have q5 := (Bool.and_eq_true _ _).mp q3
  intro h1 h2 H locs ls hH hL hl
  rcases (Bool.or_eq_true _ _).mp q5.1 with q6 | q6
  · have e5 : h.kd a = 102 := by simpa using q6
    obtain ⟨cell, kA, comp, c1, c2, c3, c4, c5, c6, -⟩ := hH.arr hE (a := a) (by omega)
    rw [e5] at c6
    have e6 := c5 _ (inb_lt q5.2)
    have e7 : aval h a y.toNatClampNeg = tv (vI (h.I a y.toNatClampNeg)) := by simp only [aval, e5]; rfl
    rw [e7] at e6
    exact W.bald hx hb c1 c6 (by rw [c3]; simp) (by rw [c4]; exact inb_in q5.2) e6 rfl rfl hd (hk _ _ _ q4 h1 h2 H locs ls hH hL hl)
  · have e5 : h.kd a = 103 := by simpa using q6
    obtain ⟨cell, kA, comp, c1, c2, c3, c4, c5, c6, -⟩ := hH.arr hE (a := a) (by omega)
    rw [e5] at c6
    have e6 := c5 _ (inb_lt q5.2)
    have e7 : aval h a y.toNatClampNeg = tv (vI (h.I a y.toNatClampNeg)) := by simp only [aval, e5]; rfl
    rw [e7] at e6
    exact W.zald hx hb c1 c6 (by rw [c3]; simp) (by rw [c4]; exact inb_in q5.2) e6 rfl rfl hd (hk _ _ _ q4 h1 h2 H locs ls hH hL hl)
theorem ety_ref {k : Nat} (h1 : 105 ≤ k) : (ety k).isReference = true := by
  unfold ety
  split <;> first | rfl | omega
theorem si_aaload {M pc : Nat} {hp : Option Nat} (hd : decode (mby M) pc = .ok (.aaload, 1)) : SimI M pc .aaload (pc + 1) hp := by
  intro E G p l e s m args below meth c hX d h0 out C J k hC hJ hk als ast h hs
  obtain ⟨hx, hb, hml, hown, hts, hlk, hrt, hnm, hE, hht⟩ := hX
  rcases ast with _ | ⟨y | y | y, _ | ⟨x | x | x, st⟩⟩ <;> first | exact nomatch (show (none : Option Out) = some out from hs) | skip
  obtain ⟨a, rfl, q2⟩ := nn_of hs
  obtain ⟨q3, q4⟩ := gd_some q2
  have q5 := (Bool.and_eq_true _ _).mp q3
  have e5 : 105 ≤ h.kd a := by simpa using q5.1
  intro h1 h2 H locs ls hH hL hl
  obtain ⟨cell, kA, comp, c1, c2, c3, c4, c5, c6, -⟩ := hH.arr hE (a := a) (by omega)
  have e6 := c5 _ (inb_lt q5.2)
  have e7 : aval h a y.toNatClampNeg = tv (vR (h.R a y.toNatClampNeg)) := by
    unfold aval
    rw [if_neg (by omega), if_neg (by omega)]; rfl
  rw [e7] at e6
  exact W.aald hx hb c1 c6 (ety_ref e5) (by rw [c3]; simp) (by rw [c4]; exact inb_in q5.2) e6 rfl rfl hd (hk _ _ _ q4 h1 h2 H locs ls hH hL hl)
theorem si_iastore {M pc : Nat} {hp : Option Nat} (hd : decode (mby M) pc = .ok (.iastore, 1)) : SimI M pc .iastore (pc + 1) hp := by
  intro E G p l e s m args below meth c hX d h0 out C J k hC hJ hk als ast h hs
  obtain ⟨hx, hb, hml, hown, hts, hlk, hrt, hnm, hE, hht⟩ := hX
  rcases ast with _ | ⟨y | y | y, _ | ⟨x | x | x, _ | ⟨z | z | z, st⟩⟩⟩ <;> first | exact nomatch (show (none : Option Out) = some out from hs) | skip
  obtain ⟨a, rfl, q2⟩ := nn_of hs
  obtain ⟨q3, q4⟩ := gd_some q2
  have q5 := (Bool.and_eq_true _ _).mp q3
  have q6 := (Bool.and_eq_true _ _).mp q5.1
  have e5 : h.kd a = 101 := by simpa using q6.1
  have ha : E.bs ≤ a := by simpa using q5.2
  intro h1 h2 H locs ls hH hL hl
  obtain ⟨cell, kA, comp, c1, c2, c3, c4, c5, c6, -⟩ := hH.arr hE (a := a) (by omega)
  rw [e5] at c6
  refine W.iast hx hb c1 c6 (by rw [c3]; simp) (by rw [c4]; exact inb_in q6.2) rfl rfl hd (fun H' e1 e2 e3 => ?_)
  have hH' : HR E G (h.setI a x.toNatClampNeg y) H' := hH.putA c1 ha (by omega) (inb_lt q6.2) e1 e2 e3 rfl rfl rfl rfl (fun b hb g => fval_setI (fun z => hb z.1)) (fun b hb g => aval_setI (fun z => hb z.1)) (by (have z : (h.setI a x.toNatClampNeg y).kd a = 101 := e5); (simp only [aval, z]); exact congrArg Value.int up2_self) (fun j hj => aval_setI (fun z => hj z.2))
  exact hk _ _ _ q4 h1 h2 H' _ ls hH' hL (locs_one hl ha)
theorem si_lastore {M pc : Nat} {hp : Option Nat} (hd : decode (mby M) pc = .ok (.lastore, 1)) : SimI M pc .lastore (pc + 1) hp := by
  intro E G p l e s m args below meth c hX d h0 out C J k hC hJ hk als ast h hs
  obtain ⟨hx, hb, hml, hown, hts, hlk, hrt, hnm, hE, hht⟩ := hX
  rcases ast with _ | ⟨y | y | y, _ | ⟨x | x | x, _ | ⟨z | z | z, st⟩⟩⟩ <;> first | exact nomatch (show (none : Option Out) = some out from hs) | skip
  obtain ⟨a, rfl, q2⟩ := nn_of hs
  obtain ⟨q3, q4⟩ := gd_some q2
  have q5 := (Bool.and_eq_true _ _).mp q3
  have q6 := (Bool.and_eq_true _ _).mp q5.1
  have e5 : h.kd a = 104 := by simpa using q6.1
  have ha : E.bs ≤ a := by simpa using q5.2
  intro h1 h2 H locs ls hH hL hl
  obtain ⟨cell, kA, comp, c1, c2, c3, c4, c5, c6, -⟩ := hH.arr hE (a := a) (by omega)
  rw [e5] at c6
  refine W.last hx hb c1 c6 (by rw [c3]; simp) (by rw [c4]; exact inb_in q6.2) rfl rfl hd (fun H' e1 e2 e3 => ?_)
  have hH' : HR E G (h.setL a x.toNatClampNeg y) H' := hH.putA c1 ha (by omega) (inb_lt q6.2) e1 e2 e3 rfl rfl rfl rfl (fun b hb g => fval_setL (fun z => hb z.1)) (fun b hb g => aval_setL (fun z => hb z.1)) (by (have z : (h.setL a x.toNatClampNeg y).kd a = 104 := e5); (simp only [aval, z]); exact congrArg Value.long up2_self) (fun j hj => aval_setL (fun z => hj z.2))
  exact hk _ _ _ q4 h1 h2 H' _ ls hH' hL (locs_one hl ha)
theorem si_bastore {M pc : Nat} {hp : Option Nat} (hd : decode (mby M) pc = .ok (.bastore, 1)) : SimI M pc .bastore (pc + 1) hp := by
  intro E G p l e s m args below meth c hX d h0 out C J k hC hJ hk als ast h hs
  obtain ⟨hx, hb, hml, hown, hts, hlk, hrt, hnm, hE, hht⟩ := hX
  rcases ast with _ | ⟨y | y | y, _ | ⟨x | x | x, _ | ⟨z | z | z, st⟩⟩⟩ <;> first | exact nomatch (show (none : Option Out) = some out from hs) | skip
  obtain ⟨a, rfl, q2⟩ := nn_of hs
  obtain ⟨q3, q4⟩ := gd_some q2
  have q5 := (Bool.and_eq_true _ _).mp q3
  have q6 := (Bool.and_eq_true _ _).mp q5.1
  have ha : E.bs ≤ a := by simpa using q5.2
  intro h1 h2 H locs ls hH hL hl
  rcases (Bool.or_eq_true _ _).mp q6.1 with q7 | q7
  · have e5 : h.kd a = 102 := by simpa using q7
    obtain ⟨cell, kA, comp, c1, c2, c3, c4, c5, c6, -⟩ := hH.arr hE (a := a) (by omega)
    rw [e5] at c6
    refine W.bast hx hb c1 c6 (by rw [c3]; simp) (by rw [c4]; exact inb_in q6.2) rfl rfl hd (fun H' e1 e2 e3 => ?_)
    have hH' : HR E G (h.setI a x.toNatClampNeg y.toInt8.toInt32) H' := hH.putA c1 ha (by omega) (inb_lt q6.2) e1 e2 e3 rfl rfl rfl rfl (fun b hb g => fval_setI (fun z => hb z.1)) (fun b hb g => aval_setI (fun z => hb z.1)) (by (have z : (h.setI a x.toNatClampNeg y.toInt8.toInt32).kd a = 102 := e5); (simp only [aval, z]); exact congrArg Value.int up2_self) (fun j hj => aval_setI (fun z => hj z.2))
    rw [if_pos e5] at q4
    exact hk _ _ _ q4 h1 h2 H' _ ls hH' hL (locs_one hl ha)
  · have e5 : h.kd a = 103 := by simpa using q7
    obtain ⟨cell, kA, comp, c1, c2, c3, c4, c5, c6, -⟩ := hH.arr hE (a := a) (by omega)
    rw [e5] at c6
    refine W.zast hx hb c1 c6 (by rw [c3]; simp) (by rw [c4]; exact inb_in q6.2) rfl rfl hd (fun H' e1 e2 e3 => ?_)
    have hH' : HR E G (h.setI a x.toNatClampNeg (y &&& 1)) H' := hH.putA c1 ha (by omega) (inb_lt q6.2) e1 e2 e3 rfl rfl rfl rfl (fun b hb g => fval_setI (fun z => hb z.1)) (fun b hb g => aval_setI (fun z => hb z.1)) (by (have z : (h.setI a x.toNatClampNeg (y &&& 1)).kd a = 103 := e5); (simp only [aval, z]); exact congrArg Value.int up2_self) (fun j hj => aval_setI (fun z => hj z.2))
    rw [if_neg (by omega)] at q4
    exact hk _ _ _ q4 h1 h2 H' _ ls hH' hL (locs_one hl ha)
theorem nw_w {w : Jvm.Cond} (i : Nat) (h : lw_tbl[i]? = some w) (g : nwOK w = true) : w ∈ lw_nw := List.mem_filter.mpr ⟨List.mem_of_getElem? h, g⟩
theorem asg_ok {k v : Nat} (h : anyK (asg k) v = true) : ∃ C, ety k = .object C ∧ CastOK v C := by
  unfold asg at h
  split at h
  · refine ⟨_, rfl, ?_⟩
    have hm := anyK_mem h
    simp only [List.mem_cons, List.not_mem_nil, or_false] at hm
    rcases hm with rfl | rfl | rfl | rfl | rfl | rfl | rfl | rfl | rfl | rfl | rfl | rfl | rfl | rfl | rfl | rfl | rfl | rfl | rfl | rfl | rfl
    · exact Or.inr (nw_w 2532 (by decide +kernel) rfl)
    · exact Or.inr (nw_w 2533 (by decide +kernel) rfl)
    · exact Or.inr (nw_w 2529 (by decide +kernel) rfl)
    · exact Or.inr (nw_w 2535 (by decide +kernel) rfl)
    · exact Or.inr (nw_w 2536 (by decide +kernel) rfl)
    · exact Or.inr (nw_w 2537 (by decide +kernel) rfl)
    · exact Or.inr (nw_w 2539 (by decide +kernel) rfl)
    · exact Or.inr (nw_w 2540 (by decide +kernel) rfl)
    · exact Or.inr (nw_w 2541 (by decide +kernel) rfl)
    · exact Or.inr (nw_w 2542 (by decide +kernel) rfl)
    · exact Or.inr (nw_w 2543 (by decide +kernel) rfl)
    · exact Or.inr (nw_w 2544 (by decide +kernel) rfl)
    · exact Or.inr (nw_w 2545 (by decide +kernel) rfl)
    · exact Or.inr (nw_w 2546 (by decide +kernel) rfl)
    · exact Or.inr (nw_w 2547 (by decide +kernel) rfl)
    · exact Or.inr (nw_w 2548 (by decide +kernel) rfl)
    · exact Or.inr (nw_w 2549 (by decide +kernel) rfl)
    · exact Or.inr (nw_w 2550 (by decide +kernel) rfl)
    · exact Or.inr (nw_w 2551 (by decide +kernel) rfl)
    · exact Or.inr (nw_w 2552 (by decide +kernel) rfl)
    · exact Or.inr (nw_w 2553 (by decide +kernel) rfl)
  · refine ⟨_, rfl, ?_⟩
    have hm := anyK_mem h
    simp only [List.mem_cons, List.not_mem_nil, or_false] at hm
    rcases hm with rfl | rfl | rfl | rfl | rfl | rfl
    · exact Or.inr (nw_w 2522 (by decide +kernel) rfl)
    · exact Or.inr (nw_w 2525 (by decide +kernel) rfl)
    · exact Or.inr (nw_w 2524 (by decide +kernel) rfl)
    · exact Or.inr (nw_w 2520 (by decide +kernel) rfl)
    · exact Or.inr (nw_w 2523 (by decide +kernel) rfl)
    · exact Or.inr (nw_w 2521 (by decide +kernel) rfl)
  · refine ⟨_, rfl, ?_⟩
    have hm := anyK_mem h
    simp only [List.mem_cons, List.not_mem_nil, or_false] at hm
    subst hm
    exact Or.inl rfl
  · cases h
theorem sb_51 : ∀ k, anyK (sbk 51) k = true → CastOK k "FastPlane$Part" := by
  intro k h
  have hm := anyK_mem h
  simp only [sbk, List.mem_cons, List.not_mem_nil, or_false] at hm
  rcases hm with rfl | rfl
  · exact Or.inr (nw_w 2518 (by decide +kernel) rfl)
  · exact Or.inr (nw_w 2519 (by decide +kernel) rfl)
theorem sb_52 : ∀ k, anyK (sbk 52) k = true → CastOK k "FastPlane$Ex" := by
  intro k h
  have hm := anyK_mem h
  simp only [sbk, List.mem_cons, List.not_mem_nil, or_false] at hm
  rcases hm with rfl | rfl | rfl | rfl | rfl | rfl
  · exact Or.inr (nw_w 2522 (by decide +kernel) rfl)
  · exact Or.inr (nw_w 2525 (by decide +kernel) rfl)
  · exact Or.inr (nw_w 2524 (by decide +kernel) rfl)
  · exact Or.inr (nw_w 2520 (by decide +kernel) rfl)
  · exact Or.inr (nw_w 2523 (by decide +kernel) rfl)
  · exact Or.inr (nw_w 2521 (by decide +kernel) rfl)
theorem sb_53 : ∀ k, anyK (sbk 53) k = true → CastOK k "FastPlane$Fact" := by
  intro k h
  have hm := anyK_mem h
  simp only [sbk, List.mem_cons, List.not_mem_nil, or_false] at hm
  rcases hm with rfl | rfl | rfl
  · exact Or.inr (nw_w 2526 (by decide +kernel) rfl)
  · exact Or.inr (nw_w 2527 (by decide +kernel) rfl)
  · exact Or.inr (nw_w 2528 (by decide +kernel) rfl)
theorem sb_11 : ∀ k, anyK (sbk 11) k = true → CastOK k "FastPlane$Link" := by
  intro k h
  have hm := anyK_mem h
  simp only [sbk, List.mem_cons, List.not_mem_nil, or_false] at hm
  subst hm
  exact Or.inl rfl
theorem sb_17 : ∀ k, anyK (sbk 17) k = true → CastOK k "java/lang/Integer" := by
  intro k h
  have hm := anyK_mem h
  simp only [sbk, List.mem_cons, List.not_mem_nil, or_false] at hm
  subst hm
  exact Or.inl rfl
theorem sb_7 : ∀ k, anyK (sbk 7) k = true → CastOK k "java/lang/String" := by
  intro k h
  have hm := anyK_mem h
  simp only [sbk, List.mem_cons, List.not_mem_nil, or_false] at hm
  subst hm
  exact Or.inl rfl
theorem sb_20 : ∀ k, anyK (sbk 20) k = true → CastOK k "FastPlane$Change" := by
  intro k h
  have hm := anyK_mem h
  simp only [sbk, List.mem_cons, List.not_mem_nil, or_false] at hm
  subst hm
  exact Or.inl rfl
theorem sb_21 : ∀ k, anyK (sbk 21) k = true → CastOK k "FastPlane$Estimate" := by
  intro k h
  have hm := anyK_mem h
  simp only [sbk, List.mem_cons, List.not_mem_nil, or_false] at hm
  subst hm
  exact Or.inl rfl
theorem sb_22 : ∀ k, anyK (sbk 22) k = true → CastOK k "FastPlane$Show" := by
  intro k h
  have hm := anyK_mem h
  simp only [sbk, List.mem_cons, List.not_mem_nil, or_false] at hm
  subst hm
  exact Or.inl rfl
theorem sb_102 : ∀ k, anyK (sbk 102) k = true → CastOK k "[B" := by
  intro k h
  have hm := anyK_mem h
  simp only [sbk, List.mem_cons, List.not_mem_nil, or_false] at hm
  subst hm
  exact Or.inl rfl
theorem sb_105 : ∀ k, anyK (sbk 105) k = true → CastOK k "[Ljava/lang/Object;" := by
  intro k h
  have hm := anyK_mem h
  simp only [sbk, List.mem_cons, List.not_mem_nil, or_false] at hm
  subst hm
  exact Or.inl rfl
theorem si_aastore {M pc : Nat} {hp : Option Nat} (hd : decode (mby M) pc = .ok (.aastore, 1)) : SimI M pc .aastore (pc + 1) hp := by
  intro E G p l e s m args below meth c hX d h0 out C J k hC hJ hk als ast h hs
  obtain ⟨hx, hb, hml, hown, hts, hlk, hrt, hnm, hE, hht⟩ := hX
  rcases ast with _ | ⟨y | y | y, _ | ⟨x | x | x, _ | ⟨z | z | z, st⟩⟩⟩ <;> first | exact nomatch (show (none : Option Out) = some out from hs) | skip
  obtain ⟨a, rfl, q2⟩ := nn_of hs
  obtain ⟨q3, q4⟩ := gd_some q2
  simp only [Bool.and_eq_true, decide_eq_true_eq] at q3
  obtain ⟨⟨⟨⟨q5, q6⟩, q7⟩, ha⟩, q8⟩ := q3
  intro h1 h2 H locs ls hH hL hl
  obtain ⟨cell, kA, comp, c1, c2, c3, c4, c5, c6, c7, c8, c9⟩ := hH.arr hE (a := a) (by omega)
  have hput : ∀ (v : Option Nat) (H' : Heap), H'[a]? = some (cell.setSlot x.toNatClampNeg (va_rf v)) → H'.size = H.size → (∀ q, q ≠ a → H'[q]? = H[q]?) → HR E G (h.setR a x.toNatClampNeg v) H' := fun v H' e1 e2 e3 => hH.putA c1 ha (by omega) (inb_lt q7) e1 e2 e3 rfl rfl rfl rfl (fun b hb g => fval_setR (fun z => hb z.1)) (fun b hb g => aval_setR (fun z => hb z.1)) (by
    have z : (h.setR a x.toNatClampNeg v).kd a = h.kd a := rfl
    unfold aval
    rw [if_neg (by omega), if_neg (by omega)]
    exact congrArg va_rf up2_self) (fun j hj => aval_setR (fun z => hj z.2))
  cases y with
  | none =>
    have e6 : ∃ C, ety (h.kd a) = .object C := by
      have : h.kd a = 105 ∨ h.kd a = 106 ∨ h.kd a = 107 := by omega
      rcases this with e | e | e <;> rw [e] <;> exact ⟨_, rfl⟩
    obtain ⟨C0, e6⟩ := e6
    rw [e6] at c6
    exact va_WaastN hx hb c1 c6 (by rw [c3]; simp) (by rw [c4]; exact inb_in q7) rfl rfl hd (fun H' e1 e2 e3 => hk _ _ _ q4 h1 h2 H' _ ls (hput none H' e1 e2 e3) hL (locs_one hl ha))
  | some v =>
    have q8 : anyK (asg (h.kd a)) (h.kd v) = true := q8
    obtain ⟨C0, e6, e7⟩ := asg_ok q8
    have hv0 : h.kd v ≠ 0 := by
      intro z
      rw [z] at q8
      have : h.kd a = 105 ∨ h.kd a = 106 ∨ h.kd a = 107 := by omega
      rcases this with e | e | e <;> (rw [e] at q8; exact absurd q8 (by decide))
    obtain ⟨cv, kv, d1, d2, d3, d4, d5⟩ := hH.cell hE hv0
    obtain ⟨t, f1, f2⟩ := e7.asg hE d4
    cases (c9 C0 e6).symm.trans f1
    obtain ⟨kt, f3, -⟩ := Vm.findClass_spec f1
    refine W.aast hx hb c1 (fun q => by rw [c3]; simp) (by rw [c3]; simp) c7 c8 (ety_ref q5) f3 ⟨fun z => inb_in q7 (Or.inl z), by rw [c4]; exact inb_lt q7⟩ d1 (fun q => by rw [d3]; simp) d5 f2 rfl rfl hd (fun H' e1 e2 e3 => hk _ _ _ q4 h1 h2 H' _ ls (hput (some v) H' e1 e2 e3) hL (locs_one hl ha))
