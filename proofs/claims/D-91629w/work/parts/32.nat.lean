/-! the natives: System.arraycopy, clone of a byte array, getClass of an Object array -/
set_option maxRecDepth 100000
/-- an array's components are laid anew -/
theorem HR.row {E : EV} {G : GV} {h h' : AH} {H H' : Heap} (hH : HR E G h H) {a : Nat} {cell cell' : Cell} (hcell : H[a]? = some cell) (ha : E.bs ≤ a) (hlt : 101 ≤ h.kd a) (f1 : cell'.cls = cell.cls) (f2 : cell'.vm = cell.vm) (f3 : cell'.slots.size = cell.slots.size)
    (f4 : ∀ i, i < h.ln a → cell'.slots[i]? = some (aval h' a i)) (e1 : H'[a]? = some cell') (e2 : H'.size = H.size) (e3 : ∀ q, q ≠ a → H'[q]? = H[q]?) (k1 : h'.kd = h.kd) (k2 : h'.ln = h.ln) (k3 : h'.nx = h.nx) (k4 : h'.us = h.us)
    (o1 : ∀ b, b ≠ a → ∀ g, fval h' b g = fval h b g) (o2 : ∀ b, b ≠ a → ∀ i, aval h' b i = aval h b i) : HR E G h' H' := by
  refine ⟨by rw [e2, k3]; exact hH.1, fun b hb => ?_, fun b hb => ?_, fun b hb => by rw [k1] at hb ⊢; exact hH.2.2.2.1 b hb, by rw [k3]; exact hH.2.2.2.2.1, by rw [k4]; exact hH.2.2.2.2.2⟩
  · rw [e3 b (by omega)]; exact hH.2.1 b hb
  · rw [k1] at hb
    obtain ⟨cb, c1, c2, c3, c4, c5⟩ := hH.2.2.1 b hb
    by_cases hba : b = a
    · subst hba
      cases hcell.symm.trans c1
      refine ⟨_, e1, by rw [k1, f1]; exact c2, by rw [f2]; exact c3, fun q => ?_, fun q => ?_⟩
      · rw [k1] at q; exact absurd q (by omega)
      · rw [k2]
        exact ⟨f3.trans (c5 hlt).1, f4⟩
    · refine ⟨cb, by rw [e3 b hba]; exact c1, by rw [k1]; exact c2, c3, fun q g hg => ?_, fun q => ?_⟩
      · rw [k1] at q hg; rw [o1 b hba]; exact c4 q g hg
      · rw [k1] at q; rw [k2]
        exact ⟨(c5 q).1, fun i hi => by rw [o2 b hba]; exact (c5 q).2 i hi⟩
theorem fval_rowI {h : AH} {a : Nat} {r : Nat → Int32} {b f : Nat} (q : b ≠ a) : fval (h.rowI a r) b f = fval h b f := by
  simp only [fval, AH.rowI, AH.I, AH.L, AH.R, up1_ne q]
theorem fval_rowR {h : AH} {a : Nat} {r : Nat → Option Nat} {b f : Nat} (q : b ≠ a) : fval (h.rowR a r) b f = fval h b f := by
  simp only [fval, AH.rowR, AH.I, AH.L, AH.R, up1_ne q]
theorem aval_rowI {h : AH} {a : Nat} {r : Nat → Int32} {b f : Nat} (q : b ≠ a) : aval (h.rowI a r) b f = aval h b f := by
  simp only [aval, AH.rowI, AH.I, AH.L, AH.R, AH.kd, up1_ne q]
  rfl
theorem aval_rowR {h : AH} {a : Nat} {r : Nat → Option Nat} {b f : Nat} (q : b ≠ a) : aval (h.rowR a r) b f = aval h b f := by
  simp only [aval, AH.rowR, AH.I, AH.L, AH.R, AH.kd, up1_ne q]
  rfl
theorem i32_nn {z : Int32} (hz : 0 ≤ z) : z.toInt = (z.toNatClampNeg : Int) := by
  have hz0 : (0 : Int) ≤ z.toInt := by simpa using Int32.le_iff_toInt_le.mp hz
  show z.toInt = ((z.toInt.toNat : Nat) : Int)
  omega
/-- what a copy leaves in the cell -/
theorem copy_get {cs cd : Cell} {sp dp n n0 n1 : Nat} {f g : Nat → Value} (hs : cs.slots.size = n0) (hd : cd.slots.size = n1) (f1 : ∀ i, i < n0 → cs.slots[i]? = some (f i)) (f2 : ∀ i, i < n1 → cd.slots[i]? = some (g i)) (h1 : sp + n ≤ n0) (h2 : dp + n ≤ n1) {i : Nat} (hi : i < n1) :
    (cd.storeRun dp (cs.stretch sp n)).slots[i]? = some (va_cpy f g sp dp n i) := by
  have hlen : (cs.stretch sp n).length = n := by simp [Cell.stretch]
  rw [Cell.storeRun_get _ _ _ _ (by rw [hlen, hd]; exact h2), hlen]
  unfold va_cpy
  by_cases hc : dp ≤ i ∧ i < dp + n
  · rw [if_pos hc, if_pos hc]
    unfold Cell.stretch
    rw [List.getElem?_map, List.getElem?_range (by omega)]
    show some (cs.slots.getD (sp + (i - dp)) .null) = _
    rw [Array.getD_eq_getD_getElem?, f1 _ (by omega)]
    rfl
  · rw [if_neg hc, if_neg hc]
    exact f2 i hi
theorem cpy_map {α β : Type} (mk : α → β) (f g : Nat → α) (sp dp n i : Nat) : va_cpy (fun j => mk (f j)) (fun j => mk (g j)) sp dp n i = mk (va_cpy f g sp dp n i) := by
  unfold va_cpy
  split <;> rfl
theorem all_range {n : Nat} {P : Nat → Bool} (h : (List.range n).all P = true) {i : Nat} (hi : i < n) : P i = true := List.all_eq_true.mp h i (List.mem_range.mpr hi)
theorem nat_copy {E : EV} {v1 v2 v3 v4 v5 : AV} {h : AH} {out : Out} (hs : natS E nat0 [v1, v2, v3, v4, v5] h = some out) : ∃ a i b j n, v1 = vR (some a) ∧ v2 = vI i ∧ v3 = vR (some b) ∧ v4 = vI j ∧ v5 = vI n := by
  rcases v1 with v1 | v1 | _ | a <;> first | exact nomatch (show (none : Option Out) = some out from hs) | skip
  rcases v2 with i | v2 | v2 <;> first | exact nomatch (show (none : Option Out) = some out from hs) | skip
  rcases v3 with v3 | v3 | _ | b <;> first | exact nomatch (show (none : Option Out) = some out from hs) | skip
  rcases v4 with j | v4 | v4 <;> first | exact nomatch (show (none : Option Out) = some out from hs) | skip
  rcases v5 with n | v5 | v5 <;> first | exact nomatch (show (none : Option Out) = some out from hs) | skip
  exact ⟨a, i, b, j, n, rfl, rfl, rfl, rfl, rfl⟩
theorem va_b8 {x : Int32} (h : x.toInt8.toInt32 = x) : fits .byte (.int x) = true := by
  have e : x.toInt8.toInt = x.toInt := by
    have := congrArg Int32.toInt h
    rwa [Int8.toInt_toInt32] at this
  have h1 := x.toInt8.le_toInt
  have h2 := x.toInt8.toInt_lt
  rw [e] at h1 h2
  have g1 : (-128 : Int32) ≤ x := Int32.le_iff_toInt_le.mpr (by have : (-128 : Int32).toInt = -128 := by decide
                                                                rw [this]; simpa using h1)
  have g2 : x ≤ 127 := Int32.le_iff_toInt_le.mpr (by have : (127 : Int32).toInt = 127 := by decide
                                                     rw [this]; omega)
  simp only [fits, narrow, g1, g2, decide_true, Bool.and_self]
theorem si_acopy {M pc i rid cc : Nat} {hp : Option Nat} (hd : decode (mby M) pc = .ok (.invokestatic i, 3)) (hw1 : Jvm.Cond.methodLink (mnm M).cls i arraycopyName ∈ lw_all) (hr : rm_ rid = nat0) (hcc : cc = 20) : SimI M pc (.invokeinterface rid cc) (pc + 3) hp := by
  intro E G p l e s m args below meth c hX d h0 out C J k hC hJ hk als ast h hs
  obtain ⟨hx, hb, hml, hown, hts, hlk, hrt, hnm, hE, hht⟩ := hX
  subst hcc
  obtain ⟨q1, q2⟩ := gd_some hs
  have q1 := (Bool.and_eq_true _ _).mp ((Bool.and_eq_true _ _).mp q1).1
  have q1a : 5 ≤ ast.length := by simpa using q1.1
  have q1b : (ast.drop 5).length ≤ 8 := by simpa using q1.2
  rcases ast with _ | ⟨v5, _ | ⟨v4, _ | ⟨v3, _ | ⟨v2, _ | ⟨v1, st⟩⟩⟩⟩⟩ <;> first | (simp at q1a; done) | skip
  obtain ⟨o, ho⟩ := retv_some q2
  rw [ho] at q2
  obtain ⟨d', hd', -, hN⟩ := hC _ _ _ _ ho
  have hN : natS E (rm_ rid) [v1, v2, v3, v4, v5] h = some o := hN (by rw [hr]; exact Nat.le_refl _)
  rw [hr] at hN
  obtain ⟨a, sp, b, dp, n, rfl, rfl, rfl, rfl, rfl⟩ := nat_copy hN
  obtain ⟨g1, g2⟩ := gd_some hN
  simp only [Bool.and_eq_true, decide_eq_true_eq, Bool.or_eq_true, beq_iff_eq] at g1
  obtain ⟨⟨⟨⟨⟨⟨⟨⟨ga, gb⟩, gbs⟩, g0i⟩, g0j⟩, g0n⟩, gl1⟩, gl2⟩, gel⟩ := g1
  cases g2
  have q3 := retv_inl q2
  intro h1 h2 H locs ls hH hL hl
  obtain ⟨cs, kA, comp, a1, a2, a3, a4, a5, a6, a7, a8, a9⟩ := hH.arr hE (a := a) (by omega)
  obtain ⟨cd, kB, comb, b1, b2, b3, b4, b5, b6, b7, b8, b9⟩ := hH.arr hE (a := b) (by omega)
  rw [gb] at b8 b9
  intro T hT X
  obtain ⟨vm', X', step⟩ := X.arraycopy hx hown (hts _ hw1) (hts _ (lw_w 526 (by decide +kernel) rfl)) (hts _ (lw_w 525 (by decide +kernel) rfl)) (hts _ (lw_w 120 (by decide +kernel) rfl)) (src := a) (dst := b) (cs := cs) (cd := cd) (srcPos := sp) (destPos := dp) (n := n) (by rw [hT]; exact a1) (by rw [hT]; exact b1)
    (fun _ h => by rw [a3] at h; cases h) (fun _ h => by rw [b3] at h; cases h) (fun h => by rw [a3] at h; cases h) (fun h => by rw [b3] at h; cases h) a7 b7 a8 b8 (by rcases ga with (e | e) | e <;> rw [e] <;> rfl) (Int32.not_lt.mpr g0i) (Int32.not_lt.mpr g0j) (Int32.not_lt.mpr g0n)
    (by rw [i32_nn g0i, i32_nn g0n, a4]; omega) (by rw [i32_nn g0j, i32_nn g0n, b4]; omega)
    (fun vm₁ hal j hj => by
      have e0 : cs.slots.getD (sp.toNatClampNeg + j) .null = aval h a (sp.toNatClampNeg + j) := by
        rw [Array.getD_eq_getD_getElem?, a5 _ (by omega)]; rfl
      rw [e0]
      rcases ga with (e1 | e1) | e1
      · have e2 : aval h a (sp.toNatClampNeg + j) = .int (h.I a (sp.toNatClampNeg + j)) := by simp only [aval, e1]; rfl
        rw [e2, e1]
        exact ⟨rfl, trivial⟩
      · have e2 : aval h a (sp.toNatClampNeg + j) = .int (h.I a (sp.toNatClampNeg + j)) := by simp only [aval, e1]; rfl
        rw [e2, e1]
        rw [if_pos e1] at gel
        exact ⟨va_b8 (by simpa using all_range gel hj), trivial⟩
      · have e2 : aval h a (sp.toNatClampNeg + j) = va_rf (h.R a (sp.toNatClampNeg + j)) := by simp only [aval, e1]; rfl
        rw [e2, e1]
        rw [if_neg (by omega), if_pos e1] at gel
        have gel := all_range gel hj
        cases hy : h.R a (sp.toNatClampNeg + j) with
        | none => exact ⟨rfl, trivial⟩
        | some y =>
          rw [hy] at gel
          have gel : anyK (asg 105) (h.kd y) = true := gel
          obtain ⟨C0, e6, e7⟩ := asg_ok gel
          have hv0 : h.kd y ≠ 0 := by
            intro z
            rw [z] at gel
            exact absurd gel (by decide)
          obtain ⟨cv, kv, d1, d2, d3, d4, d5⟩ := hH.cell hE hv0
          obtain ⟨t, f1, f2⟩ := e7.asg hE d4
          cases (b9 C0 (by rw [e1]; exact e6)).symm.trans f1
          obtain ⟨kt, f3, -⟩ := Vm.findClass_spec f1
          obtain ⟨kC', hkC', -⟩ := hal.2.2 _ _ d5
          obtain ⟨kE', hkE', -⟩ := hal.2.2 _ _ f3
          refine ⟨rfl, cv, (show T.heap[y]? = some cv by rw [hT]; exact d1), (fun q h => by rw [d3] at h; cases h), ⟨kC', hkC'⟩, ⟨kE', hkE'⟩, ?_⟩
          show vm₁.assignable _ _ = true
          rw [hal.assignable]
          exact f2)
    (g := F0 m pc ls (.int n :: .int dp :: .ref b :: .int sp :: .ref a :: st.map tv)) rfl (by rw [hml]; exact hL.1.1) (rest := st.map tv) rfl (by rw [hb]; exact hd) (Nat.le_add_left 1 d) (by
      have := cat_sum st
      have hw : nativeFrameWords "java/lang/System" "arraycopy" 5 = 7 := by decide
      have q1b : st.length ≤ 8 := q1b
      show 2 * 0 + ((st.map tv).map fun v => v.category).sum + _ ≤ 64 * (d + 1)
      omega)
  have hlt : b < H.size := (Array.getElem?_eq_some_iff.mp b1).1
  have hheap : ((T.setVm vm').setCell b (copied cs cd sp dp n)).heap = H.setIfInBounds b (copied cs cd sp dp n) := by rw [← hT]; rfl
  have ob : (H.setIfInBounds b (copied cs cd sp dp n))[b]? = some (copied cs cd sp dp n) := by simp [Array.getElem?_setIfInBounds, hlt]
  have oq : ∀ q : Nat, q ≠ b → (H.setIfInBounds b (copied cs cd sp dp n))[q]? = H[q]? := fun q hq => by simp [Array.getElem?_setIfInBounds, Ne.symm hq]
  have osz : (H.setIfInBounds b (copied cs cd sp dp n)).size = H.size := by simp
  obtain ⟨r1, r2, r3, -, -⟩ := Cell.storeRun_facts cd dp.toNatClampNeg (cs.stretch sp.toNatClampNeg n.toNatClampNeg)
  have hH' : HR E G (if h.kd a = 105 then h.rowR b (va_cpy (h.R a) (h.R b) sp.toNatClampNeg dp.toNatClampNeg n.toNatClampNeg) else h.rowI b (va_cpy (h.I a) (h.I b) sp.toNatClampNeg dp.toNatClampNeg n.toNatClampNeg)) (H.setIfInBounds b (copied cs cd sp dp n)) := by
    by_cases e1 : h.kd a = 105
    · rw [if_pos e1]
      refine hH.row b1 gbs (by omega) r1 r2 r3 (fun j hj => ?_) ob osz oq rfl rfl rfl rfl (fun x hx g => fval_rowR hx) (fun x hx g => aval_rowR hx)
      rw [copy_get a4 b4 a5 b5 gl1 gl2 hj]
      have e2 : aval h a = fun j => va_rf (h.R a j) := by funext j; simp only [aval, e1]; rfl
      have e3 : aval h b = fun j => va_rf (h.R b j) := by funext j; simp only [aval, gb, e1]; rfl
      rw [e2, e3, cpy_map]
      have z : (h.rowR b (va_cpy (h.R a) (h.R b) sp.toNatClampNeg dp.toNatClampNeg n.toNatClampNeg)).kd b = 105 := gb.trans e1
      simp only [aval, z]
      exact congrArg some (congrArg va_rf (congrFun (up1_self (f := h.2.2.2.2.1)).symm j))
    · rw [if_neg e1]
      refine hH.row b1 gbs (by omega) r1 r2 r3 (fun j hj => ?_) ob osz oq rfl rfl rfl rfl (fun x hx g => fval_rowI hx) (fun x hx g => aval_rowI hx)
      rw [copy_get a4 b4 a5 b5 gl1 gl2 hj]
      have e2 : aval h a = fun j => .int (h.I a j) := by funext j; unfold aval; rw [if_neg (by omega), if_pos (by omega)]
      have e3 : aval h b = fun j => .int (h.I b j) := by funext j; unfold aval; rw [if_neg (by omega), if_pos (by omega)]
      rw [e2, e3, cpy_map]
      have z : (h.rowI b (va_cpy (h.I a) (h.I b) sp.toNatClampNeg dp.toNatClampNeg n.toNatClampNeg)).kd b = h.kd a := gb
      unfold aval
      rw [if_neg (by omega), if_pos (by omega)]
      exact congrArg some (congrArg Value.int (congrFun (up1_self (f := h.2.2.1)).symm j))
  have hnx : ∀ (g : AH), g = (if h.kd a = 105 then h.rowR b (va_cpy (h.R a) (h.R b) sp.toNatClampNeg dp.toNatClampNeg n.toNatClampNeg) else h.rowI b (va_cpy (h.I a) (h.I b) sp.toNatClampNeg dp.toNatClampNeg n.toNatClampNeg)) → g.nx = h.nx ∧ g.us = h.us := by
    intro g hg
    subst hg
    split <;> exact ⟨rfl, rfl⟩
  obtain ⟨n1, n2⟩ := hnx _ rfl
  have q4 := hk _ _ _ q3 (by rw [n1]; exact h1) (by rw [n2]; exact h2) _ (locs ++ (cs.stretch sp.toNatClampNeg n.toNatClampNeg).zipIdx.map fun q => ⟨b, dp.toNatClampNeg + q.2⟩) ls hH' hL (fun q hq => by
    rcases List.mem_append.mp hq with h | h
    · exact hl q h
    · obtain ⟨z, -, hz⟩ := List.mem_map.mp h
      rw [← hz]; exact gbs)
  rw [n1, n2] at q4
  obtain ⟨t, z1, z2⟩ := q4 _ hheap X'
  exact ⟨t, step t z1, z2⟩
/-- a new array with these components -/
theorem HR.newI {E : EV} {G : GV} {h : AH} {H : Heap} (hH : HR E G h H) (hbs : E.bs ≤ h.nx) {n : Nat} {r : Nat → Int32} (hr1 : h.nx + 1 ≤ E.lc) (hr2 : h.us + n ≤ E.lu) {cell : Cell} (c2 : cell.cls = G.1 102) (c3 : cell.vm = .none) (c4 : cell.slots.size = n) (c5 : ∀ i, i < n → cell.slots[i]? = some (.int (r i))) : HR E G ((h.mk 102 n n).rowI h.nx r) (H.push cell) := by
  have h1 : HR E G (h.mk 102 n n) (H.push { cls := G.1 102, slots := Array.replicate n (.int 0), vm := .none }) := by
    refine hH.new hbs hr1 hr2 (Or.inr ⟨by decide, by decide⟩) rfl rfl (fun q => absurd q (by decide)) (fun _ => ⟨by simp, fun i hi => ?_⟩)
    rw [Array.getElem?_replicate, if_pos hi]
    rfl
  have kd0 : (h.mk 102 n n).kd h.nx = 102 := up1_self
  have ln0 : (h.mk 102 n n).ln h.nx = n := up1_self
  have e0 : (H.push ({ cls := G.1 102, slots := Array.replicate n (.int 0), vm := .none } : Cell))[h.nx]? = some { cls := G.1 102, slots := Array.replicate n (.int 0), vm := .none } := by rw [← hH.1, Array.getElem?_push_size]
  refine h1.row (a := h.nx) (cell' := cell) e0 hbs (by rw [kd0]; decide) c2 c3 (by rw [c4]; simp) (fun i hi => ?_) (by rw [← hH.1, Array.getElem?_push_size]) (by simp) (fun q hq => ?_) rfl rfl rfl rfl (fun x hx g => fval_rowI hx) (fun x hx g => aval_rowI hx)
  · rw [ln0] at hi
    rw [c5 i hi]
    have z : ((h.mk 102 n n).rowI h.nx r).kd h.nx = 102 := kd0
    simp only [aval, z]
    exact congrArg some (congrArg Value.int (congrFun (up1_self (f := (h.mk 102 n n).2.2.1)).symm i))
  · rw [Array.getElem?_push, Array.getElem?_push, hH.1, if_neg hq, if_neg hq]
theorem si_clone {M pc i rid cc : Nat} {hp : Option Nat} (hd : decode (mby M) pc = .ok (.invokevirtual i, 3)) (hw1 : Jvm.Cond.methodLink (mnm M).cls i ⟨"[B", "clone", "()Ljava/lang/Object;"⟩ ∈ lw_all) (hr : rm_ rid = nat0 + 1) (hcc : cc = 7) : SimI M pc (.invokeinterface rid cc) (pc + 3) hp := by
  intro E G p l e s m args below meth c hX d h0 out C J k hC hJ hk als ast h hs
  obtain ⟨hx, hb, hml, hown, hts, hlk, hrt, hnm, hE, hht⟩ := hX
  subst hcc
  obtain ⟨q1, q2⟩ := gd_some hs
  have q1 := (Bool.and_eq_true _ _).mp ((Bool.and_eq_true _ _).mp q1).1
  have q1a : 1 ≤ ast.length := by simpa using q1.1
  have q1b : (ast.drop 1).length ≤ 8 := by simpa using q1.2
  rcases ast with _ | ⟨v1, st⟩ <;> first | (simp at q1a; done) | skip
  obtain ⟨o, ho⟩ := retv_some q2
  rw [ho] at q2
  obtain ⟨d', hd', -, hN⟩ := hC _ _ _ _ ho
  have hN : natS E (rm_ rid) [v1] h = some o := hN (by rw [hr]; decide)
  rw [hr] at hN
  rcases v1 with v1 | v1 | _ | a <;> first | exact nomatch (show (none : Option Out) = some o from hN) | skip
  obtain ⟨g1, g2⟩ := gd_some hN
  simp only [Bool.and_eq_true, decide_eq_true_eq, beq_iff_eq] at g1
  obtain ⟨⟨⟨ga, g3⟩, g4⟩, gel⟩ := g1
  cases g2
  have q3 := retv_inl q2
  intro h1 h2 H locs ls hH hL hl
  obtain ⟨cs, kA, comp, a1, a2, a3, a4, a5, a6, a7, a8, a9⟩ := hH.arr hE (a := a) (by omega)
  have hnmA : s.vm.findClass "[B" = some cs.cls := by
    obtain ⟨cell, kA', c1, c2, c3, c4, c5⟩ := hH.cell hE (a := a) (by omega)
    cases a1.symm.trans c1
    rw [ga] at c4
    exact c4
  obtain ⟨c0, t0', f1, f2, f3⟩ := Cond.castable_spec (va_Nw.use (A := args) rfl (hE.2.2.2.2.2.1 (Jvm.Cond.castable "[B" "java/lang/Cloneable") (nw_w 519 (by decide +kernel) rfl)))
  cases hnmA.symm.trans f1
  intro T hT X
  obtain ⟨-, kT, hkT, compT, hkindT⟩ := State.isArrayOf_alike X.warmed.alike a6
  have e2 : ∀ i, aval h a i = .int (h.I a i) := fun i => by simp only [aval, ga]; rfl
  obtain ⟨vm', X', st'⟩ := X.cloneArray hx hown (hts _ hw1) (hts _ (lw_w 515 (by decide +kernel) rfl)) (hts _ (lw_w 516 (by decide +kernel) rfl)) (hts _ (lw_w 517 (by decide +kernel) rfl)) (hts _ (lw_w 518 (by decide +kernel) rfl)) (a := a) (cell := cs) (by rw [hT]; exact a1) (fun k h => by rw [a3] at h; cases h) (by rw [a3]; exact fun h => by cases h) hnmA f2 f3
    (fun i v hv => by
      have hi : i < h.ln a := by rw [← a4]; exact (Array.getElem?_eq_some_iff.mp hv).1
      cases hv.symm.trans (a5 i hi)
      have hk' : T.vm.classes[cs.cls]? = some kT := hkT
      rw [ga] at hkindT
      have hf : fits .byte (aval h a i) = true := by
        rw [e2]
        exact va_b8 (by simpa using all_range gel hi)
      simpa [State.fitsSlot, State.slotType?, hk', hkindT, ety] using hf)
    (g := F0 m pc ls (.ref a :: st.map tv)) rfl (by rw [hml]; exact hL.1.1) (rest := st.map tv) rfl (by rw [hb]; exact hd) (Nat.le_add_left 1 d) (by
      have := cat_sum st
      have q1b : st.length ≤ 8 := q1b
      show 2 * 0 + ((st.map tv).map fun v => v.category).sum + 14 ≤ 64 * (d + 1)
      omega) (show h.nx - h0.nx + 1 ≤ E.lc - h0.nx by omega) (show h.us - h0.us + cs.slots.size ≤ E.lu - h0.us by rw [a4]; omega) (hloader := Vm.clonesLoader_of_array a7 a8)
  have hH' : HR E G ((h.mk 102 (h.ln a) (h.ln a)).rowI h.nx (h.I a)) (H.push { cls := cs.cls, slots := cs.slots }) := by
    refine hH.newI (HR.bs hE hH) g3 g4 (by rw [← ga]; exact a2) rfl a4 (fun i hi => ?_)
    rw [← e2]
    exact a5 i hi
  have q4 := hk _ _ _ q3 (show h0.nx ≤ h.nx + 1 by omega) (show h0.us ≤ h.us + h.ln a by omega) _ locs ls hH' hL hl
  have e5 : H.size = h.nx := hH.1
  have q5 : W p l e (RM E d h0) s m args below meth c (H.push { cls := cs.cls, slots := cs.slots }) locs (h.nx - h0.nx + 1) (h.us - h0.us + cs.slots.size) (QO E G below out h0 s) (F0 m (pc + 3) ls (.ref h.nx :: st.map tv)) :=
    W.cs (cells' := h.nx + 1 - h0.nx) (slots' := h.us + h.ln a - h0.us) (by omega) (by rw [a4]; omega) q4
  obtain ⟨t, z1, z2⟩ := q5 _ (by rw [← hT]; rfl) X'
  refine ⟨t, st' t ?_, z2⟩
  rw [hT, e5]
  exact z1
theorem si_getClass {M pc i rid cc : Nat} {hp : Option Nat} (hd : decode (mby M) pc = .ok (.invokevirtual i, 3)) (hw1 : Jvm.Cond.methodLink (mnm M).cls i ⟨"java/lang/Object", "getClass", "()Ljava/lang/Class;"⟩ ∈ lw_all) (hr : rm_ rid = nat0 + 2) (hcc : cc = 7) : SimI M pc (.invokeinterface rid cc) (pc + 3) hp := by
  intro E G p l e s m args below meth c hX d h0 out C J k hC hJ hk als ast h hs
  obtain ⟨hx, hb, hml, hown, hts, hlk, hrt, hnm, hE, hht⟩ := hX
  subst hcc
  obtain ⟨q1, q2⟩ := gd_some hs
  have q1 := (Bool.and_eq_true _ _).mp ((Bool.and_eq_true _ _).mp q1).1
  have q1a : 1 ≤ ast.length := by simpa using q1.1
  have q1b : (ast.drop 1).length ≤ 8 := by simpa using q1.2
  rcases ast with _ | ⟨v1, st⟩ <;> first | (simp at q1a; done) | skip
  obtain ⟨o, ho⟩ := retv_some q2
  rw [ho] at q2
  obtain ⟨d', hd', -, hN⟩ := hC _ _ _ _ ho
  have hN : natS E (rm_ rid) [v1] h = some o := hN (by rw [hr]; decide)
  rw [hr] at hN
  rcases v1 with v1 | v1 | _ | a <;> first | exact nomatch (show (none : Option Out) = some o from hN) | skip
  obtain ⟨g1, g2⟩ := gd_some hN
  have ga : h.kd a = 105 := by simpa using g1
  cases g2
  have q3 := retv_inl q2
  intro h1 h2 H locs ls hH hL hl
  obtain ⟨cell, kA, c1, c2, c3, c4, c5⟩ := hH.cell hE (a := a) (by omega)
  rw [ga] at c4
  obtain ⟨mi, hm1, hm2⟩ := hE.2.2.2.2.2.2.2.2.2.2.2
  have q4 := hk _ _ _ q3 h1 h2 H locs ls hH hL hl
  refine va_getC hx hb (by rw [hml]; exact hL.1.1.symm) hown (hts _ hw1) (va_Nw.use (A := args) rfl (hE.2.2.2.2.2.1 _ (nw_w 2558 (by decide +kernel) rfl))) (hts _ (lw_w 2557 (by decide +kernel) rfl)) (hts _ (lw_w 1021 (by decide +kernel) rfl)) (hts _ (lw_w 1047 (by decide +kernel) rfl)) hm2 ⟨cell, c1, by rw [c3]; rfl, c4⟩ (Nat.le_add_left 1 d) (by
      have := cat_sum st
      have q1b : st.length ≤ 8 := q1b
      show ((st.map tv).map fun v => v.category).sum + 14 ≤ 64 * (d + 1)
      omega) hd ?_
  have e : ((Option.toList (some (vR (E.sr mirr))) ++ st).map tv) = .ref mi :: st.map tv := by
    rw [hm1]; rfl
  exact e ▸ q4
