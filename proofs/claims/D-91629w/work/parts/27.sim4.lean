/-! instructions: new cells, casts, statics, switches, the ends of a method -/
set_option maxRecDepth 100000
theorem mk_nx (h : AH) (k n s : Nat) : (h.mk k n s).nx = h.nx + 1 := rfl
theorem mk_us (h : AH) (k n s : Nat) : (h.mk k n s).us = h.us + s := rfl
theorem si_new {M pc i k0 : Nat} {hp : Option Nat} (hd : decode (mby M) pc = .ok (.new i, 3)) (hw1 : Jvm.Cond.classLink (mnm M).cls i (knm k0) ∈ lw_all) (hw2 : Jvm.Cond.instantiable (knm k0) (nsl k0) ∈ lw_all) (hw3 : Jvm.Cond.initialized (knm k0) ∈ lw_all) (hk1 : 1 ≤ k0) (hk2 : k0 < 24) : SimI M pc (.new k0) (pc + 3) hp := by
  intro E G p l e s m args below meth c hX d h0 out C J k hC hJ hk als ast h hs
  obtain ⟨hx, hb, hml, hown, hts, hlk, hrt, hnm, hE, hht⟩ := hX
  obtain ⟨q1, q2⟩ := gd_some hs
  simp only [Bool.and_eq_true, decide_eq_true_eq] at q1
  intro h1 h2 H locs ls hH hL hl
  refine W.newc hx hb hown (hts _ hw1) (hts _ hw2) (hts _ hw3) rfl hd (show h.nx - h0.nx + 1 ≤ E.lc - h0.nx by omega) (show h.us - h0.us + nsl k0 ≤ E.lu - h0.us by omega) (fun cC kC f1 f2 f3 f4 => ?_)
  obtain ⟨g1, -⟩ := hE.2.1 k0 hk1 hk2
  cases g1.symm.trans f1
  have hH' : HR E G (h.mk k0 0 (nsl k0)) (H.push { cls := G.1 k0, slots := kC.instanceTypes.map defaultValue, vm := .none }) := by
    refine hH.new (HR.bs hE hH) (by omega) (by omega) (Or.inl ⟨hk1, hk2⟩) rfl rfl (fun _ f hf => ?_) (fun q => absurd q (by omega))
    obtain ⟨cf, kf, fi, fd, kC', ty, r1, r2, r3, r4, r5, r6, r7, r8, r9, -⟩ := field_at hE hts hf
    cases f2.symm.trans r5
    rw [← r2]
    simp only [Array.getElem?_map, r7, Option.map_some]
    unfold ftypOK at r9
    generalize fty f = t at r9 ⊢
    generalize fnr f = n at r9
    rcases t with _ | _ | _ | t <;> rcases n with _ | _ | _ | n <;> cases ty <;> first | rfl | exact nomatch (show false = true from r9)
  have q3 := hk _ _ _ q2 (by rw [mk_nx]; omega) (by rw [mk_us]; omega) _ locs ls hH' hL hl
  rw [mk_nx, mk_us] at q3
  refine W.cs (cells' := h.nx + 1 - h0.nx) (slots' := h.us + nsl k0 - h0.us) (by omega) (by omega) ?_
  have e : H.size = h.nx := hH.1
  rw [e]
  exact q3
theorem si_newarr_int {M pc : Nat} {hp : Option Nat} (hd : decode (mby M) pc = .ok (.newarray .int, 2)) (hw : Jvm.Cond.arrayClass .int ∈ lw_all) : SimI M pc (.anewarray 101) (pc + 2) hp := by
  intro E G p l e s m args below meth c hX d h0 out C J k hC hJ hk als ast h hs
  obtain ⟨hx, hb, hml, hown, hts, hlk, hrt, hnm, hE, hht⟩ := hX
  rcases ast with _ | ⟨x | x | x, st⟩ <;> first | exact nomatch (show (none : Option Out) = some out from hs) | skip
  obtain ⟨q1, q2⟩ := gd_some hs
  simp only [Bool.and_eq_true, decide_eq_true_eq] at q1
  obtain ⟨⟨⟨q3, q4⟩, q5⟩, q6⟩ := q1
  intro h1 h2 H locs ls hH hL hl
  refine W.newa hx hb (atype := .int) (hts _ hw) rfl hd rfl (Int32.not_lt.mpr q3) (show x.toNatClampNeg * componentBytes .int ≤ 536870912 from Nat.le_trans (Nat.mul_le_mul q4 (show componentBytes .int ≤ 8 by decide)) (by decide)) (show h.nx - h0.nx + 1 ≤ E.lc - h0.nx by omega) (show h.us - h0.us + x.toNatClampNeg ≤ E.lu - h0.us by omega) (fun cA kA comp f1 f2 f3 => ?_)
  obtain ⟨kA', comp', g1, g2, g3, -⟩ := hE.2.2.2.2.1 101 (by decide) (by decide)
  cases (show s.vm.findClass (knm 101) = some cA from f1).symm.trans g3
  have hH' : HR E G (h.mk 101 x.toNatClampNeg x.toNatClampNeg) (H.push { cls := G.1 101, slots := Array.replicate x.toNatClampNeg (defaultValue (newarray.typeOf .int)), vm := .none }) := by
    refine hH.new (HR.bs hE hH) (by omega) (by omega) (Or.inr ⟨by decide, by decide⟩) rfl rfl (fun q => absurd q (by decide)) (fun _ => ⟨by simp, fun i hi => ?_⟩)
    rw [Array.getElem?_replicate, if_pos hi]
    rfl
  have q7 := hk _ _ _ q2 (by rw [mk_nx]; omega) (by rw [mk_us]; omega) _ locs ls hH' hL hl
  rw [mk_nx, mk_us] at q7
  refine W.cs (cells' := h.nx + 1 - h0.nx) (slots' := h.us + x.toNatClampNeg - h0.us) (by omega) (by omega) ?_
  have e : H.size = h.nx := hH.1
  rw [e]
  exact q7
theorem si_newarr_byte {M pc : Nat} {hp : Option Nat} (hd : decode (mby M) pc = .ok (.newarray .byte, 2)) (hw : Jvm.Cond.arrayClass .byte ∈ lw_all) : SimI M pc (.anewarray 102) (pc + 2) hp := by
  intro E G p l e s m args below meth c hX d h0 out C J k hC hJ hk als ast h hs
  obtain ⟨hx, hb, hml, hown, hts, hlk, hrt, hnm, hE, hht⟩ := hX
  rcases ast with _ | ⟨x | x | x, st⟩ <;> first | exact nomatch (show (none : Option Out) = some out from hs) | skip
  obtain ⟨q1, q2⟩ := gd_some hs
  simp only [Bool.and_eq_true, decide_eq_true_eq] at q1
  obtain ⟨⟨⟨q3, q4⟩, q5⟩, q6⟩ := q1
  intro h1 h2 H locs ls hH hL hl
  refine W.newa hx hb (atype := .byte) (hts _ hw) rfl hd rfl (Int32.not_lt.mpr q3) (show x.toNatClampNeg * componentBytes .byte ≤ 536870912 from Nat.le_trans (Nat.mul_le_mul q4 (show componentBytes .byte ≤ 8 by decide)) (by decide)) (show h.nx - h0.nx + 1 ≤ E.lc - h0.nx by omega) (show h.us - h0.us + x.toNatClampNeg ≤ E.lu - h0.us by omega) (fun cA kA comp f1 f2 f3 => ?_)
  obtain ⟨kA', comp', g1, g2, g3, -⟩ := hE.2.2.2.2.1 102 (by decide) (by decide)
  cases (show s.vm.findClass (knm 102) = some cA from f1).symm.trans g3
  have hH' : HR E G (h.mk 102 x.toNatClampNeg x.toNatClampNeg) (H.push { cls := G.1 102, slots := Array.replicate x.toNatClampNeg (defaultValue (newarray.typeOf .byte)), vm := .none }) := by
    refine hH.new (HR.bs hE hH) (by omega) (by omega) (Or.inr ⟨by decide, by decide⟩) rfl rfl (fun q => absurd q (by decide)) (fun _ => ⟨by simp, fun i hi => ?_⟩)
    rw [Array.getElem?_replicate, if_pos hi]
    rfl
  have q7 := hk _ _ _ q2 (by rw [mk_nx]; omega) (by rw [mk_us]; omega) _ locs ls hH' hL hl
  rw [mk_nx, mk_us] at q7
  refine W.cs (cells' := h.nx + 1 - h0.nx) (slots' := h.us + x.toNatClampNeg - h0.us) (by omega) (by omega) ?_
  have e : H.size = h.nx := hH.1
  rw [e]
  exact q7
theorem si_newarr_boolean {M pc : Nat} {hp : Option Nat} (hd : decode (mby M) pc = .ok (.newarray .boolean, 2)) (hw : Jvm.Cond.arrayClass .boolean ∈ lw_all) : SimI M pc (.anewarray 103) (pc + 2) hp := by
  intro E G p l e s m args below meth c hX d h0 out C J k hC hJ hk als ast h hs
  obtain ⟨hx, hb, hml, hown, hts, hlk, hrt, hnm, hE, hht⟩ := hX
  rcases ast with _ | ⟨x | x | x, st⟩ <;> first | exact nomatch (show (none : Option Out) = some out from hs) | skip
  obtain ⟨q1, q2⟩ := gd_some hs
  simp only [Bool.and_eq_true, decide_eq_true_eq] at q1
  obtain ⟨⟨⟨q3, q4⟩, q5⟩, q6⟩ := q1
  intro h1 h2 H locs ls hH hL hl
  refine W.newa hx hb (atype := .boolean) (hts _ hw) rfl hd rfl (Int32.not_lt.mpr q3) (show x.toNatClampNeg * componentBytes .boolean ≤ 536870912 from Nat.le_trans (Nat.mul_le_mul q4 (show componentBytes .boolean ≤ 8 by decide)) (by decide)) (show h.nx - h0.nx + 1 ≤ E.lc - h0.nx by omega) (show h.us - h0.us + x.toNatClampNeg ≤ E.lu - h0.us by omega) (fun cA kA comp f1 f2 f3 => ?_)
  obtain ⟨kA', comp', g1, g2, g3, -⟩ := hE.2.2.2.2.1 103 (by decide) (by decide)
  cases (show s.vm.findClass (knm 103) = some cA from f1).symm.trans g3
  have hH' : HR E G (h.mk 103 x.toNatClampNeg x.toNatClampNeg) (H.push { cls := G.1 103, slots := Array.replicate x.toNatClampNeg (defaultValue (newarray.typeOf .boolean)), vm := .none }) := by
    refine hH.new (HR.bs hE hH) (by omega) (by omega) (Or.inr ⟨by decide, by decide⟩) rfl rfl (fun q => absurd q (by decide)) (fun _ => ⟨by simp, fun i hi => ?_⟩)
    rw [Array.getElem?_replicate, if_pos hi]
    rfl
  have q7 := hk _ _ _ q2 (by rw [mk_nx]; omega) (by rw [mk_us]; omega) _ locs ls hH' hL hl
  rw [mk_nx, mk_us] at q7
  refine W.cs (cells' := h.nx + 1 - h0.nx) (slots' := h.us + x.toNatClampNeg - h0.us) (by omega) (by omega) ?_
  have e : H.size = h.nx := hH.1
  rw [e]
  exact q7
theorem si_newarr_long {M pc : Nat} {hp : Option Nat} (hd : decode (mby M) pc = .ok (.newarray .long, 2)) (hw : Jvm.Cond.arrayClass .long ∈ lw_all) : SimI M pc (.anewarray 104) (pc + 2) hp := by
  intro E G p l e s m args below meth c hX d h0 out C J k hC hJ hk als ast h hs
  obtain ⟨hx, hb, hml, hown, hts, hlk, hrt, hnm, hE, hht⟩ := hX
  rcases ast with _ | ⟨x | x | x, st⟩ <;> first | exact nomatch (show (none : Option Out) = some out from hs) | skip
  obtain ⟨q1, q2⟩ := gd_some hs
  simp only [Bool.and_eq_true, decide_eq_true_eq] at q1
  obtain ⟨⟨⟨q3, q4⟩, q5⟩, q6⟩ := q1
  intro h1 h2 H locs ls hH hL hl
  refine W.newa hx hb (atype := .long) (hts _ hw) rfl hd rfl (Int32.not_lt.mpr q3) (show x.toNatClampNeg * componentBytes .long ≤ 536870912 from Nat.le_trans (Nat.mul_le_mul q4 (show componentBytes .long ≤ 8 by decide)) (by decide)) (show h.nx - h0.nx + 1 ≤ E.lc - h0.nx by omega) (show h.us - h0.us + x.toNatClampNeg ≤ E.lu - h0.us by omega) (fun cA kA comp f1 f2 f3 => ?_)
  obtain ⟨kA', comp', g1, g2, g3, -⟩ := hE.2.2.2.2.1 104 (by decide) (by decide)
  cases (show s.vm.findClass (knm 104) = some cA from f1).symm.trans g3
  have hH' : HR E G (h.mk 104 x.toNatClampNeg x.toNatClampNeg) (H.push { cls := G.1 104, slots := Array.replicate x.toNatClampNeg (defaultValue (newarray.typeOf .long)), vm := .none }) := by
    refine hH.new (HR.bs hE hH) (by omega) (by omega) (Or.inr ⟨by decide, by decide⟩) rfl rfl (fun q => absurd q (by decide)) (fun _ => ⟨by simp, fun i hi => ?_⟩)
    rw [Array.getElem?_replicate, if_pos hi]
    rfl
  have q7 := hk _ _ _ q2 (by rw [mk_nx]; omega) (by rw [mk_us]; omega) _ locs ls hH' hL hl
  rw [mk_nx, mk_us] at q7
  refine W.cs (cells' := h.nx + 1 - h0.nx) (slots' := h.us + x.toNatClampNeg - h0.us) (by omega) (by omega) ?_
  have e : H.size = h.nx := hH.1
  rw [e]
  exact q7
theorem si_anew {M pc i k0 : Nat} {C0 : String} {hp : Option Nat} (hd : decode (mby M) pc = .ok (.anewarray i, 3)) (hw : Jvm.Cond.classLink (mnm M).cls i C0 ∈ lw_all) (h5 : 105 ≤ k0) (h8 : k0 < 108) (he : ety k0 = .object C0) (hkn : knm k0 = "[" ++ (FieldType.object C0).toString) : SimI M pc (.anewarray k0) (pc + 3) hp := by
  intro E G p l e s m args below meth c hX d h0 out C J k hC hJ hk als ast h hs
  obtain ⟨hx, hb, hml, hown, hts, hlk, hrt, hnm, hE, hht⟩ := hX
  rcases ast with _ | ⟨x | x | x, st⟩ <;> first | exact nomatch (show (none : Option Out) = some out from hs) | skip
  obtain ⟨q1, q2⟩ := gd_some hs
  simp only [Bool.and_eq_true, decide_eq_true_eq] at q1
  obtain ⟨⟨⟨q3, q4⟩, q5⟩, q6⟩ := q1
  intro h1 h2 H locs ls hH hL hl
  refine W.anew hx hb hown (hts _ hw) (va_AO.use (hE.2.2.2.2.2.2.1 k0 h5 h8 C0 he)) rfl hd rfl (Int32.not_lt.mpr q3) (by omega) (show h.nx - h0.nx + 1 ≤ E.lc - h0.nx by omega) (show h.us - h0.us + x.toNatClampNeg ≤ E.lu - h0.us by omega) (fun cA kA comp f1 f2 f3 f4 => ?_)
  obtain ⟨kA', comp', g1, g2, g3, -⟩ := hE.2.2.2.2.1 k0 (by omega) (by omega)
  rw [hkn] at g3
  cases f1.symm.trans g3
  have hH' : HR E G (h.mk k0 x.toNatClampNeg x.toNatClampNeg) (H.push { cls := G.1 k0, slots := Array.replicate x.toNatClampNeg .null, vm := .none }) := by
    refine hH.new (HR.bs hE hH) (by omega) (by omega) (Or.inr ⟨by omega, by omega⟩) rfl rfl (fun q => absurd q (by omega)) (fun _ => ⟨by simp, fun i hi => ?_⟩)
    rw [Array.getElem?_replicate, if_pos hi, if_neg (by omega), if_neg (by omega)]
  have q7 := hk _ _ _ q2 (by rw [mk_nx]; omega) (by rw [mk_us]; omega) _ locs ls hH' hL hl
  rw [mk_nx, mk_us] at q7
  refine W.cs (cells' := h.nx + 1 - h0.nx) (slots' := h.us + x.toNatClampNeg - h0.us) (by omega) (by omega) ?_
  have e : H.size = h.nx := hH.1
  rw [e]
  exact q7
theorem si_checkcast {M pc i c0 : Nat} {nm : String} {hp : Option Nat} (hd : decode (mby M) pc = .ok (.checkcast i, 3)) (hw : Jvm.Cond.classLink (mnm M).cls i nm ∈ lw_all) (hc0 : ∀ k, anyK (sbk c0) k = true → CastOK k nm ∧ k ≠ 0) : SimI M pc (.checkcast c0) (pc + 3) hp := by
  intro E G p l e s m args below meth c hX d h0 out C J k hC hJ hk als ast h hs
  obtain ⟨hx, hb, hml, hown, hts, hlk, hrt, hnm, hE, hht⟩ := hX
  rcases ast with _ | ⟨x | x | (_ | x), st⟩ <;> first | exact nomatch (show (none : Option Out) = some out from hs) | skip
  · have q2 : k als (vR none :: st) h = some out := hs
    intro h1 h2 H locs ls hH hL hl
    exact lv_castN hx hb hd (hk _ _ _ q2 h1 h2 H locs ls hH hL hl)
  · obtain ⟨q1, q2⟩ := gd_some hs
    have q1 : anyK (sbk c0) (h.kd x) = true := q1
    intro h1 h2 H locs ls hH hL hl
    obtain ⟨q3, q4⟩ := hc0 _ q1
    obtain ⟨cell, kA, c1, c2, c3, c4, c5⟩ := hH.cell hE q4
    obtain ⟨t, f1, f2⟩ := q3.asg hE c4
    have kk := hk _ _ _ q2 h1 h2 H locs ls hH hL hl
    intro T hT X
    obtain ⟨vm', X', st'⟩ := X.checkcastYes hx hown (hts _ hw) (by rw [hT]; exact c1) (by rw [c3]; rfl) f1 f2 (g := F0 m pc ls (.ref x :: st.map tv)) rfl rfl (by rw [hb]; exact hd)
    obtain ⟨t', a1, b1⟩ := kk (T.setVm vm') hT X'
    exact ⟨t', st' t' a1, b1⟩
theorem si_instanceof {M pc i c0 : Nat} {nm : String} {hp : Option Nat} (hd : decode (mby M) pc = .ok (.instanceof i, 3)) (hw : Jvm.Cond.classLink (mnm M).cls i nm ∈ lw_all) (hnm0 : nm = knm c0) (hc0 : ∀ k, anyK (sbk c0) k = true → CastOK k nm) (hc1 : ∀ k, anyK (insk c0) k = true → k ≠ 0) : SimI M pc (.instanceof c0) (pc + 3) hp := by
  intro E G p l e s m args below meth c hX d h0 out C J k hC hJ hk als ast h hs
  obtain ⟨hx, hb, hml, hown, hts, hlk, hrt, hnm, hE, hht⟩ := hX
  rcases ast with _ | ⟨x | x | (_ | x), st⟩ <;> first | exact nomatch (show (none : Option Out) = some out from hs) | skip
  · intro h1 h2 H locs ls hH hL hl
    exact lv_instN hx hb hd (hk _ _ _ hs h1 h2 H locs ls hH hL hl)
  · obtain ⟨q1, q2⟩ := gd_some hs
    intro h1 h2 H locs ls hH hL hl
    obtain ⟨cell, kA, c1, c2, c3, c4, c5⟩ := hH.cell hE (hc1 _ q1)
    have kk := hk _ _ _ q2 h1 h2 H locs ls hH hL hl
    cases hb9 : anyK (sbk c0) (h.kd x) with
    | true =>
      rw [hb9] at kk
      obtain ⟨t, f1, f2⟩ := (hc0 _ hb9).asg hE c4
      intro T hT X
      obtain ⟨vm', X', st'⟩ := X.instanceofYes hx hown (hts _ hw) (by rw [hT]; exact c1) (by rw [c3]; rfl) f1 f2 (g := F0 m pc ls (.ref x :: st.map tv)) rfl rfl (by rw [hb]; exact hd)
      obtain ⟨t', a1, b1⟩ := kk (T.setVm vm') hT X'
      exact ⟨t', st' t' a1, b1⟩
    | false =>
      rw [hb9] at kk
      subst hnm0
      exact va_instNo hx hb hown (hts _ hw) (hE.2.2.2.2.2.2.2.1 c0 (h.kd x) q1 hb9) ⟨cell, c1, by rw [c3]; rfl, c4⟩ hd kk
theorem si_getsI {M pc i i0 : Nat} {q0 : String × String × String} {hp : Option Nat} (hd : decode (mby M) pc = .ok (.getstatic i, 3)) (hw : Jvm.Cond.fieldLink (mnm M).cls i q0.1 q0.2.1 q0.2.2 ∈ lw_all) (hq : (q0, i0) ∈ sttI) : SimI M pc (.ret i0) (pc + 3) hp := by
  intro E G p l e s m args below meth c hX d h0 out C J k hC hJ hk als ast h hs
  obtain ⟨hx, hb, hml, hown, hts, hlk, hrt, hnm, hE, hht⟩ := hX
  intro h1 h2 H locs ls hH hL hl
  obtain ⟨cf, kf, fi, f, a, cell, f1, f2, f3, f4, f5, f6, f7⟩ := hE.2.2.2.2.2.2.2.2.2.1 _ hq
  have f8 : H[a]? = some cell := by
    rw [hH.2.1 a (by rw [← hE.1]; exact (Array.getElem?_eq_some_iff.mp f5).1)]; exact f5
  exact W.gets hx hb hown (hts _ hw) f1 f2 f3 f4 f8 (fun e => by rw [e] at f6; cases f6) f7 rfl hd (hk _ _ _ hs h1 h2 H locs ls hH hL hl)
theorem si_getsR {M pc i i0 : Nat} {q0 : String × String × String} {hp : Option Nat} (hd : decode (mby M) pc = .ok (.getstatic i, 3)) (hw : Jvm.Cond.fieldLink (mnm M).cls i q0.1 q0.2.1 q0.2.2 ∈ lw_all) (hq : (q0, i0) ∈ sttR) : SimI M pc (.getstatic i0) (pc + 3) hp := by
  intro E G p l e s m args below meth c hX d h0 out C J k hC hJ hk als ast h hs
  obtain ⟨hx, hb, hml, hown, hts, hlk, hrt, hnm, hE, hht⟩ := hX
  intro h1 h2 H locs ls hH hL hl
  obtain ⟨cf, kf, fi, f, a, cell, f1, f2, f3, f4, f5, f6, f7⟩ := hE.2.2.2.2.2.2.2.2.2.2.1 _ hq
  have f8 : H[a]? = some cell := by
    rw [hH.2.1 a (by rw [← hE.1]; exact (Array.getElem?_eq_some_iff.mp f5).1)]; exact f5
  exact W.gets hx hb hown (hts _ hw) f1 f2 f3 f4 f8 (fun e => by rw [e] at f6; cases f6) f7 rfl hd (hk _ _ _ hs h1 h2 H locs ls hH hL hl)
theorem cat_sum (st : St) : ((st.map tv).map fun v => v.category).sum ≤ 2 * st.length := by
  induction st with
  | nil => exact Nat.le_refl _
  | cons v st ih =>
    simp only [List.map_cons, List.sum_cons, List.length_cons]
    have : (tv v).category ≤ 2 := by rcases v with x | x | (_ | x) <;> simp [tv, va_rf, Value.category]
    omega
theorem si_objinit {M pc i : Nat} {hp : Option Nat} (hd : decode (mby M) pc = .ok (.invokespecial i, 3)) (hw1 : Jvm.Cond.methodLink (mnm M).cls i objectInit ∈ lw_all) (hw2 : Jvm.Cond.instanceMethod objectInit ∈ lw_all) (hw3 : Jvm.Cond.code objectInit ⟨#[0xb1]⟩ 1 none ∈ lw_all) : SimI M pc .pop2 (pc + 3) hp := by
  intro E G p l e s m args below meth c hX d h0 out C J k hC hJ hk als ast h hs
  obtain ⟨hx, hb, hml, hown, hts, hlk, hrt, hnm, hE, hht⟩ := hX
  rcases ast with _ | ⟨x | x | (_ | x), st⟩ <;> first | exact nomatch (show (none : Option Out) = some out from hs) | skip
  obtain ⟨q1, q2⟩ := gd_some hs
  have q1 : st.length ≤ 8 := by simpa using q1
  intro h1 h2 H locs ls hH hL hl
  refine W.objInit hx hb hown (hts _ hw1) (hts _ hw2) (hts _ hw3) rfl (by rw [hml]; exact hL.1.1) rfl hd (Nat.le_add_left 1 d) ?_ (hk _ _ _ q2 h1 h2 H locs ls hH hL hl)
  have := cat_sum st
  show 2 * 0 + ((st.map tv).map fun v => v.category).sum + 12 ≤ 64 * (d + 1)
  omega
section Rets
variable {p : Program} {l : Launch} {e : Env} {R : Room} {s : State} {m : MethodId} {args : Array Value} {below : List Frame} {meth : Method} {c : Code} {H : Heap} {locs : List Loc} {cells slots : Nat} {Q : State → Prop} {cc : ByteArray} {pc : Nat} {ls : Array Slot} {rest : List Value}
/-- what the end of a method has to show -/
def EndQ (below : List Frame) (s : State) (H : Heap) (locs : List Loc) (cells slots : Nat) (o : Outcome) (Q : State → Prop) : Prop := ∀ t : State, t.heap = H → t.status = .running → Ended t below o → s.WarmedH t.vm → s.sameButNew ({ t with vm := s.vm } : State) locs cells slots → Q t
theorem w_iret {v : Int32} {ty : FieldType} (hexec : p.tables.exec = Jvm.exec) (hb : c.code = cc) (hr : meth.sig.returnType = some ty) (hn : narrow ty (.int v) = .int v) (hlocks : meth.locks = false) (hdg : decode cc pc = .ok (.ireturn, 1)) (hq : EndQ below s H locs cells slots (.returned (some (.int v))) Q) : W p l e R s m args below meth c H locs cells slots Q (F0 m pc ls (.int v :: rest)) := by
  intro T hT X
  obtain ⟨fs, hret, hrun, hended, hW, hframe⟩ := X.leave (v := some (.int v)) (fun h => by rw [hr] at h; cases h)
  have hmeth' : T.vm.method? m = some meth := X.method'
  refine ⟨T.setFrames fs, ?_, hq _ hT hrun hended hW hframe⟩
  jvm_step X.here [X.here.top, hexec, hb, hdg, hmeth', hr, hn]
  (try refine ⟨rfl, ?_⟩); (try refine ⟨rfl, ?_⟩)
  first | (intro acts; rw [hret _ acts rfl rfl rfl]) | rw [hret _ _ rfl rfl rfl]
  exact Steps.refl _
theorem w_vret (hexec : p.tables.exec = Jvm.exec) (hb : c.code = cc) (hr : meth.sig.returnType = none) (hlocks : meth.locks = false) (hdg : decode cc pc = .ok (.return_, 1)) (hq : EndQ below s H locs cells slots (.returned none) Q) : W p l e R s m args below meth c H locs cells slots Q (F0 m pc ls rest) := by
  intro T hT X
  obtain ⟨fs, hret, hrun, hended, hW, hframe⟩ := X.leave (v := none) (fun _ => rfl)
  have hmeth' : T.vm.method? m = some meth := X.method'
  refine ⟨T.setFrames fs, ?_, hq _ hT hrun hended hW hframe⟩
  jvm_step X.here [X.here.top, hexec, hb, hdg, hmeth', hr]
  (try refine ⟨rfl, ?_⟩); (try refine ⟨rfl, ?_⟩)
  first | (intro acts; rw [hret _ acts rfl rfl rfl]) | rw [hret _ _ rfl rfl rfl]
  exact Steps.refl _
theorem w_aret {v : Option Nat} {rt : FieldType} (hexec : p.tables.exec = Jvm.exec) (hb : c.code = cc) (hr : meth.sig.returnType = some rt) (hrt : (∃ n, rt = .object n) ∨ ∃ t, rt = .array t) (hlocks : meth.locks = false) (hdg : decode cc pc = .ok (.areturn, 1)) (hq : EndQ below s H locs cells slots (.returned (some (va_rf v))) Q) : W p l e R s m args below meth c H locs cells slots Q (F0 m pc ls (va_rf v :: rest)) := by
  intro T hT X
  obtain ⟨fs, hret, hrun, hended, hW, hframe⟩ := X.leave (v := some (va_rf v)) (fun h => by rw [hr] at h; cases h)
  have hmeth' : T.vm.method? m = some meth := X.method'
  refine ⟨T.setFrames fs, ?_, hq _ hT hrun hended hW hframe⟩
  rcases hrt with ⟨n, rfl⟩ | ⟨t, rfl⟩ <;> rcases v with _ | a <;>
    (simp only [va_rf] at hret ⊢
     jvm_step X.here [X.here.top, hexec, hb, hdg, hmeth', hr]
     (try refine ⟨rfl, ?_⟩); (try refine ⟨rfl, ?_⟩)
     first | (intro acts; rw [hret _ acts rfl rfl rfl]) | rw [hret _ _ rfl rfl rfl]
     exact Steps.refl _)
theorem w_throw {a : Nat} (hexec : p.tables.exec = Jvm.exec) (hb : c.code = cc) (hlocks : meth.locks = false) (hout : ∀ x ∈ c.exceptionTable.toList, covers x pc = false) (hdg : decode cc pc = .ok (.athrow, 1)) (hq : EndQ below s H locs cells slots (.threw a) Q) : W p l e R s m args below meth c H locs cells slots Q (F0 m pc ls (.ref a :: rest)) := by
  intro T hT X
  obtain ⟨h1, h2, h3, h4, h5⟩ := X.athrowLeaves hexec (g := F0 m pc ls (.ref a :: rest)) rfl rfl rfl hout rfl (by rw [hb]; exact hdg) hlocks
  exact ⟨_, h1, hq _ hT h2 h3 h4 h5⟩
end Rets
theorem endQ {E : EV} {G : GV} {below : List Frame} {s : State} {H : Heap} {locs : List Loc} {h0 h : AH} {r : Option AV ⊕ Nat} {o : Outcome} (ho : OutR r o) (h1 : h0.nx ≤ h.nx) (h2 : h0.us ≤ h.us) (hH : HR E G h H) (hl : ∀ q ∈ locs, E.bs ≤ q.base) : EndQ below s H locs (h.nx - h0.nx) (h.us - h0.us) o (QO E G below (r, h) h0 s) := by
  intro t ht hr he hW hf
  exact ⟨o, hr, he, ho, by rw [ht]; exact hH, h1, h2, locs, hW, hf, hl⟩
theorem si_ireturn {M pc pc' : Nat} {hp : Option Nat} (hd : decode (mby M) pc = .ok (.ireturn, 1)) (hr : mrt M = some .int) : SimI M pc .ireturn pc' hp := by
  intro E G p l e s m args below meth c hX d h0 out C J k hC hJ hk als ast h hs
  obtain ⟨hx, hb, hml, hown, hts, hlk, hrt, hnm, hE, hht⟩ := hX
  rcases ast with _ | ⟨x | x | x, st⟩ <;> first | exact nomatch (show (none : Option Out) = some out from hs) | skip
  cases (show some (Sum.inl (some (vI x)), h) = some out from hs)
  intro h1 h2 H locs ls hH hL hl
  exact w_iret hx hb (hrt.trans hr) rfl hlk hd (endQ rfl h1 h2 hH hl)
theorem si_freturn {M pc pc' : Nat} {hp : Option Nat} (hd : decode (mby M) pc = .ok (.ireturn, 1)) (hr : mrt M = some .boolean) : SimI M pc .freturn pc' hp := by
  intro E G p l e s m args below meth c hX d h0 out C J k hC hJ hk als ast h hs
  obtain ⟨hx, hb, hml, hown, hts, hlk, hrt, hnm, hE, hht⟩ := hX
  rcases ast with _ | ⟨x | x | x, st⟩ <;> first | exact nomatch (show (none : Option Out) = some out from hs) | skip
  obtain ⟨q1, q2⟩ := gd_some hs
  cases q2
  intro h1 h2 H locs ls hH hL hl
  have hn : narrow .boolean (.int x) = .int x := by
    simp only [Bool.or_eq_true, decide_eq_true_eq] at q1
    rcases q1 with rfl | rfl <;> decide
  exact w_iret hx hb (hrt.trans hr) hn hlk hd (endQ rfl h1 h2 hH hl)
theorem si_dreturn {M pc pc' : Nat} {hp : Option Nat} (hd : decode (mby M) pc = .ok (.ireturn, 1)) (hr : mrt M = some .char) : SimI M pc .dreturn pc' hp := by
  intro E G p l e s m args below meth c hX d h0 out C J k hC hJ hk als ast h hs
  obtain ⟨hx, hb, hml, hown, hts, hlk, hrt, hnm, hE, hht⟩ := hX
  rcases ast with _ | ⟨x | x | x, st⟩ <;> first | exact nomatch (show (none : Option Out) = some out from hs) | skip
  obtain ⟨q1, q2⟩ := gd_some hs
  cases q2
  intro h1 h2 H locs ls hH hL hl
  have hn : narrow .char (.int x) = .int x := by
    have q1 : (x.toUInt32 % 65536).toInt32 = x := by simpa using q1
    have := pk_nc x
    rw [q1] at this
    exact this
  exact w_iret hx hb (hrt.trans hr) hn hlk hd (endQ rfl h1 h2 hH hl)
theorem si_swap {M pc pc' : Nat} {hp : Option Nat} (hd : decode (mby M) pc = .ok (.ireturn, 1)) (hr : mrt M = some .byte) : SimI M pc .swap pc' hp := by
  intro E G p l e s m args below meth c hX d h0 out C J k hC hJ hk als ast h hs
  obtain ⟨hx, hb, hml, hown, hts, hlk, hrt, hnm, hE, hht⟩ := hX
  rcases ast with _ | ⟨x | x | x, st⟩ <;> first | exact nomatch (show (none : Option Out) = some out from hs) | skip
  obtain ⟨q1, q2⟩ := gd_some hs
  cases q2
  intro h1 h2 H locs ls hH hL hl
  have hn : narrow .byte (.int x) = .int x := by
    have q1 : x.toInt8.toInt32 = x := by simpa using q1
    rw [narrow_byte, q1]
  exact w_iret hx hb (hrt.trans hr) hn hlk hd (endQ rfl h1 h2 hH hl)
theorem si_areturn {M pc pc' : Nat} {hp : Option Nat} {rt : FieldType} (hd : decode (mby M) pc = .ok (.areturn, 1)) (hr : mrt M = some rt) (hrr : (∃ n, rt = .object n) ∨ ∃ t, rt = .array t) : SimI M pc .areturn pc' hp := by
  intro E G p l e s m args below meth c hX d h0 out C J k hC hJ hk als ast h hs
  obtain ⟨hx, hb, hml, hown, hts, hlk, hrt, hnm, hE, hht⟩ := hX
  rcases ast with _ | ⟨x | x | x, st⟩ <;> first | exact nomatch (show (none : Option Out) = some out from hs) | skip
  cases (show some (Sum.inl (some (vR x)), h) = some out from hs)
  intro h1 h2 H locs ls hH hL hl
  exact w_aret hx hb (hrt.trans hr) hrr hlk hd (endQ rfl h1 h2 hH hl)
theorem si_return {M pc pc' : Nat} {hp : Option Nat} (hd : decode (mby M) pc = .ok (.return_, 1)) (hr : mrt M = none) : SimI M pc .return_ pc' hp := by
  intro E G p l e s m args below meth c hX d h0 out C J k hC hJ hk als ast h hs
  obtain ⟨hx, hb, hml, hown, hts, hlk, hrt, hnm, hE, hht⟩ := hX
  cases (show some (Sum.inl none, h) = some out from hs)
  intro h1 h2 H locs ls hH hL hl
  exact w_vret hx hb (hrt.trans hr) hlk hd (endQ rfl h1 h2 hH hl)
/-- no handler of the method holds the place -/
theorem ht_out {M pc : Nat} {c : Code} (hht : HT M c) (h : HpOK M pc none) : ∀ x ∈ c.exceptionTable.toList, covers x pc = false := by
  intro x hx
  have h1 : (x.startPc, x.endPc, x.handlerPc, x.catchType) ∈ hnd M := by
    rw [← hht]; exact List.mem_map_of_mem hx
  have h2 : ¬ (x.startPc ≤ pc ∧ pc < x.endPc) := h _ h1
  simp only [covers, Bool.and_eq_false_iff, decide_eq_false_iff_not]
  omega
theorem si_athrow {M pc pc' : Nat} (hd : decode (mby M) pc = .ok (.athrow, 1)) (hh : HpOK M pc none) : SimI M pc .athrow pc' none := by
  intro E G p l e s m args below meth c hX d h0 out C J k hC hJ hk als ast h hs
  obtain ⟨hx, hb, hml, hown, hts, hlk, hrt, hnm, hE, hht⟩ := hX
  rcases ast with _ | ⟨x | x | x, st⟩ <;> first | exact nomatch (show (none : Option Out) = some out from hs) | skip
  obtain ⟨a, rfl, q2⟩ := nn_of hs
  cases (show some (Sum.inr a, h) = some out from q2)
  intro h1 h2 H locs ls hH hL hl
  exact w_throw hx hb hlk (ht_out hht hh) hd (endQ rfl h1 h2 hH hl)
theorem i32_eq {x : Int32} {v : Int} (h1 : -2147483648 ≤ v) (h2 : v < 2147483648) : x = Int32.ofInt v ↔ x.toInt = v := by
  constructor
  · intro h
    rw [h]
    exact Int32.toInt_ofInt_of_le (by simpa using h1) (by simpa using h2)
  · intro h
    rw [← h, Int32.ofInt_toInt]
theorem swt_in {α : Type} (x : Int32) (d : α) : ∀ (L : List α) (lo : Int), -2147483648 ≤ lo → lo + L.length ≤ 2147483648 → ∀ n : Nat, x.toInt = lo + n → ∀ v, L[n]? = some v → swt x d lo L = v := by
  intro L
  induction L with
  | nil => intro lo _ _ n _ v hv; cases hv
  | cons t L ih =>
    intro lo h1 h2 n hn v hv
    have hx := x.toInt_lt
    simp only [List.length_cons] at h2
    unfold swt
    cases n with
    | zero =>
      rw [if_pos ((i32_eq h1 (by omega)).mpr (by omega))]
      simpa using hv
    | succ n =>
      rw [if_neg (fun q => by have := (i32_eq h1 (by omega)).mp q; omega)]
      exact ih (lo + 1) (by omega) (by omega) n (by omega) v (by simpa using hv)
theorem swt_out {α : Type} (x : Int32) (d : α) : ∀ (L : List α) (lo : Int), -2147483648 ≤ lo → lo + L.length ≤ 2147483648 → (x.toInt < lo ∨ lo + L.length ≤ x.toInt) → swt x d lo L = d := by
  intro L
  induction L with
  | nil => intro lo _ _ _; rfl
  | cons t L ih =>
    intro lo h1 h2 h3
    simp only [List.length_cons] at h2 h3
    unfold swt
    rw [if_neg (fun q => by have := (i32_eq h1 (by omega)).mp q; omega)]
    exact ih (lo + 1) (by omega) (by omega) (by omega)
/-- what a tableswitch's row must say -/
def TsOK (pc : Nat) (dr lo hi : Int) (offr : Array Int) (da : Int) (offa : Array Int) : Bool :=
  decide ((pc : Int) + dr = (da.toNat : Int)) && decide (hi = lo + offr.size - 1) && decide (-2147483648 ≤ lo) && decide (lo + offr.size ≤ 2147483648) && decide (offa.toList = offr.toList.map (fun o => (pc : Int) + o)) && offr.toList.all (fun o => decide (0 ≤ (pc : Int) + o))
theorem si_tableswitch {M pc pc' len : Nat} {dr lo hi da : Int} {offr offa : Array Int} {hp : Option Nat} (hd : decode (mby M) pc = .ok (.tableswitch dr lo hi offr, len)) (hok : TsOK pc dr lo hi offr da offa = true) : SimI M pc (.tableswitch da lo hi offa) pc' hp := by
  intro E G p l e s m args below meth c hX d h0 out C J k hC hJ hk als ast h hs
  obtain ⟨hx, hb, hml, hown, hts, hlk, hrt, hnm, hE, hht⟩ := hX
  rcases ast with _ | ⟨x | x | x, st⟩ <;> first | exact nomatch (show (none : Option Out) = some out from hs) | skip
  simp only [TsOK, Bool.and_eq_true, decide_eq_true_eq, List.all_eq_true] at hok
  obtain ⟨⟨⟨⟨⟨o1, o2⟩, o3⟩, o4⟩, o5⟩, o6⟩ := hok
  have hs : swt x (J da.toNat als st h) lo (offa.toList.map (fun t => J t.toNat als st h)) = some out := hs
  have hlen : (offa.toList.map (fun t => J t.toNat als st h)).length = offr.size := by rw [List.length_map, o5, List.length_map, Array.length_toList]
  intro h1 h2 H locs ls hH hL hl
  by_cases hin : x.toInt < lo ∨ hi < x.toInt
  · rw [swt_out x _ _ lo o3 (by rw [hlen]; exact o4) (by rw [hlen]; omega)] at hs
    exact lv_tableOut hx hb hd hin o1 (hJ _ _ _ _ hs h1 h2 H locs ls hH hL hl)
  · have hn : (x.toInt - lo).toNat < offr.size := by omega
    have e1 : offr[(x.toInt - lo).toNat]? = some offr[(x.toInt - lo).toNat] := Array.getElem?_eq_getElem hn
    have e2 : offa.toList[(x.toInt - lo).toNat]? = some ((pc : Int) + offr[(x.toInt - lo).toNat]) := by
      rw [o5, List.getElem?_map, Array.getElem?_toList, e1]; rfl
    have e3 : 0 ≤ (pc : Int) + offr[(x.toInt - lo).toNat] := o6 _ (by rw [← Array.mem_def]; exact Array.getElem_mem hn)
    rw [swt_in x _ _ lo o3 (by rw [hlen]; exact o4) (x.toInt - lo).toNat (by omega) (J ((pc : Int) + offr[(x.toInt - lo).toNat]).toNat als st h) (by rw [List.getElem?_map, e2]; rfl)] at hs
    exact lv_tableIn hx hb hd (fun q => hin (Or.inl q)) (fun q => hin (Or.inr q)) e1 (by omega) (hJ _ _ _ _ hs h1 h2 H locs ls hH hL hl)
theorem swk_off {α : Type} (x : Int32) (F : Int → α) (pc dr : Int) : ∀ (L : List (Int × Int)), (∀ q ∈ L, -2147483648 ≤ q.1 ∧ q.1 < 2147483648) → swk x (F (pc + dr)) (L.map (fun q => (q.1, F (pc + q.2)))) = F (pc + Op.lookupswitch.offset L dr x.toInt) := by
  intro L
  induction L with
  | nil => intro _; rfl
  | cons q L ih =>
    intro h
    obtain ⟨a, o⟩ := q
    have h1 := h (a, o) List.mem_cons_self
    rw [Op.lookupswitch.offset_cons]
    simp only [List.map_cons, swk]
    by_cases e : a = x.toInt
    · rw [if_pos e, if_pos ((i32_eq h1.1 h1.2).mpr e.symm)]
    · rw [if_neg e, if_neg (fun z => e ((i32_eq h1.1 h1.2).mp z).symm)]
      exact ih (fun q hq => h q (List.mem_cons_of_mem _ hq))
theorem off_mem (L : List (Int × Int)) (dr x : Int) : Op.lookupswitch.offset L dr x = dr ∨ ∃ q ∈ L, Op.lookupswitch.offset L dr x = q.2 := by
  induction L with
  | nil => exact Or.inl rfl
  | cons q L ih =>
    obtain ⟨a, o⟩ := q
    rw [Op.lookupswitch.offset_cons]
    by_cases e : a = x
    · rw [if_pos e]; exact Or.inr ⟨(a, o), List.mem_cons_self, rfl⟩
    · rw [if_neg e]
      rcases ih with h | ⟨q, hq, h⟩
      · exact Or.inl h
      · exact Or.inr ⟨q, List.mem_cons_of_mem _ hq, h⟩
def LsOK (pc : Nat) (dr : Int) (psr : Array (Int × Int)) (da : Int) (psa : Array (Int × Int)) : Bool :=
  decide ((pc : Int) + dr = da) && decide (0 ≤ da) && (psr.toList.zip (psr.toList.drop 1)).all (fun (a, next) => a.1 < next.1) && decide (psa.toList = psr.toList.map (fun q => (q.1, (pc : Int) + q.2))) && psr.toList.all (fun q => decide (0 ≤ (pc : Int) + q.2) && decide (-2147483648 ≤ q.1) && decide (q.1 < 2147483648))
theorem si_lookupswitch {M pc pc' len : Nat} {dr da : Int} {psr psa : Array (Int × Int)} {hp : Option Nat} (hd : decode (mby M) pc = .ok (.lookupswitch dr psr, len)) (hok : LsOK pc dr psr da psa = true) : SimI M pc (.lookupswitch da psa) pc' hp := by
  intro E G p l e s m args below meth c hX d h0 out C J k hC hJ hk als ast h hs
  obtain ⟨hx, hb, hml, hown, hts, hlk, hrt, hnm, hE, hht⟩ := hX
  rcases ast with _ | ⟨x | x | x, st⟩ <;> first | exact nomatch (show (none : Option Out) = some out from hs) | skip
  unfold LsOK at hok
  rw [Bool.and_eq_true, Bool.and_eq_true, Bool.and_eq_true, Bool.and_eq_true] at hok
  obtain ⟨⟨⟨⟨o1, o2⟩, o3⟩, o4⟩, o5⟩ := hok
  have o1 : (pc : Int) + dr = da := of_decide_eq_true o1
  have o2 : 0 ≤ da := of_decide_eq_true o2
  have o4 := of_decide_eq_true o4
  have o5 : ∀ q ∈ psr.toList, 0 ≤ (pc : Int) + q.2 ∧ -2147483648 ≤ q.1 ∧ q.1 < 2147483648 := fun q hq => by
    have := List.all_eq_true.mp o5 q hq
    simp only [Bool.and_eq_true, decide_eq_true_eq] at this
    exact ⟨this.1.1, this.1.2, this.2⟩
  have hs : swk x (J da.toNat als st h) (psa.toList.map (fun q => (q.1, J q.2.toNat als st h))) = some out := hs
  rw [o4, List.map_map, ← o1] at hs
  have e := swk_off x (fun t => J t.toNat als st h) (pc : Int) dr psr.toList (fun q hq => (o5 q hq).2)
  have hs : swk x ((fun t : Int => J t.toNat als st h) ((pc : Int) + dr)) (psr.toList.map (fun q => (q.1, (fun t : Int => J t.toNat als st h) ((pc : Int) + q.2)))) = some out := hs
  rw [e] at hs
  intro h1 h2 H locs ls hH hL hl
  have hz : 0 ≤ (pc : Int) + Op.lookupswitch.offset psr.toList dr x.toInt := by
    rcases off_mem psr.toList dr x.toInt with q | ⟨q, hq, q2⟩
    · rw [q]; omega
    · rw [q2]; exact (o5 q hq).1
  exact lv_lookup hx hb hd o3 rfl (Int.toNat_of_nonneg hz).symm (hJ _ _ _ _ hs h1 h2 H locs ls hH hL hl)
