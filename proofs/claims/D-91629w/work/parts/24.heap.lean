/-! fields: what the tables say of them; heaps behind a store, behind a new cell -/
set_option maxRecDepth 100000
/-- field, kind, place of the layout word -/
def layT : List (Nat × Nat × Nat) := [(0, 1, 297), (1, 1, 299), (2, 1, 301), (3, 1, 303), (4, 1, 305), (5, 1, 307), (6, 1, 309), (7, 1, 311), (8, 1, 313), (9, 1, 315), (10, 1, 317), (11, 1, 319), (12, 1, 321), (13, 1, 323), (14, 1, 325), (15, 1, 327), (16, 1, 329), (17, 1, 331), (18, 1, 333), (19, 1, 335), (20, 1, 337), (21, 1, 339), (22, 1, 341), (23, 1, 343), (24, 1, 345), (25, 1, 347), (26, 1, 349), (27, 1, 351), (28, 1, 353), (29, 1, 355), (30, 1, 357), (31, 1, 359), (32, 1, 361), (33, 1, 363), (34, 2, 214), (35, 2, 216), (36, 2, 218), (37, 2, 220), (38, 2, 222), (39, 2, 224), (40, 2, 226), (41, 2, 228), (42, 2, 230), (43, 3, 186), (44, 3, 182), (45, 3, 184), (46, 4, 256), (47, 4, 258), (48, 5, 420), (48, 12, 1156), (49, 5, 422), (49, 12, 1157), (50, 5, 424), (50, 12, 1158), (51, 5, 426), (51, 12, 1159), (52, 5, 428), (52, 12, 1160), (53, 5, 430), (53, 12, 1161), (54, 5, 432), (54, 12, 1162), (55, 5, 416), (56, 5, 418), (57, 6, 476), (58, 6, 478), (59, 6, 480), (60, 6, 482), (61, 7, 634), (62, 7, 636), (63, 7, 638), (64, 7, 640), (65, 8, 822), (66, 8, 824), (67, 8, 826), (68, 8, 828), (69, 8, 830), (70, 8, 876), (71, 8, 868), (72, 8, 870), (73, 9, 972), (73, 10, 991), (74, 9, 974), (74, 10, 992), (75, 9, 976), (75, 10, 993), (76, 9, 978), (76, 10, 994), (77, 9, 980), (77, 10, 995), (78, 9, 982), (78, 10, 996), (79, 11, 1076), (80, 11, 1078), (81, 11, 1080), (82, 12, 1146), (83, 12, 1148), (84, 12, 1150), (85, 12, 1152), (86, 12, 1154), (87, 13, 1218), (88, 14, 1249), (89, 15, 1259), (90, 16, 1273), (91, 16, 1275), (92, 17, 1299), (93, 18, 1311), (94, 18, 1313), (95, 18, 1315), (96, 19, 1337), (97, 19, 1339), (98, 20, 1488), (98, 21, 1515), (98, 22, 1533), (99, 20, 1490), (99, 21, 1516), (99, 22, 1534), (100, 20, 1492), (100, 21, 1517), (100, 22, 1535), (101, 20, 1486), (102, 21, 1513), (103, 22, 1531), (104, 23, 1840), (105, 23, 1842), (106, 23, 1844), (107, 23, 1846), (108, 23, 1848), (109, 23, 1850), (110, 23, 1852), (111, 23, 1854), (112, 23, 1856), (113, 23, 1858), (114, 23, 1860), (115, 23, 1862), (116, 23, 1864), (117, 23, 1866), (118, 23, 1868), (119, 23, 1870), (120, 23, 1872), (121, 23, 1874), (122, 23, 1876), (123, 23, 1878), (124, 23, 1880), (125, 23, 1882), (126, 23, 1884), (127, 23, 1886), (128, 23, 1888), (129, 23, 1890), (130, 23, 1892), (131, 23, 1894), (132, 23, 1896), (133, 23, 1898), (134, 23, 1900), (135, 23, 1902), (136, 23, 1904), (137, 23, 1906), (138, 23, 1908), (139, 23, 1910), (140, 23, 1912), (141, 23, 1914), (142, 23, 1916), (143, 23, 1918), (144, 23, 1920), (145, 23, 1922), (146, 23, 1924), (147, 23, 1926), (148, 23, 1928), (149, 23, 1930), (150, 23, 1932), (151, 23, 1934), (152, 23, 1936), (153, 23, 1938), (154, 23, 1940), (155, 23, 1942), (156, 23, 1944), (157, 23, 1946), (158, 23, 1948), (159, 23, 1950), (160, 23, 1952), (161, 23, 1954), (162, 23, 1956), (163, 23, 1958), (164, 23, 1960), (165, 23, 1962), (166, 23, 1964), (167, 23, 1966), (168, 23, 1968), (169, 23, 1970), (170, 23, 1972), (171, 23, 1974), (172, 23, 1976), (173, 23, 1978), (174, 23, 1980), (175, 23, 1982), (176, 23, 1984), (177, 23, 1986), (178, 23, 1988), (179, 23, 1990), (180, 23, 1992), (181, 23, 1994), (182, 23, 1996), (183, 23, 1998), (184, 23, 2000), (185, 23, 2002), (186, 23, 2004), (187, 23, 2006), (188, 23, 2008), (189, 23, 2010), (190, 23, 2012), (191, 23, 2014), (192, 23, 2016), (193, 23, 2018), (194, 23, 2020), (195, 23, 2022), (196, 23, 2024), (197, 23, 2026)]
def lword (f k : Nat) : Jvm.Cond := if ffin f = true then .laysFinal (knm k) (ftab f).1 (ftab f).2.1 (ftab f).2.2 else .lays (knm k) (ftab f).1 (ftab f).2.1 (ftab f).2.2
set_option maxHeartbeats 4000000 in
theorem lay_chk : layT.all (fun q => decide (lw_tbl[q.2.2]? = some (lword q.1 q.2.1)) && goodWord (lword q.1 q.2.1)) = true := by decide +kernel
set_option maxHeartbeats 4000000 in
theorem lay_all : (List.range 198).all (fun f => (fk f).all (fun k => (layT.any (fun q => q.1 == f && q.2.1 == k)) && decide (1 ≤ k) && decide (k < 24))) = true := by decide +kernel
theorem anyK_mem {l : List Nat} {k : Nat} (h : anyK l k = true) : k ∈ l := by
  induction l with
  | nil => cases h
  | cons x l ih =>
    cases l with
    | nil =>
      have : k = x := by simpa [anyK] using h
      rw [this]; exact List.mem_cons_self
    | cons y l =>
      rcases (Bool.or_eq_true _ _).mp h with h | h
      · have : k = x := by simpa using h
        rw [this]; exact List.mem_cons_self
      · exact List.mem_cons_of_mem _ (ih h)
theorem mem_anyK {l : List Nat} {k : Nat} (h : k ∈ l) : anyK l k = true := by
  induction l with
  | nil => cases h
  | cons x l ih =>
    cases l with
    | nil =>
      rcases List.mem_cons.mp h with rfl | h
      · simp [anyK]
      · cases h
    | cons y l =>
      refine (Bool.or_eq_true _ _).mpr ?_
      rcases List.mem_cons.mp h with rfl | h
      · exact Or.inl (by simp)
      · exact Or.inr (ih h)
theorem lnth_big {α : Type} (d : α) (l : List α) (n : Nat) (h : l.length ≤ n) : lnth d l n = d := by
  induction l generalizing n with
  | nil => rfl
  | cons x l ih =>
    cases n with
    | zero => simp at h
    | succ n => exact ih n (by simpa using h)
theorem fk_lt {f k : Nat} (h : anyK (fk f) k = true) : f < 198 := by
  rcases Nat.lt_or_ge f 198 with q | q
  · exact q
  · have e : fk f = [] := lnth_big _ _ _ (Nat.le_trans (by decide +kernel) q)
    rw [e] at h; cases h
theorem lay_in {f k : Nat} (h : anyK (fk f) k = true) : lword f k ∈ lw_all ∧ 1 ≤ k ∧ k < 24 := by
  have h1 := List.all_eq_true.mp lay_all f (List.mem_range.mpr (fk_lt h))
  have h2 := List.all_eq_true.mp h1 k (anyK_mem h)
  simp only [Bool.and_eq_true, decide_eq_true_eq, List.any_eq_true, beq_iff_eq] at h2
  obtain ⟨⟨⟨q, hq, e1, e2⟩, h3⟩, h4⟩ := h2
  have h5 := List.all_eq_true.mp lay_chk q hq
  simp only [Bool.and_eq_true, decide_eq_true_eq] at h5
  rw [e1, e2] at h5
  exact ⟨lw_w _ h5.1 h5.2, h3, h4⟩
def ftypOK (f : Nat) (ty : FieldType) : Bool := match fty f, fnr f, ty with
  | 0, 0, .int => true
  | 0, 1, .boolean => true
  | 0, 2, .byte => true
  | 1, _, .long => true
  | 2, _, .object _ => true
  | 2, _, .array _ => true
  | _, _, _ => false
theorem fty_chk : (List.range 198).all (fun f => match parseFieldDescriptor (ftab f).2.2 with
    | some ty => ftypOK f ty
    | none => false) = true := by decide +kernel
theorem ftyp_of {f : Nat} (h : f < 198) : ∃ ty, parseFieldDescriptor (ftab f).2.2 = some ty ∧ ftypOK f ty = true := by
  have h1 := List.all_eq_true.mp fty_chk f (List.mem_range.mpr h)
  cases hp : parseFieldDescriptor (ftab f).2.2 with
  | none => simp [hp] at h1
  | some ty => rw [hp] at h1; exact ⟨ty, rfl, h1⟩
/-- all that the tables say of a field of a kind -/
theorem field_at {E : EV} {G : GV} {s : State} {args : Array Value} (hE : EnvF E G s) (hts : ∀ w ∈ lw_all, w.before args s = true) {f k : Nat} (h : anyK (fk f) k = true) :
    ∃ (cf : ClassId) (kf : Class) (fi : Nat) (fd : Field) (kC : Class) (ty : FieldType), s.fieldFound? (ftab f).1 (ftab f).2.1 (ftab f).2.2 = some (cf, kf, fi, fd) ∧ fd.slot = G.2.1 f ∧ fd.isStatic = false ∧ s.vm.findClass (knm k) = some (G.1 k) ∧ s.vm.classes[G.1 k]? = some kC ∧ kC.kind = .ordinary ∧ kC.instanceTypes[fd.slot]? = some ty ∧ fd.type = ty ∧ ftypOK f ty = true ∧ s.vm.findClass (ftab f).1 = some cf ∧ (ffin f = false → hasFlag fd.accessFlags Acc.final = false) := by
  obtain ⟨hw, hk1, hk2⟩ := lay_in h
  obtain ⟨cf, kf, fi, fd, hi, hsl⟩ := hE.2.2.1 f (fk_lt h)
  obtain ⟨hfc, kC, hkC, hkind⟩ := hE.2.1 k hk1 hk2
  obtain ⟨ty, hty, hok⟩ := ftyp_of (fk_lt h)
  have hft : fd.type = ty := (State.fieldFound?_type hi hty).2
  have hwb := hts _ hw
  refine ⟨cf, kf, fi, fd, kC, ty, hi, hsl, ?_⟩
  unfold lword at hwb
  split at hwb
  · rename_i hfin
    obtain ⟨c, k', c', k2, i2, f2, r1, r2, r3, r4, r5, r6, r7, r8, -⟩ := Cond.laysFinal_spec hwb
    cases hi.symm.trans r3
    cases hfc.symm.trans r1
    cases hkC.symm.trans r2
    exact ⟨r4, hfc, hkC, hkind, by rw [← hft]; exact r8, hft, hok, r7, fun q => by rw [hfin] at q; cases q⟩
  · obtain ⟨c, k', c', k2, i2, f2, r1, r2, r3, r4, r5, r6, r8, -⟩ := Cond.lays_spec hwb
    cases hi.symm.trans r3
    cases hfc.symm.trans r1
    cases hkC.symm.trans r2
    exact ⟨r4, hfc, hkC, hkind, by rw [← hft]; exact r8, hft, hok, Cond.lays_declared hwb hi, fun _ => r5⟩
theorem HR.lt {E : EV} {G : GV} {h : AH} {H : Heap} (hH : HR E G h H) {a : Nat} (ha : h.kd a ≠ 0) : a < h.nx := by
  obtain ⟨cell, hc, -⟩ := hH.2.2.1 a ha
  rw [← hH.1]
  exact (Array.getElem?_eq_some_iff.mp hc).1
/-- a store into an object -/
theorem HR.putO {E : EV} {G : GV} {h h' : AH} {H H' : Heap} (hH : HR E G h H) {a f : Nat} {cell : Cell} {v : Value} (hcell : H[a]? = some cell) (ha : E.bs ≤ a) (hk : anyK (fk f) (h.kd a) = true) (hlt : h.kd a < 101) (hap : ∀ f', anyK (fk f') (h.kd a) = true → f' ≠ f → G.2.1 f' ≠ G.2.1 f)
    (e1 : H'[a]? = some (cell.setSlot (G.2.1 f) v)) (e2 : H'.size = H.size) (e3 : ∀ q, q ≠ a → H'[q]? = H[q]?) (k1 : h'.kd = h.kd) (k2 : h'.ln = h.ln) (k3 : h'.nx = h.nx) (k4 : h'.us = h.us)
    (o1 : ∀ b, b ≠ a → ∀ g, fval h' b g = fval h b g) (o2 : ∀ b, b ≠ a → ∀ i, aval h' b i = aval h b i) (o3 : fval h' a f = v) (o4 : ∀ g, g ≠ f → fval h' a g = fval h a g) : HR E G h' H' := by
  refine ⟨by rw [e2, k3]; exact hH.1, fun b hb => ?_, fun b hb => ?_, fun b hb => by rw [k1] at hb ⊢; exact hH.2.2.2.1 b hb, by rw [k3]; exact hH.2.2.2.2.1, by rw [k4]; exact hH.2.2.2.2.2⟩
  · rw [e3 b (by omega)]; exact hH.2.1 b hb
  · rw [k1] at hb
    obtain ⟨cb, c1, c2, c3, c4, c5⟩ := hH.2.2.1 b hb
    by_cases hba : b = a
    · subst hba
      cases hcell.symm.trans c1
      refine ⟨_, e1, by rw [k1]; exact c2, c3, fun q g hg => ?_, fun q => ?_⟩
      · rw [k1] at hg
        by_cases hgf : g = f
        · subst hgf
          rw [o3]
          refine Cell.slots_setSlot_self _ ?_
          exact (Array.getElem?_eq_some_iff.mp (c4 hlt g hk)).1
        · rw [o4 g hgf, slot_ne _ _ (fun q => hap g hg hgf q.symm)]
          exact c4 hlt g hg
      · rw [k1] at q; exact absurd q (by omega)
    · refine ⟨cb, by rw [e3 b hba]; exact c1, by rw [k1]; exact c2, c3, fun q g hg => ?_, fun q => ?_⟩
      · rw [k1] at q hg; rw [o1 b hba]; exact c4 q g hg
      · rw [k1] at q; rw [k2]
        exact ⟨(c5 q).1, fun i hi => by rw [o2 b hba]; exact (c5 q).2 i hi⟩
/-- a store into an array -/
theorem HR.putA {E : EV} {G : GV} {h h' : AH} {H H' : Heap} (hH : HR E G h H) {a i : Nat} {cell : Cell} {v : Value} (hcell : H[a]? = some cell) (ha : E.bs ≤ a) (hlt : 101 ≤ h.kd a) (hi : i < h.ln a)
    (e1 : H'[a]? = some (cell.setSlot i v)) (e2 : H'.size = H.size) (e3 : ∀ q, q ≠ a → H'[q]? = H[q]?) (k1 : h'.kd = h.kd) (k2 : h'.ln = h.ln) (k3 : h'.nx = h.nx) (k4 : h'.us = h.us)
    (o1 : ∀ b, b ≠ a → ∀ g, fval h' b g = fval h b g) (o2 : ∀ b, b ≠ a → ∀ i, aval h' b i = aval h b i) (o3 : aval h' a i = v) (o4 : ∀ j, j ≠ i → aval h' a j = aval h a j) : HR E G h' H' := by
  refine ⟨by rw [e2, k3]; exact hH.1, fun b hb => ?_, fun b hb => ?_, fun b hb => by rw [k1] at hb ⊢; exact hH.2.2.2.1 b hb, by rw [k3]; exact hH.2.2.2.2.1, by rw [k4]; exact hH.2.2.2.2.2⟩
  · rw [e3 b (by omega)]; exact hH.2.1 b hb
  · rw [k1] at hb
    obtain ⟨cb, c1, c2, c3, c4, c5⟩ := hH.2.2.1 b hb
    by_cases hba : b = a
    · subst hba
      cases hcell.symm.trans c1
      refine ⟨_, e1, by rw [k1]; exact c2, c3, fun q => ?_, fun q => ?_⟩
      · rw [k1] at q; exact absurd q (by omega)
      · rw [k2]
        have hsz : (cell.setSlot i v).slots.size = cell.slots.size := by simp [Cell.setSlot]
        refine ⟨hsz.trans (c5 hlt).1, fun j hj => ?_⟩
        by_cases hji : j = i
        · subst hji; rw [o3]
          exact Cell.slots_setSlot_self _ (by rw [(c5 hlt).1]; exact hi)
        · rw [o4 j hji, slot_ne _ _ (fun q => hji q.symm)]
          exact (c5 hlt).2 j hj
    · refine ⟨cb, by rw [e3 b hba]; exact c1, by rw [k1]; exact c2, c3, fun q g hg => ?_, fun q => ?_⟩
      · rw [k1] at q hg; rw [o1 b hba]; exact c4 q g hg
      · rw [k1] at q; rw [k2]
        exact ⟨(c5 q).1, fun i hi => by rw [o2 b hba]; exact (c5 q).2 i hi⟩
theorem up2_ne {α : Type} {f : Nat → Nat → α} {a j : Nat} {v : α} {x y : Nat} (h : ¬ (x = a ∧ y = j)) : up2 f a j v x y = f x y := if_neg h
theorem up2_self {α : Type} {f : Nat → Nat → α} {a j : Nat} {v : α} : up2 f a j v a j = v := if_pos ⟨rfl, rfl⟩
theorem up1_ne {α : Type} {f : Nat → α} {a : Nat} {v : α} {x : Nat} (h : x ≠ a) : up1 f a v x = f x := if_neg h
theorem up1_self {α : Type} {f : Nat → α} {a : Nat} {v : α} : up1 f a v a = v := if_pos rfl
theorem fval_setI {h : AH} {a j : Nat} {v : Int32} {b f : Nat} (q : ¬ (b = a ∧ f = j)) : fval (h.setI a j v) b f = fval h b f := by
  simp only [fval, AH.setI, AH.I, AH.L, AH.R, up2_ne q]
theorem fval_setL {h : AH} {a j : Nat} {v : Int64} {b f : Nat} (q : ¬ (b = a ∧ f = j)) : fval (h.setL a j v) b f = fval h b f := by
  simp only [fval, AH.setL, AH.I, AH.L, AH.R, up2_ne q]
theorem fval_setR {h : AH} {a j : Nat} {v : Option Nat} {b f : Nat} (q : ¬ (b = a ∧ f = j)) : fval (h.setR a j v) b f = fval h b f := by
  simp only [fval, AH.setR, AH.I, AH.L, AH.R, up2_ne q]
theorem aval_setI {h : AH} {a j : Nat} {v : Int32} {b i : Nat} (q : ¬ (b = a ∧ i = j)) : aval (h.setI a j v) b i = aval h b i := by
  simp only [aval, AH.setI, AH.I, AH.L, AH.R, AH.kd, up2_ne q]
  rfl
theorem aval_setL {h : AH} {a j : Nat} {v : Int64} {b i : Nat} (q : ¬ (b = a ∧ i = j)) : aval (h.setL a j v) b i = aval h b i := by
  simp only [aval, AH.setL, AH.I, AH.L, AH.R, AH.kd, up2_ne q]
  rfl
theorem aval_setR {h : AH} {a j : Nat} {v : Option Nat} {b i : Nat} (q : ¬ (b = a ∧ i = j)) : aval (h.setR a j v) b i = aval h b i := by
  simp only [aval, AH.setR, AH.I, AH.L, AH.R, AH.kd, up2_ne q]
  rfl
/-- a new cell -/
theorem HR.new {E : EV} {G : GV} {h : AH} {H : Heap} (hH : HR E G h H) (hbs : E.bs ≤ h.nx) {k n s0 : Nat} (hr1 : h.nx + 1 ≤ E.lc) (hr2 : h.us + s0 ≤ E.lu) {cell : Cell} (hk : KOK k) (c2 : cell.cls = G.1 k) (c3 : cell.vm = .none)
    (c4 : k < 101 → ∀ f, anyK (fk f) k = true → cell.slots[G.2.1 f]? = some (match fty f with
      | 0 => .int 0
      | 1 => .long 0
      | _ => .null))
    (c5 : 101 ≤ k → cell.slots.size = n ∧ ∀ i, i < n → cell.slots[i]? = some (if k = 104 then .long 0 else if k < 105 then .int 0 else .null)) : HR E G (h.mk k n s0) (H.push cell) := by
  have hkd : ∀ b, b ≠ h.nx → (h.mk k n s0).kd b = h.kd b := fun b hb => up1_ne hb
  have hln : ∀ b, b ≠ h.nx → (h.mk k n s0).ln b = h.ln b := fun b hb => up1_ne hb
  have hI : ∀ b, b ≠ h.nx → (h.mk k n s0).I b = h.I b := fun b hb => up1_ne hb
  have hL : ∀ b, b ≠ h.nx → (h.mk k n s0).L b = h.L b := fun b hb => up1_ne hb
  have hR : ∀ b, b ≠ h.nx → (h.mk k n s0).R b = h.R b := fun b hb => up1_ne hb
  have kd0 : (h.mk k n s0).kd h.nx = k := up1_self
  have ln0 : (h.mk k n s0).ln h.nx = n := up1_self
  have I0 : (h.mk k n s0).I h.nx = fun _ => 0 := up1_self
  have L0 : (h.mk k n s0).L h.nx = fun _ => 0 := up1_self
  have R0 : (h.mk k n s0).R h.nx = fun _ => none := up1_self
  refine ⟨by rw [Array.size_push, hH.1]; rfl, fun b hb => ?_, fun b hb => ?_, fun b hb => ?_, hr1, hr2⟩
  · rw [Array.getElem?_push_lt (by rw [hH.1]; omega), ← Array.getElem?_eq_getElem]
    exact hH.2.1 b hb
  · by_cases hbn : b = h.nx
    · subst hbn
      refine ⟨cell, by rw [← hH.1, Array.getElem?_push_size], by rw [kd0]; exact c2, c3, fun q f hf => ?_, fun q => ?_⟩
      · rw [kd0] at q hf
        rw [c4 q f hf]
        simp only [fval, I0, L0, R0]
        generalize fty f = t
        match t with
        | 0 => rfl
        | 1 => rfl
        | t + 2 => rfl
      · rw [kd0] at q
        rw [ln0]
        refine ⟨(c5 q).1, fun i hi => ?_⟩
        rw [(c5 q).2 i hi]
        simp only [aval, kd0, I0, L0, R0]
        split
        · rfl
        · split <;> rfl
    · rw [hkd b hbn] at hb
      obtain ⟨cb, d1, d2, d3, d4, d5⟩ := hH.2.2.1 b hb
      have hblt : b < H.size := (Array.getElem?_eq_some_iff.mp d1).1
      refine ⟨cb, by rw [Array.getElem?_push_lt hblt, ← Array.getElem?_eq_getElem]; exact d1, by rw [hkd b hbn]; exact d2, d3, fun q f hf => ?_, fun q => ?_⟩
      · rw [hkd b hbn] at q hf
        rw [d4 q f hf]
        simp only [fval, hI b hbn, hL b hbn, hR b hbn]
      · rw [hkd b hbn] at q
        rw [hln b hbn]
        refine ⟨(d5 q).1, fun i hi => ?_⟩
        rw [(d5 q).2 i hi]
        simp only [aval, hkd b hbn, hI b hbn, hL b hbn, hR b hbn]
  · by_cases hbn : b = h.nx
    · rw [hbn, kd0]; exact hk
    · rw [hkd b hbn] at hb ⊢; exact hH.2.2.2.1 b hb
