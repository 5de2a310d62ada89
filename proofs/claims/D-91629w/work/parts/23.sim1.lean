/-! one instruction after the other: those that touch no heap -/
set_option maxRecDepth 100000
theorem gd_some {α : Type} {b : Bool} {x : Option α} {r : α} (h : gd b x = some r) : b = true ∧ x = some r := by
  cases b with
  | true => exact ⟨rfl, h⟩
  | false => cases h
theorem nn_some {α : Type} {o : Option Nat} {k : Nat → Option α} {r : α} (h : nn o k = some r) : ∃ a, o = some a ∧ k a = some r := by
  cases o with
  | none => cases h
  | some a => exact ⟨a, rfl, h⟩
theorem si_iadd {M pc : Nat} {hp : Option Nat} (hd : decode (mby M) pc = .ok (.iadd, 1)) : SimI M pc .iadd (pc + 1) hp := by
  intro E G p l e s m args below meth c hX d h0 out C J k hC hJ hk als ast h hs
  obtain ⟨hx, hb, hml, hown, hts, -, -, -, hE, -⟩ := hX
  rcases ast with _ | ⟨y | y | y, _ | ⟨x | x | x, st⟩⟩ <;> first | exact nomatch (show (none : Option Out) = some out from hs) | (intro h1 h2 H locs ls hH hL hl; exact lv_iadd hx hb hd (hk _ _ _ hs h1 h2 H locs ls hH hL hl))
theorem si_isub {M pc : Nat} {hp : Option Nat} (hd : decode (mby M) pc = .ok (.isub, 1)) : SimI M pc .isub (pc + 1) hp := by
  intro E G p l e s m args below meth c hX d h0 out C J k hC hJ hk als ast h hs
  obtain ⟨hx, hb, hml, hown, hts, -, -, -, hE, -⟩ := hX
  rcases ast with _ | ⟨y | y | y, _ | ⟨x | x | x, st⟩⟩ <;> first | exact nomatch (show (none : Option Out) = some out from hs) | (intro h1 h2 H locs ls hH hL hl; exact lv_isub hx hb hd (hk _ _ _ hs h1 h2 H locs ls hH hL hl))
theorem si_imul {M pc : Nat} {hp : Option Nat} (hd : decode (mby M) pc = .ok (.imul, 1)) : SimI M pc .imul (pc + 1) hp := by
  intro E G p l e s m args below meth c hX d h0 out C J k hC hJ hk als ast h hs
  obtain ⟨hx, hb, hml, hown, hts, -, -, -, hE, -⟩ := hX
  rcases ast with _ | ⟨y | y | y, _ | ⟨x | x | x, st⟩⟩ <;> first | exact nomatch (show (none : Option Out) = some out from hs) | (intro h1 h2 H locs ls hH hL hl; exact lv_imul hx hb hd (hk _ _ _ hs h1 h2 H locs ls hH hL hl))
theorem si_iand {M pc : Nat} {hp : Option Nat} (hd : decode (mby M) pc = .ok (.iand, 1)) : SimI M pc .iand (pc + 1) hp := by
  intro E G p l e s m args below meth c hX d h0 out C J k hC hJ hk als ast h hs
  obtain ⟨hx, hb, hml, hown, hts, -, -, -, hE, -⟩ := hX
  rcases ast with _ | ⟨y | y | y, _ | ⟨x | x | x, st⟩⟩ <;> first | exact nomatch (show (none : Option Out) = some out from hs) | (intro h1 h2 H locs ls hH hL hl; exact lv_iand hx hb hd (hk _ _ _ hs h1 h2 H locs ls hH hL hl))
theorem si_ior {M pc : Nat} {hp : Option Nat} (hd : decode (mby M) pc = .ok (.ior, 1)) : SimI M pc .ior (pc + 1) hp := by
  intro E G p l e s m args below meth c hX d h0 out C J k hC hJ hk als ast h hs
  obtain ⟨hx, hb, hml, hown, hts, -, -, -, hE, -⟩ := hX
  rcases ast with _ | ⟨y | y | y, _ | ⟨x | x | x, st⟩⟩ <;> first | exact nomatch (show (none : Option Out) = some out from hs) | (intro h1 h2 H locs ls hH hL hl; exact lv_ior hx hb hd (hk _ _ _ hs h1 h2 H locs ls hH hL hl))
theorem si_ixor {M pc : Nat} {hp : Option Nat} (hd : decode (mby M) pc = .ok (.ixor, 1)) : SimI M pc .ixor (pc + 1) hp := by
  intro E G p l e s m args below meth c hX d h0 out C J k hC hJ hk als ast h hs
  obtain ⟨hx, hb, hml, hown, hts, -, -, -, hE, -⟩ := hX
  rcases ast with _ | ⟨y | y | y, _ | ⟨x | x | x, st⟩⟩ <;> first | exact nomatch (show (none : Option Out) = some out from hs) | (intro h1 h2 H locs ls hH hL hl; exact lv_ixor hx hb hd (hk _ _ _ hs h1 h2 H locs ls hH hL hl))
theorem si_ishl {M pc : Nat} {hp : Option Nat} (hd : decode (mby M) pc = .ok (.ishl, 1)) : SimI M pc .ishl (pc + 1) hp := by
  intro E G p l e s m args below meth c hX d h0 out C J k hC hJ hk als ast h hs
  obtain ⟨hx, hb, hml, hown, hts, -, -, -, hE, -⟩ := hX
  rcases ast with _ | ⟨y | y | y, _ | ⟨x | x | x, st⟩⟩ <;> first | exact nomatch (show (none : Option Out) = some out from hs) | (intro h1 h2 H locs ls hH hL hl; exact lv_ishl hx hb hd (hk _ _ _ hs h1 h2 H locs ls hH hL hl))
theorem si_ishr {M pc : Nat} {hp : Option Nat} (hd : decode (mby M) pc = .ok (.ishr, 1)) : SimI M pc .ishr (pc + 1) hp := by
  intro E G p l e s m args below meth c hX d h0 out C J k hC hJ hk als ast h hs
  obtain ⟨hx, hb, hml, hown, hts, -, -, -, hE, -⟩ := hX
  rcases ast with _ | ⟨y | y | y, _ | ⟨x | x | x, st⟩⟩ <;> first | exact nomatch (show (none : Option Out) = some out from hs) | (intro h1 h2 H locs ls hH hL hl; exact lv_ishr hx hb hd (hk _ _ _ hs h1 h2 H locs ls hH hL hl))
theorem si_ladd {M pc : Nat} {hp : Option Nat} (hd : decode (mby M) pc = .ok (.ladd, 1)) : SimI M pc .ladd (pc + 1) hp := by
  intro E G p l e s m args below meth c hX d h0 out C J k hC hJ hk als ast h hs
  obtain ⟨hx, hb, hml, hown, hts, -, -, -, hE, -⟩ := hX
  rcases ast with _ | ⟨y | y | y, _ | ⟨x | x | x, st⟩⟩ <;> first | exact nomatch (show (none : Option Out) = some out from hs) | (intro h1 h2 H locs ls hH hL hl; exact lv_ladd hx hb hd (hk _ _ _ hs h1 h2 H locs ls hH hL hl))
theorem si_lmul {M pc : Nat} {hp : Option Nat} (hd : decode (mby M) pc = .ok (.lmul, 1)) : SimI M pc .lmul (pc + 1) hp := by
  intro E G p l e s m args below meth c hX d h0 out C J k hC hJ hk als ast h hs
  obtain ⟨hx, hb, hml, hown, hts, -, -, -, hE, -⟩ := hX
  rcases ast with _ | ⟨y | y | y, _ | ⟨x | x | x, st⟩⟩ <;> first | exact nomatch (show (none : Option Out) = some out from hs) | (intro h1 h2 H locs ls hH hL hl; exact lv_lmul hx hb hd (hk _ _ _ hs h1 h2 H locs ls hH hL hl))
theorem si_lor {M pc : Nat} {hp : Option Nat} (hd : decode (mby M) pc = .ok (.lor, 1)) : SimI M pc .lor (pc + 1) hp := by
  intro E G p l e s m args below meth c hX d h0 out C J k hC hJ hk als ast h hs
  obtain ⟨hx, hb, hml, hown, hts, -, -, -, hE, -⟩ := hX
  rcases ast with _ | ⟨y | y | y, _ | ⟨x | x | x, st⟩⟩ <;> first | exact nomatch (show (none : Option Out) = some out from hs) | (intro h1 h2 H locs ls hH hL hl; exact lv_lor hx hb hd (hk _ _ _ hs h1 h2 H locs ls hH hL hl))
theorem si_iushr {M pc : Nat} {hp : Option Nat} (hd : decode (mby M) pc = .ok (.iushr, 1)) : SimI M pc .iushr (pc + 1) hp := by
  intro E G p l e s m args below meth c hX d h0 out C J k hC hJ hk als ast h hs
  obtain ⟨hx, hb, hml, hown, hts, -, -, -, hE, -⟩ := hX
  rcases ast with _ | ⟨y | y | y, _ | ⟨x | x | x, st⟩⟩ <;> first | exact nomatch (show (none : Option Out) = some out from hs) | (intro h1 h2 H locs ls hH hL hl; exact lv_iushr hx hb hd rfl (hk _ _ _ hs h1 h2 H locs ls hH hL hl))
theorem si_lshl {M pc : Nat} {hp : Option Nat} (hd : decode (mby M) pc = .ok (.lshl, 1)) : SimI M pc .lshl (pc + 1) hp := by
  intro E G p l e s m args below meth c hX d h0 out C J k hC hJ hk als ast h hs
  obtain ⟨hx, hb, hml, hown, hts, -, -, -, hE, -⟩ := hX
  rcases ast with _ | ⟨y | y | y, _ | ⟨x | x | x, st⟩⟩ <;> first | exact nomatch (show (none : Option Out) = some out from hs) | (intro h1 h2 H locs ls hH hL hl; exact lv_lshl hx hb hd rfl (hk _ _ _ hs h1 h2 H locs ls hH hL hl))
theorem si_lcmp {M pc : Nat} {hp : Option Nat} (hd : decode (mby M) pc = .ok (.lcmp, 1)) : SimI M pc .lcmp (pc + 1) hp := by
  intro E G p l e s m args below meth c hX d h0 out C J k hC hJ hk als ast h hs
  obtain ⟨hx, hb, hml, hown, hts, -, -, -, hE, -⟩ := hX
  rcases ast with _ | ⟨y | y | y, _ | ⟨x | x | x, st⟩⟩ <;> first | exact nomatch (show (none : Option Out) = some out from hs) | (intro h1 h2 H locs ls hH hL hl; exact W.lcmp hx hb hd (hk _ _ _ hs h1 h2 H locs ls hH hL hl))
theorem si_idiv {M pc : Nat} {hp : Option Nat} (hd : decode (mby M) pc = .ok (.idiv, 1)) : SimI M pc .idiv (pc + 1) hp := by
  intro E G p l e s m args below meth c hX d h0 out C J k hC hJ hk als ast h hs
  obtain ⟨hx, hb, hml, hown, hts, -, -, -, hE, -⟩ := hX
  rcases ast with _ | ⟨y | y | y, _ | ⟨x | x | x, st⟩⟩ <;> first | exact nomatch (show (none : Option Out) = some out from hs) | (intro h1 h2 H locs ls hH hL hl; obtain ⟨q1, q2⟩ := gd_some hs; exact lv_idiv hx hb hd (by simpa using q1) (hk _ _ _ q2 h1 h2 H locs ls hH hL hl))
theorem si_irem {M pc : Nat} {hp : Option Nat} (hd : decode (mby M) pc = .ok (.irem, 1)) : SimI M pc .irem (pc + 1) hp := by
  intro E G p l e s m args below meth c hX d h0 out C J k hC hJ hk als ast h hs
  obtain ⟨hx, hb, hml, hown, hts, -, -, -, hE, -⟩ := hX
  rcases ast with _ | ⟨y | y | y, _ | ⟨x | x | x, st⟩⟩ <;> first | exact nomatch (show (none : Option Out) = some out from hs) | (intro h1 h2 H locs ls hH hL hl; obtain ⟨q1, q2⟩ := gd_some hs; exact lv_irem hx hb hd (by simpa using q1) (hk _ _ _ q2 h1 h2 H locs ls hH hL hl))
theorem si_ldiv {M pc : Nat} {hp : Option Nat} (hd : decode (mby M) pc = .ok (.ldiv, 1)) : SimI M pc .ldiv (pc + 1) hp := by
  intro E G p l e s m args below meth c hX d h0 out C J k hC hJ hk als ast h hs
  obtain ⟨hx, hb, hml, hown, hts, -, -, -, hE, -⟩ := hX
  rcases ast with _ | ⟨y | y | y, _ | ⟨x | x | x, st⟩⟩ <;> first | exact nomatch (show (none : Option Out) = some out from hs) | (intro h1 h2 H locs ls hH hL hl; obtain ⟨q1, q2⟩ := gd_some hs; exact lv_ldiv hx hb hd (by simpa using q1) (hk _ _ _ q2 h1 h2 H locs ls hH hL hl))
theorem si_ineg {M pc : Nat} {hp : Option Nat} (hd : decode (mby M) pc = .ok (.ineg, 1)) : SimI M pc .ineg (pc + 1) hp := by
  intro E G p l e s m args below meth c hX d h0 out C J k hC hJ hk als ast h hs
  obtain ⟨hx, hb, hml, hown, hts, -, -, -, hE, -⟩ := hX
  rcases ast with _ | ⟨x | x | x, st⟩ <;> first | exact nomatch (show (none : Option Out) = some out from hs) | (intro h1 h2 H locs ls hH hL hl; exact lv_ineg hx hb hd (hk _ _ _ hs h1 h2 H locs ls hH hL hl))
theorem si_i2l {M pc : Nat} {hp : Option Nat} (hd : decode (mby M) pc = .ok (.i2l, 1)) : SimI M pc .i2l (pc + 1) hp := by
  intro E G p l e s m args below meth c hX d h0 out C J k hC hJ hk als ast h hs
  obtain ⟨hx, hb, hml, hown, hts, -, -, -, hE, -⟩ := hX
  rcases ast with _ | ⟨x | x | x, st⟩ <;> first | exact nomatch (show (none : Option Out) = some out from hs) | (intro h1 h2 H locs ls hH hL hl; exact lv_i2l hx hb hd rfl (hk _ _ _ hs h1 h2 H locs ls hH hL hl))
theorem si_l2i {M pc : Nat} {hp : Option Nat} (hd : decode (mby M) pc = .ok (.l2i, 1)) : SimI M pc .l2i (pc + 1) hp := by
  intro E G p l e s m args below meth c hX d h0 out C J k hC hJ hk als ast h hs
  obtain ⟨hx, hb, hml, hown, hts, -, -, -, hE, -⟩ := hX
  rcases ast with _ | ⟨x | x | x, st⟩ <;> first | exact nomatch (show (none : Option Out) = some out from hs) | (intro h1 h2 H locs ls hH hL hl; exact lv_l2i hx hb hd rfl (hk _ _ _ hs h1 h2 H locs ls hH hL hl))
theorem si_i2b {M pc : Nat} {hp : Option Nat} (hd : decode (mby M) pc = .ok (.i2b, 1)) : SimI M pc .i2b (pc + 1) hp := by
  intro E G p l e s m args below meth c hX d h0 out C J k hC hJ hk als ast h hs
  obtain ⟨hx, hb, hml, hown, hts, -, -, -, hE, -⟩ := hX
  rcases ast with _ | ⟨x | x | x, st⟩ <;> first | exact nomatch (show (none : Option Out) = some out from hs) | (intro h1 h2 H locs ls hH hL hl; exact lv_i2b hx hb hd rfl (hk _ _ _ hs h1 h2 H locs ls hH hL hl))
theorem si_i2c {M pc : Nat} {hp : Option Nat} (hd : decode (mby M) pc = .ok (.i2c, 1)) : SimI M pc .i2c (pc + 1) hp := by
  intro E G p l e s m args below meth c hX d h0 out C J k hC hJ hk als ast h hs
  obtain ⟨hx, hb, hml, hown, hts, -, -, -, hE, -⟩ := hX
  rcases ast with _ | ⟨x | x | x, st⟩ <;> first | exact nomatch (show (none : Option Out) = some out from hs) | (intro h1 h2 H locs ls hH hL hl; exact lv_i2c hx hb hd rfl (hk _ _ _ hs h1 h2 H locs ls hH hL hl))
theorem si_iconst {M pc : Nat} {hp : Option Nat} {n : Int} (hd : decode (mby M) pc = .ok (.iconst n, 1)) : SimI M pc (.iconst n) (pc + 1) hp := by
  intro E G p l e s m args below meth c hX d h0 out C J k hC hJ hk als ast h hs
  obtain ⟨hx, hb, hml, hown, hts, -, -, -, hE, -⟩ := hX
  intro h1 h2 H locs ls hH hL hl; exact lv_iconst hx hb hd rfl (hk _ _ _ hs h1 h2 H locs ls hH hL hl)
theorem si_bipush {M pc : Nat} {hp : Option Nat} {n : Int} (hd : decode (mby M) pc = .ok (.bipush n, 2)) (hv : (Int8.ofInt n).toInt32 = Int32.ofInt n) : SimI M pc (.iconst n) (pc + 2) hp := by
  intro E G p l e s m args below meth c hX d h0 out C J k hC hJ hk als ast h hs
  obtain ⟨hx, hb, hml, hown, hts, -, -, -, hE, -⟩ := hX
  intro h1 h2 H locs ls hH hL hl; exact lv_bipush hx hb hd hv (hk _ _ _ hs h1 h2 H locs ls hH hL hl)
theorem si_sipush {M pc : Nat} {hp : Option Nat} {n : Int} (hd : decode (mby M) pc = .ok (.sipush n, 3)) (hv : (Int16.ofInt n).toInt32 = Int32.ofInt n) : SimI M pc (.iconst n) (pc + 3) hp := by
  intro E G p l e s m args below meth c hX d h0 out C J k hC hJ hk als ast h hs
  obtain ⟨hx, hb, hml, hown, hts, -, -, -, hE, -⟩ := hX
  intro h1 h2 H locs ls hH hL hl; exact lv_sipush hx hb hd hv (hk _ _ _ hs h1 h2 H locs ls hH hL hl)
theorem si_ldcI {M pc i : Nat} {hp : Option Nat} {n : Int} {v : Int32} (hd : decode (mby M) pc = .ok (.ldc i, 2)) (hw : Jvm.Cond.constant (mnm M).cls i v ∈ lw_all) (hv : v = Int32.ofInt n) : SimI M pc (.iconst n) (pc + 2) hp := by
  intro E G p l e s m args below meth c hX d h0 out C J k hC hJ hk als ast h hs
  obtain ⟨hx, hb, hml, hown, hts, -, -, -, hE, -⟩ := hX
  intro h1 h2 H locs ls hH hL hl; subst hv; exact lv_ldc hx hb hown (hts _ hw) hd (hk _ _ _ hs h1 h2 H locs ls hH hL hl)
theorem si_ldcwI {M pc i : Nat} {hp : Option Nat} {n : Int} {v : Int32} (hd : decode (mby M) pc = .ok (.ldc_w i, 3)) (hw : Jvm.Cond.constant (mnm M).cls i v ∈ lw_all) (hv : v = Int32.ofInt n) : SimI M pc (.iconst n) (pc + 3) hp := by
  intro E G p l e s m args below meth c hX d h0 out C J k hC hJ hk als ast h hs
  obtain ⟨hx, hb, hml, hown, hts, -, -, -, hE, -⟩ := hX
  intro h1 h2 H locs ls hH hL hl; subst hv; exact lv_ldcw hx hb hown (hts _ hw) hd (hk _ _ _ hs h1 h2 H locs ls hH hL hl)
theorem si_ldc2 {M pc i : Nat} {hp : Option Nat} {n : Nat} {v : Int64} (hd : decode (mby M) pc = .ok (.ldc2_w i, 3)) (hw : Jvm.Cond.constantLong (mnm M).cls i v ∈ lw_all) (hv : v = Int64.ofNat n) : SimI M pc (.ldc2_w n) (pc + 3) hp := by
  intro E G p l e s m args below meth c hX d h0 out C J k hC hJ hk als ast h hs
  obtain ⟨hx, hb, hml, hown, hts, -, -, -, hE, -⟩ := hX
  intro h1 h2 H locs ls hH hL hl; subst hv; exact lv_ldc2 hx hb hown (hts _ hw) hd (hk _ _ _ hs h1 h2 H locs ls hH hL hl)
theorem si_lconst {M pc : Nat} {hp : Option Nat} {n : Fin 2} {n' : Nat} (hd : decode (mby M) pc = .ok (.lconst n, 1)) (hv : Int64.ofNat (n : Nat) = Int64.ofNat n') : SimI M pc (.ldc2_w n') (pc + 1) hp := by
  intro E G p l e s m args below meth c hX d h0 out C J k hC hJ hk als ast h hs
  obtain ⟨hx, hb, hml, hown, hts, -, -, -, hE, -⟩ := hX
  intro h1 h2 H locs ls hH hL hl; exact lv_lconst hx hb hd hv (hk _ _ _ hs h1 h2 H locs ls hH hL hl)
theorem si_null {M pc : Nat} {hp : Option Nat} (hd : decode (mby M) pc = .ok (.aconst_null, 1)) : SimI M pc .aconst_null (pc + 1) hp := by
  intro E G p l e s m args below meth c hX d h0 out C J k hC hJ hk als ast h hs
  obtain ⟨hx, hb, hml, hown, hts, -, -, -, hE, -⟩ := hX
  intro h1 h2 H locs ls hH hL hl; exact lv_null hx hb hd (hk _ _ _ hs h1 h2 H locs ls hH hL hl)
theorem si_ldcS {M pc i sid : Nat} {hp : Option Nat} {tx : String} (hd : decode (mby M) pc = .ok (.ldc i, 2)) (hw : ((mnm M).cls, i, tx, sid) ∈ strs) : SimI M pc (.ldc sid) (pc + 2) hp := by
  intro E G p l e s m args below meth c hX d h0 out C J k hC hJ hk als ast h hs
  obtain ⟨hx, hb, hml, hown, hts, -, -, -, hE, -⟩ := hX
  intro h1 h2 H locs ls hH hL hl
  exact va_ldcS hx hb hown (hE.2.2.2.2.2.2.2.2.1 _ hw) hd (hk _ _ _ hs h1 h2 H locs ls hH hL hl)
theorem si_ldcM {M pc i : Nat} {hp : Option Nat} (hd : decode (mby M) pc = .ok (.ldc i, 2)) (hw : Jvm.Cond.classLink (mnm M).cls i "[Ljava/lang/Object;" ∈ lw_all) : SimI M pc (.getstatic mirr) (pc + 2) hp := by
  intro E G p l e s m args below meth c hX d h0 out C J k hC hJ hk als ast h hs
  obtain ⟨hx, hb, hml, hown, hts, -, -, -, hE, -⟩ := hX
  intro h1 h2 H locs ls hH hL hl
  obtain ⟨mi, e1, e2⟩ := hE.2.2.2.2.2.2.2.2.2.2.2
  refine va_ldcM hx hb hown (hts _ hw) e2 hd ?_
  have q := hk _ _ _ hs h1 h2 H locs ls hH hL hl
  rw [e1] at q
  exact q
theorem c1_cat {v : AV} (h : cat1 v = true) : (tv v).category = 1 := by
  rcases v with x | x | o
  · rfl
  · cases h
  · cases o <;> rfl
theorem si_dup {M pc : Nat} {hp : Option Nat} (hd : decode (mby M) pc = .ok (.dup, 1)) : SimI M pc .dup (pc + 1) hp := by
  intro E G p l e s m args below meth c hX d h0 out C J k hC hJ hk als ast h hs
  obtain ⟨hx, hb, hml, hown, hts, -, -, -, hE, -⟩ := hX
  rcases ast with _ | ⟨x, st⟩
  · exact nomatch (show (none : Option Out) = some out from hs)
  · obtain ⟨q1, q2⟩ := gd_some hs
    intro h1 h2 H locs ls hH hL hl; exact lv_dup hx hb hd (c1_cat q1) (hk _ _ _ q2 h1 h2 H locs ls hH hL hl)
theorem si_pop {M pc : Nat} {hp : Option Nat} (hd : decode (mby M) pc = .ok (.pop, 1)) : SimI M pc .pop (pc + 1) hp := by
  intro E G p l e s m args below meth c hX d h0 out C J k hC hJ hk als ast h hs
  obtain ⟨hx, hb, hml, hown, hts, -, -, -, hE, -⟩ := hX
  rcases ast with _ | ⟨x, st⟩
  · exact nomatch (show (none : Option Out) = some out from hs)
  · obtain ⟨q1, q2⟩ := gd_some hs
    intro h1 h2 H locs ls hH hL hl; exact lv_pop hx hb hd (c1_cat q1) (hk _ _ _ q2 h1 h2 H locs ls hH hL hl)
theorem si_dup_x1 {M pc : Nat} {hp : Option Nat} (hd : decode (mby M) pc = .ok (.dup_x1, 1)) : SimI M pc .dup_x1 (pc + 1) hp := by
  intro E G p l e s m args below meth c hX d h0 out C J k hC hJ hk als ast h hs
  obtain ⟨hx, hb, hml, hown, hts, -, -, -, hE, -⟩ := hX
  rcases ast with _ | ⟨x, _ | ⟨y, st⟩⟩
  · exact nomatch (show (none : Option Out) = some out from hs)
  · exact nomatch (show (none : Option Out) = some out from hs)
  · obtain ⟨q1, q2⟩ := gd_some hs
    have q3 := (Bool.and_eq_true _ _).mp q1
    intro h1 h2 H locs ls hH hL hl; exact lv_dup_x1 hx hb hd (c1_cat q3.1) (c1_cat q3.2) (hk _ _ _ q2 h1 h2 H locs ls hH hL hl)
theorem si_dup2 {M pc : Nat} {hp : Option Nat} (hd : decode (mby M) pc = .ok (.dup2, 1)) : SimI M pc .dup2 (pc + 1) hp := by
  intro E G p l e s m args below meth c hX d h0 out C J k hC hJ hk als ast h hs
  obtain ⟨hx, hb, hml, hown, hts, -, -, -, hE, -⟩ := hX
  rcases ast with _ | ⟨x, _ | ⟨y, st⟩⟩
  · exact nomatch (show (none : Option Out) = some out from hs)
  · exact nomatch (show (none : Option Out) = some out from hs)
  · obtain ⟨q1, q2⟩ := gd_some hs
    have q3 := (Bool.and_eq_true _ _).mp q1
    intro h1 h2 H locs ls hH hL hl; exact lv_dup2_11 hx hb hd (c1_cat q3.1) (c1_cat q3.2) (hk _ _ _ q2 h1 h2 H locs ls hH hL hl)
theorem si_iload {M pc i : Nat} {hp : Option Nat} (hd : decode (mby M) pc = .ok (.iload i, 2)) : SimI M pc (.iload i) (pc + 2) hp := by
  intro E G p l e s m args below meth c hX d h0 out C J k hC hJ hk als ast h hs
  obtain ⟨hx, hb, hml, hown, hts, -, -, -, hE, -⟩ := hX
  cases hg : lget als i with
  | none => simp only [stp, hg] at hs; cases hs
  | some v =>
    rcases v with x | x | x <;> (simp only [stp, hg] at hs)
    · intro h1 h2 H locs ls hH hL hl; exact lv_iload hx hb hd (hL.get hg) (hk _ _ _ hs h1 h2 H locs ls hH hL hl)
    · cases hs
    · cases hs
theorem si_iload_n {M pc i : Nat} {hp : Option Nat} {i0 : Fin 4} (hd : decode (mby M) pc = .ok (.iload_n i0, 1)) (hi : (i0 : Nat) = i) : SimI M pc (.iload i) (pc + 1) hp := by
  intro E G p l e s m args below meth c hX d h0 out C J k hC hJ hk als ast h hs
  obtain ⟨hx, hb, hml, hown, hts, -, -, -, hE, -⟩ := hX
  cases hg : lget als i with
  | none => simp only [stp, hg] at hs; cases hs
  | some v =>
    rcases v with x | x | x <;> (simp only [stp, hg] at hs)
    · intro h1 h2 H locs ls hH hL hl; exact lv_iload_n hx hb hd hi (hL.get hg) (hk _ _ _ hs h1 h2 H locs ls hH hL hl)
    · cases hs
    · cases hs
theorem si_lload {M pc i : Nat} {hp : Option Nat} (hd : decode (mby M) pc = .ok (.lload i, 2)) : SimI M pc (.lload i) (pc + 2) hp := by
  intro E G p l e s m args below meth c hX d h0 out C J k hC hJ hk als ast h hs
  obtain ⟨hx, hb, hml, hown, hts, -, -, -, hE, -⟩ := hX
  cases hg : lget als i with
  | none => simp only [stp, hg] at hs; cases hs
  | some v =>
    rcases v with x | x | x <;> (simp only [stp, hg] at hs)
    · cases hs
    · intro h1 h2 H locs ls hH hL hl; exact lv_lload hx hb hd (hL.get hg) (hk _ _ _ hs h1 h2 H locs ls hH hL hl)
    · cases hs
theorem si_lload_n {M pc i : Nat} {hp : Option Nat} {i0 : Fin 4} (hd : decode (mby M) pc = .ok (.lload_n i0, 1)) (hi : (i0 : Nat) = i) : SimI M pc (.lload i) (pc + 1) hp := by
  intro E G p l e s m args below meth c hX d h0 out C J k hC hJ hk als ast h hs
  obtain ⟨hx, hb, hml, hown, hts, -, -, -, hE, -⟩ := hX
  cases hg : lget als i with
  | none => simp only [stp, hg] at hs; cases hs
  | some v =>
    rcases v with x | x | x <;> (simp only [stp, hg] at hs)
    · cases hs
    · intro h1 h2 H locs ls hH hL hl; exact lv_lload_n hx hb hd hi (hL.get hg) (hk _ _ _ hs h1 h2 H locs ls hH hL hl)
    · cases hs
theorem si_aload {M pc i : Nat} {hp : Option Nat} (hd : decode (mby M) pc = .ok (.aload i, 2)) : SimI M pc (.aload i) (pc + 2) hp := by
  intro E G p l e s m args below meth c hX d h0 out C J k hC hJ hk als ast h hs
  obtain ⟨hx, hb, hml, hown, hts, -, -, -, hE, -⟩ := hX
  cases hg : lget als i with
  | none => simp only [stp, hg] at hs; cases hs
  | some v =>
    rcases v with x | x | x <;> (simp only [stp, hg] at hs)
    · cases hs
    · cases hs
    · intro h1 h2 H locs ls hH hL hl
      cases x with
      | none => exact lv_aloadN hx hb hd (hL.get hg) (hk _ _ _ hs h1 h2 H locs ls hH hL hl)
      | some q => exact lv_aload hx hb hd (hL.get hg) (hk _ _ _ hs h1 h2 H locs ls hH hL hl)
theorem si_aload_n {M pc i : Nat} {hp : Option Nat} {i0 : Fin 4} (hd : decode (mby M) pc = .ok (.aload_n i0, 1)) (hi : (i0 : Nat) = i) : SimI M pc (.aload i) (pc + 1) hp := by
  intro E G p l e s m args below meth c hX d h0 out C J k hC hJ hk als ast h hs
  obtain ⟨hx, hb, hml, hown, hts, -, -, -, hE, -⟩ := hX
  cases hg : lget als i with
  | none => simp only [stp, hg] at hs; cases hs
  | some v =>
    rcases v with x | x | x <;> (simp only [stp, hg] at hs)
    · cases hs
    · cases hs
    · intro h1 h2 H locs ls hH hL hl
      cases x with
      | none => exact lv_aload_nN hx hb hd hi (hL.get hg) (hk _ _ _ hs h1 h2 H locs ls hH hL hl)
      | some q => exact lv_aload_n hx hb hd hi (hL.get hg) (hk _ _ _ hs h1 h2 H locs ls hH hL hl)
theorem si_istore {M pc i : Nat} {hp : Option Nat} (hd : decode (mby M) pc = .ok (.istore i, 2)) (hn : i < nloc M) (hs0 : ∀ j ∈ lsl M, j + 1 ≠ i) : SimI M pc (.istore i) (pc + 2) hp := by
  intro E G p l e s m args below meth c hX d h0 out C J k hC hJ hk als ast h hs
  obtain ⟨hx, hb, hml, hown, hts, -, -, -, hE, -⟩ := hX
  rcases ast with _ | ⟨x | x | x, st⟩ <;> first | exact nomatch (show (none : Option Out) = some out from hs) | (intro h1 h2 H locs ls hH hL hl; exact lv_istore hx hb hd hL.1 hn rfl (fun ls' hl' => hk _ _ _ hs h1 h2 H locs ls' hH (hL.store1 hs0 (fun _ => by simp) hl') hl))
theorem si_lstore {M pc i : Nat} {hp : Option Nat} (hd : decode (mby M) pc = .ok (.lstore i, 2)) (hn : i + 1 < nloc M) (hs0 : ∀ j ∈ lsl M, j + 1 ≠ i) (hs1 : i ∈ lsl M) : SimI M pc (.lstore i) (pc + 2) hp := by
  intro E G p l e s m args below meth c hX d h0 out C J k hC hJ hk als ast h hs
  obtain ⟨hx, hb, hml, hown, hts, -, -, -, hE, -⟩ := hX
  rcases ast with _ | ⟨x | x | x, st⟩ <;> first | exact nomatch (show (none : Option Out) = some out from hs) | (intro h1 h2 H locs ls hH hL hl; exact lv_lstore hx hb hd hL.1 hn rfl (fun ls' hl' => hk _ _ _ hs h1 h2 H locs ls' hH (hL.store2 hs0 hs1 hl') hl))
theorem si_astore {M pc i : Nat} {hp : Option Nat} (hd : decode (mby M) pc = .ok (.astore i, 2)) (hn : i < nloc M) (hs0 : ∀ j ∈ lsl M, j + 1 ≠ i) : SimI M pc (.astore i) (pc + 2) hp := by
  intro E G p l e s m args below meth c hX d h0 out C J k hC hJ hk als ast h hs
  obtain ⟨hx, hb, hml, hown, hts, -, -, -, hE, -⟩ := hX
  rcases ast with _ | ⟨x | x | (_ | x), st⟩ <;> first | exact nomatch (show (none : Option Out) = some out from hs) | (intro h1 h2 H locs ls hH hL hl; exact lv_astoreN hx hb hd hL.1 hn rfl (fun ls' hl' => hk _ _ _ hs h1 h2 H locs ls' hH (hL.store1 (v := vR none) hs0 (fun _ => by simp) hl') hl)) | (intro h1 h2 H locs ls hH hL hl; exact lv_astore hx hb hd hL.1 hn rfl (fun ls' hl' => hk _ _ _ hs h1 h2 H locs ls' hH (hL.store1 (v := vR (some x)) hs0 (fun _ => by simp) hl') hl))
theorem si_istore_n {M pc i : Nat} {hp : Option Nat} {i0 : Fin 4} (hd : decode (mby M) pc = .ok (.istore_n i0, 1)) (hi : (i0 : Nat) = i) (hn : i < nloc M) (hs0 : ∀ j ∈ lsl M, j + 1 ≠ i) : SimI M pc (.istore i) (pc + 1) hp := by
  intro E G p l e s m args below meth c hX d h0 out C J k hC hJ hk als ast h hs
  obtain ⟨hx, hb, hml, hown, hts, -, -, -, hE, -⟩ := hX
  rcases ast with _ | ⟨x | x | x, st⟩ <;> first | exact nomatch (show (none : Option Out) = some out from hs) | (intro h1 h2 H locs ls hH hL hl; exact lv_istore_n hx hb hd hi hL.1 hn rfl (fun ls' hl' => hk _ _ _ hs h1 h2 H locs ls' hH (hL.store1 hs0 (fun _ => by simp) hl') hl))
theorem si_lstore_n {M pc i : Nat} {hp : Option Nat} {i0 : Fin 4} (hd : decode (mby M) pc = .ok (.lstore_n i0, 1)) (hi : (i0 : Nat) = i) (hn : i + 1 < nloc M) (hs0 : ∀ j ∈ lsl M, j + 1 ≠ i) (hs1 : i ∈ lsl M) : SimI M pc (.lstore i) (pc + 1) hp := by
  intro E G p l e s m args below meth c hX d h0 out C J k hC hJ hk als ast h hs
  obtain ⟨hx, hb, hml, hown, hts, -, -, -, hE, -⟩ := hX
  rcases ast with _ | ⟨x | x | x, st⟩ <;> first | exact nomatch (show (none : Option Out) = some out from hs) | (intro h1 h2 H locs ls hH hL hl; exact lv_lstore_n hx hb hd hi hL.1 hn rfl (fun ls' hl' => hk _ _ _ hs h1 h2 H locs ls' hH (hL.store2 hs0 hs1 hl') hl))
theorem si_astore_n {M pc i : Nat} {hp : Option Nat} {i0 : Fin 4} (hd : decode (mby M) pc = .ok (.astore_n i0, 1)) (hi : (i0 : Nat) = i) (hn : i < nloc M) (hs0 : ∀ j ∈ lsl M, j + 1 ≠ i) : SimI M pc (.astore i) (pc + 1) hp := by
  intro E G p l e s m args below meth c hX d h0 out C J k hC hJ hk als ast h hs
  obtain ⟨hx, hb, hml, hown, hts, -, -, -, hE, -⟩ := hX
  rcases ast with _ | ⟨x | x | (_ | x), st⟩ <;> first | exact nomatch (show (none : Option Out) = some out from hs) | (intro h1 h2 H locs ls hH hL hl; exact lv_astore_nN hx hb hd hi hL.1 hn rfl (fun ls' hl' => hk _ _ _ hs h1 h2 H locs ls' hH (hL.store1 (v := vR none) hs0 (fun _ => by simp) hl') hl)) | (intro h1 h2 H locs ls hH hL hl; exact lv_astore_n hx hb hd hi hL.1 hn rfl (fun ls' hl' => hk _ _ _ hs h1 h2 H locs ls' hH (hL.store1 (v := vR (some x)) hs0 (fun _ => by simp) hl') hl))
theorem si_iinc {M pc i : Nat} {n : Int} {hp : Option Nat} (hd : decode (mby M) pc = .ok (.iinc i n, 3)) (hn : i < nloc M) (hs0 : ∀ j ∈ lsl M, j + 1 ≠ i) : SimI M pc (.iinc i n) (pc + 3) hp := by
  intro E G p l e s m args below meth c hX d h0 out C J k hC hJ hk als ast h hs
  obtain ⟨hx, hb, hml, hown, hts, -, -, -, hE, -⟩ := hX
  cases hg : lget als i with
  | none => simp only [stp, hg] at hs; cases hs
  | some v =>
    rcases v with x | x | x <;> (simp only [stp, hg] at hs)
    · intro h1 h2 H locs ls hH hL hl
      obtain ⟨k0, hk0⟩ := List.getElem?_of_mem ((knl_mem als 0 (i, Value.int x)).mpr ⟨i, vI x, hg, by simp [tv]⟩)
      exact lv_iinc hx hb hd hL.1 hk0 rfl hn rfl (fun ls' hl' => hk _ _ _ hs h1 h2 H locs ls' hH (hL.store1 (v := vI (x + Int32.ofInt n)) hs0 (fun _ => by simp) hl') hl)
    · cases hs
    · cases hs
theorem si_if_eq {M pc : Nat} {off t : Int} {hp : Option Nat} (hd : decode (mby M) pc = .ok (.ifCond .eq off, 3)) (ht : (pc : Int) + off = (t.toNat : Int)) : SimI M pc (.ifCond .eq t) (pc + 3) hp := by
  intro E G p l e s m args below meth c hX d h0 out C J k hC hJ hk als ast h hs
  obtain ⟨hx, hb, hml, hown, hts, -, -, -, hE, -⟩ := hX
  rcases ast with _ | ⟨x | x | x, st⟩ <;> first | exact nomatch (show (none : Option Out) = some out from hs) | (intro h1 h2 H locs ls hH hL hl; exact lv_if_eq hx hb hd ht (fun q => hJ _ _ _ _ (by have z := hs; simp only [stp, ifC] at z; first | rwa [if_pos q] at z | rwa [if_neg q] at z) h1 h2 H locs ls hH hL hl) (fun q => hk _ _ _ (by have z := hs; simp only [stp, ifC] at z; first | rwa [if_neg q] at z | rwa [if_pos q] at z) h1 h2 H locs ls hH hL hl))
theorem si_icmp_eq {M pc : Nat} {off t : Int} {hp : Option Nat} (hd : decode (mby M) pc = .ok (.if_icmp .eq off, 3)) (ht : (pc : Int) + off = (t.toNat : Int)) : SimI M pc (.if_icmp .eq t) (pc + 3) hp := by
  intro E G p l e s m args below meth c hX d h0 out C J k hC hJ hk als ast h hs
  obtain ⟨hx, hb, hml, hown, hts, -, -, -, hE, -⟩ := hX
  rcases ast with _ | ⟨y | y | y, _ | ⟨x | x | x, st⟩⟩ <;> first | exact nomatch (show (none : Option Out) = some out from hs) | (intro h1 h2 H locs ls hH hL hl; exact lv_icmp_eq hx hb hd ht (fun q => hJ _ _ _ _ (by have z := hs; simp only [stp, ifC] at z; first | rwa [if_pos q] at z | rwa [if_neg q] at z) h1 h2 H locs ls hH hL hl) (fun q => hk _ _ _ (by have z := hs; simp only [stp, ifC] at z; first | rwa [if_neg q] at z | rwa [if_pos q] at z) h1 h2 H locs ls hH hL hl))
theorem si_if_ne {M pc : Nat} {off t : Int} {hp : Option Nat} (hd : decode (mby M) pc = .ok (.ifCond .ne off, 3)) (ht : (pc : Int) + off = (t.toNat : Int)) : SimI M pc (.ifCond .ne t) (pc + 3) hp := by
  intro E G p l e s m args below meth c hX d h0 out C J k hC hJ hk als ast h hs
  obtain ⟨hx, hb, hml, hown, hts, -, -, -, hE, -⟩ := hX
  rcases ast with _ | ⟨x | x | x, st⟩ <;> first | exact nomatch (show (none : Option Out) = some out from hs) | (intro h1 h2 H locs ls hH hL hl; exact lv_if_ne hx hb hd ht (fun q => hJ _ _ _ _ (by have z := hs; simp only [stp, ifC] at z; first | rwa [if_pos q] at z | rwa [if_neg q] at z) h1 h2 H locs ls hH hL hl) (fun q => hk _ _ _ (by have z := hs; simp only [stp, ifC] at z; first | rwa [if_neg q] at z | rwa [if_pos q] at z) h1 h2 H locs ls hH hL hl))
theorem si_icmp_ne {M pc : Nat} {off t : Int} {hp : Option Nat} (hd : decode (mby M) pc = .ok (.if_icmp .ne off, 3)) (ht : (pc : Int) + off = (t.toNat : Int)) : SimI M pc (.if_icmp .ne t) (pc + 3) hp := by
  intro E G p l e s m args below meth c hX d h0 out C J k hC hJ hk als ast h hs
  obtain ⟨hx, hb, hml, hown, hts, -, -, -, hE, -⟩ := hX
  rcases ast with _ | ⟨y | y | y, _ | ⟨x | x | x, st⟩⟩ <;> first | exact nomatch (show (none : Option Out) = some out from hs) | (intro h1 h2 H locs ls hH hL hl; exact lv_icmp_ne hx hb hd ht (fun q => hJ _ _ _ _ (by have z := hs; simp only [stp, ifC] at z; first | rwa [if_pos q] at z | rwa [if_neg q] at z) h1 h2 H locs ls hH hL hl) (fun q => hk _ _ _ (by have z := hs; simp only [stp, ifC] at z; first | rwa [if_neg q] at z | rwa [if_pos q] at z) h1 h2 H locs ls hH hL hl))
theorem si_if_lt {M pc : Nat} {off t : Int} {hp : Option Nat} (hd : decode (mby M) pc = .ok (.ifCond .lt off, 3)) (ht : (pc : Int) + off = (t.toNat : Int)) : SimI M pc (.ifCond .lt t) (pc + 3) hp := by
  intro E G p l e s m args below meth c hX d h0 out C J k hC hJ hk als ast h hs
  obtain ⟨hx, hb, hml, hown, hts, -, -, -, hE, -⟩ := hX
  rcases ast with _ | ⟨x | x | x, st⟩ <;> first | exact nomatch (show (none : Option Out) = some out from hs) | (intro h1 h2 H locs ls hH hL hl; exact lv_if_lt hx hb hd ht (fun q => hJ _ _ _ _ (by have z := hs; simp only [stp, ifC] at z; first | rwa [if_pos q] at z | rwa [if_neg q] at z) h1 h2 H locs ls hH hL hl) (fun q => hk _ _ _ (by have z := hs; simp only [stp, ifC] at z; first | rwa [if_neg q] at z | rwa [if_pos q] at z) h1 h2 H locs ls hH hL hl))
theorem si_icmp_lt {M pc : Nat} {off t : Int} {hp : Option Nat} (hd : decode (mby M) pc = .ok (.if_icmp .lt off, 3)) (ht : (pc : Int) + off = (t.toNat : Int)) : SimI M pc (.if_icmp .lt t) (pc + 3) hp := by
  intro E G p l e s m args below meth c hX d h0 out C J k hC hJ hk als ast h hs
  obtain ⟨hx, hb, hml, hown, hts, -, -, -, hE, -⟩ := hX
  rcases ast with _ | ⟨y | y | y, _ | ⟨x | x | x, st⟩⟩ <;> first | exact nomatch (show (none : Option Out) = some out from hs) | (intro h1 h2 H locs ls hH hL hl; exact lv_icmp_lt hx hb hd ht (fun q => hJ _ _ _ _ (by have z := hs; simp only [stp, ifC] at z; first | rwa [if_pos q] at z | rwa [if_neg q] at z) h1 h2 H locs ls hH hL hl) (fun q => hk _ _ _ (by have z := hs; simp only [stp, ifC] at z; first | rwa [if_neg q] at z | rwa [if_pos q] at z) h1 h2 H locs ls hH hL hl))
theorem si_if_ge {M pc : Nat} {off t : Int} {hp : Option Nat} (hd : decode (mby M) pc = .ok (.ifCond .ge off, 3)) (ht : (pc : Int) + off = (t.toNat : Int)) : SimI M pc (.ifCond .ge t) (pc + 3) hp := by
  intro E G p l e s m args below meth c hX d h0 out C J k hC hJ hk als ast h hs
  obtain ⟨hx, hb, hml, hown, hts, -, -, -, hE, -⟩ := hX
  rcases ast with _ | ⟨x | x | x, st⟩ <;> first | exact nomatch (show (none : Option Out) = some out from hs) | (intro h1 h2 H locs ls hH hL hl; exact lv_if_ge hx hb hd ht (fun q => hJ _ _ _ _ (by have z := hs; simp only [stp, ifC] at z; first | rwa [if_pos q] at z | rwa [if_neg q] at z) h1 h2 H locs ls hH hL hl) (fun q => hk _ _ _ (by have z := hs; simp only [stp, ifC] at z; first | rwa [if_neg q] at z | rwa [if_pos q] at z) h1 h2 H locs ls hH hL hl))
theorem si_icmp_ge {M pc : Nat} {off t : Int} {hp : Option Nat} (hd : decode (mby M) pc = .ok (.if_icmp .ge off, 3)) (ht : (pc : Int) + off = (t.toNat : Int)) : SimI M pc (.if_icmp .ge t) (pc + 3) hp := by
  intro E G p l e s m args below meth c hX d h0 out C J k hC hJ hk als ast h hs
  obtain ⟨hx, hb, hml, hown, hts, -, -, -, hE, -⟩ := hX
  rcases ast with _ | ⟨y | y | y, _ | ⟨x | x | x, st⟩⟩ <;> first | exact nomatch (show (none : Option Out) = some out from hs) | (intro h1 h2 H locs ls hH hL hl; exact lv_icmp_ge hx hb hd ht (fun q => hJ _ _ _ _ (by have z := hs; simp only [stp, ifC] at z; first | rwa [if_pos q] at z | rwa [if_neg q] at z) h1 h2 H locs ls hH hL hl) (fun q => hk _ _ _ (by have z := hs; simp only [stp, ifC] at z; first | rwa [if_neg q] at z | rwa [if_pos q] at z) h1 h2 H locs ls hH hL hl))
theorem si_if_gt {M pc : Nat} {off t : Int} {hp : Option Nat} (hd : decode (mby M) pc = .ok (.ifCond .gt off, 3)) (ht : (pc : Int) + off = (t.toNat : Int)) : SimI M pc (.ifCond .gt t) (pc + 3) hp := by
  intro E G p l e s m args below meth c hX d h0 out C J k hC hJ hk als ast h hs
  obtain ⟨hx, hb, hml, hown, hts, -, -, -, hE, -⟩ := hX
  rcases ast with _ | ⟨x | x | x, st⟩ <;> first | exact nomatch (show (none : Option Out) = some out from hs) | (intro h1 h2 H locs ls hH hL hl; exact lv_if_gt hx hb hd ht (fun q => hJ _ _ _ _ (by have z := hs; simp only [stp, ifC] at z; first | rwa [if_pos q] at z | rwa [if_neg q] at z) h1 h2 H locs ls hH hL hl) (fun q => hk _ _ _ (by have z := hs; simp only [stp, ifC] at z; first | rwa [if_neg q] at z | rwa [if_pos q] at z) h1 h2 H locs ls hH hL hl))
theorem si_icmp_gt {M pc : Nat} {off t : Int} {hp : Option Nat} (hd : decode (mby M) pc = .ok (.if_icmp .gt off, 3)) (ht : (pc : Int) + off = (t.toNat : Int)) : SimI M pc (.if_icmp .gt t) (pc + 3) hp := by
  intro E G p l e s m args below meth c hX d h0 out C J k hC hJ hk als ast h hs
  obtain ⟨hx, hb, hml, hown, hts, -, -, -, hE, -⟩ := hX
  rcases ast with _ | ⟨y | y | y, _ | ⟨x | x | x, st⟩⟩ <;> first | exact nomatch (show (none : Option Out) = some out from hs) | (intro h1 h2 H locs ls hH hL hl; exact lv_icmp_gt hx hb hd ht (fun q => hJ _ _ _ _ (by have z := hs; simp only [stp, ifC] at z; first | rwa [if_pos q] at z | rwa [if_neg q] at z) h1 h2 H locs ls hH hL hl) (fun q => hk _ _ _ (by have z := hs; simp only [stp, ifC] at z; first | rwa [if_neg q] at z | rwa [if_pos q] at z) h1 h2 H locs ls hH hL hl))
theorem si_if_le {M pc : Nat} {off t : Int} {hp : Option Nat} (hd : decode (mby M) pc = .ok (.ifCond .le off, 3)) (ht : (pc : Int) + off = (t.toNat : Int)) : SimI M pc (.ifCond .le t) (pc + 3) hp := by
  intro E G p l e s m args below meth c hX d h0 out C J k hC hJ hk als ast h hs
  obtain ⟨hx, hb, hml, hown, hts, -, -, -, hE, -⟩ := hX
  rcases ast with _ | ⟨x | x | x, st⟩ <;> first | exact nomatch (show (none : Option Out) = some out from hs) | (intro h1 h2 H locs ls hH hL hl; exact lv_if_le hx hb hd ht (fun q => hJ _ _ _ _ (by have z := hs; simp only [stp, ifC] at z; first | rwa [if_pos q] at z | rwa [if_neg q] at z) h1 h2 H locs ls hH hL hl) (fun q => hk _ _ _ (by have z := hs; simp only [stp, ifC] at z; first | rwa [if_neg q] at z | rwa [if_pos q] at z) h1 h2 H locs ls hH hL hl))
theorem si_icmp_le {M pc : Nat} {off t : Int} {hp : Option Nat} (hd : decode (mby M) pc = .ok (.if_icmp .le off, 3)) (ht : (pc : Int) + off = (t.toNat : Int)) : SimI M pc (.if_icmp .le t) (pc + 3) hp := by
  intro E G p l e s m args below meth c hX d h0 out C J k hC hJ hk als ast h hs
  obtain ⟨hx, hb, hml, hown, hts, -, -, -, hE, -⟩ := hX
  rcases ast with _ | ⟨y | y | y, _ | ⟨x | x | x, st⟩⟩ <;> first | exact nomatch (show (none : Option Out) = some out from hs) | (intro h1 h2 H locs ls hH hL hl; exact lv_icmp_le hx hb hd ht (fun q => hJ _ _ _ _ (by have z := hs; simp only [stp, ifC] at z; first | rwa [if_pos q] at z | rwa [if_neg q] at z) h1 h2 H locs ls hH hL hl) (fun q => hk _ _ _ (by have z := hs; simp only [stp, ifC] at z; first | rwa [if_neg q] at z | rwa [if_pos q] at z) h1 h2 H locs ls hH hL hl))
theorem si_acmp_eq {M pc : Nat} {off t : Int} {hp : Option Nat} (hd : decode (mby M) pc = .ok (.if_acmp .eq off, 3)) (ht : (pc : Int) + off = (t.toNat : Int)) : SimI M pc (.if_acmp .eq t) (pc + 3) hp := by
  intro E G p l e s m args below meth c hX d h0 out C J k hC hJ hk als ast h hs
  obtain ⟨hx, hb, hml, hown, hts, -, -, -, hE, -⟩ := hX
  rcases ast with _ | ⟨y | y | y, _ | ⟨x | x | x, st⟩⟩ <;> first | exact nomatch (show (none : Option Out) = some out from hs) | (intro h1 h2 H locs ls hH hL hl; exact lv_acmp_eq hx hb hd ht (fun q => hJ _ _ _ _ (by have z := hs; simp only [stp] at z; first | rwa [if_pos q] at z | rwa [if_neg q] at z) h1 h2 H locs ls hH hL hl) (fun q => hk _ _ _ (by have z := hs; simp only [stp] at z; first | rwa [if_neg q] at z | rwa [if_pos q] at z) h1 h2 H locs ls hH hL hl))
theorem si_acmp_ne {M pc : Nat} {off t : Int} {hp : Option Nat} (hd : decode (mby M) pc = .ok (.if_acmp .ne off, 3)) (ht : (pc : Int) + off = (t.toNat : Int)) : SimI M pc (.if_acmp .ne t) (pc + 3) hp := by
  intro E G p l e s m args below meth c hX d h0 out C J k hC hJ hk als ast h hs
  obtain ⟨hx, hb, hml, hown, hts, -, -, -, hE, -⟩ := hX
  rcases ast with _ | ⟨y | y | y, _ | ⟨x | x | x, st⟩⟩ <;> first | exact nomatch (show (none : Option Out) = some out from hs) | (intro h1 h2 H locs ls hH hL hl; exact lv_acmp_ne hx hb hd ht (fun q => hJ _ _ _ _ (by have z := hs; simp only [stp] at z; first | rwa [if_pos q] at z | rwa [if_neg q] at z) h1 h2 H locs ls hH hL hl) (fun q => hk _ _ _ (by have z := hs; simp only [stp] at z; first | rwa [if_neg q] at z | rwa [if_pos q] at z) h1 h2 H locs ls hH hL hl))
theorem si_goto {M pc pc' : Nat} {off t : Int} {hp : Option Nat} (hd : decode (mby M) pc = .ok (.goto off, 3)) (ht : (pc : Int) + off = (t.toNat : Int)) : SimI M pc (.goto t) pc' hp := by
  intro E G p l e s m args below meth c hX d h0 out C J k hC hJ hk als ast h hs
  obtain ⟨hx, hb, hml, hown, hts, -, -, -, hE, -⟩ := hX
  intro h1 h2 H locs ls hH hL hl; exact lv_goto hx hb hd ht (hJ _ _ _ _ hs h1 h2 H locs ls hH hL hl)
theorem si_ifnull {M pc : Nat} {off t : Int} {hp : Option Nat} (hd : decode (mby M) pc = .ok (.ifnull off, 3)) (ht : (pc : Int) + off = (t.toNat : Int)) : SimI M pc (.ifnull t) (pc + 3) hp := by
  intro E G p l e s m args below meth c hX d h0 out C J k hC hJ hk als ast h hs
  obtain ⟨hx, hb, hml, hown, hts, -, -, -, hE, -⟩ := hX
  rcases ast with _ | ⟨x | x | (_ | x), st⟩ <;> first | exact nomatch (show (none : Option Out) = some out from hs) | (intro h1 h2 H locs ls hH hL hl; exact lv_ifnullN hx hb hd ht (hJ _ _ _ _ (by have z := hs; simp only [stp, if_true] at z; exact z) h1 h2 H locs ls hH hL hl)) | (intro h1 h2 H locs ls hH hL hl; exact lv_ifnull hx hb hd (hk _ _ _ (by have z := hs; simp only [stp] at z; rwa [if_neg (by simp)] at z) h1 h2 H locs ls hH hL hl))
theorem si_ifnonnull {M pc : Nat} {off t : Int} {hp : Option Nat} (hd : decode (mby M) pc = .ok (.ifnonnull off, 3)) (ht : (pc : Int) + off = (t.toNat : Int)) : SimI M pc (.ifnonnull t) (pc + 3) hp := by
  intro E G p l e s m args below meth c hX d h0 out C J k hC hJ hk als ast h hs
  obtain ⟨hx, hb, hml, hown, hts, -, -, -, hE, -⟩ := hX
  rcases ast with _ | ⟨x | x | (_ | x), st⟩ <;> first | exact nomatch (show (none : Option Out) = some out from hs) | (intro h1 h2 H locs ls hH hL hl; exact lv_ifnonnullN hx hb hd (hk _ _ _ (by have z := hs; simp only [stp, if_true] at z; exact z) h1 h2 H locs ls hH hL hl)) | (intro h1 h2 H locs ls hH hL hl; exact lv_ifnonnull hx hb hd ht (hJ _ _ _ _ (by have z := hs; simp only [stp] at z; rwa [if_neg (by simp)] at z) h1 h2 H locs ls hH hL hl))
