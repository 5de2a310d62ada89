/-! block equations, by alleqs.py out of the tables -/
set_option maxRecDepth 100000
/-! 244 java/util/AbstractCollection.<init>()V -/
theorem c244 (E : EV) (d : Nat) (t : Nat) (h : AH) : cal E (d + 1) 244 [vR (some t)] h = rn E d 244 0 [some (vR (some t))] [] h := cal_rn rfl rfl
theorem e244_0 (E : EV) (d : Nat) (t : Nat) (h : AH) : rn E d 244 0 [some (vR (some t))] [] h =
    some (Sum.inl none, h) := rn_b (b := b244_0) rfl
/-! 245 java/util/AbstractList.<init>()V -/
theorem c245 (E : EV) (d : Nat) (t : Nat) (h : AH) : cal E (d + 1) 245 [vR (some t)] h = rn E d 245 0 [some (vR (some t))] [] h := cal_rn rfl rfl
theorem e245_0 (E : EV) (d : Nat) (t : Nat) (h : AH) : rn E d 245 0 [some (vR (some t))] [] h =
    cV (cal E d 244 [vR (some t)] h) th fun h =>
    gd ((h.kd t == 3) && decide (E.bs ≤ t) && true) (hs (h.setI t 43 0) fun h =>
    some (Sum.inl none, h)) := rn_b (b := b245_0) rfl
/-! 246 java/lang/StringLatin1.canEncode(C)Z -/
theorem c246 (E : EV) (d : Nat) (x0_ : Int32) (h : AH) : cal E (d + 1) 246 [vI x0_] h = rn E d 246 0 [some (vI x0_)] [] h := cal_rn rfl rfl
theorem e246_0 (E : EV) (d : Nat) (x0_ : Int32) (h : AH) : rn E d 246 0 [some (vI x0_)] [] h =
    if 255 < x0_ then rn E d 246 11 [some (vI x0_)] [] h else
    rn E d 246 12 [some (vI x0_)] [vI 1] h := rn_b (b := b246_0) rfl
theorem e246_11 (E : EV) (d : Nat) (x0_ : Int32) (h : AH) : rn E d 246 11 [some (vI x0_)] [] h =
    rn E d 246 12 [some (vI x0_)] [vI 0] h := rn_b (b := b246_11) rfl
theorem e246_12 (E : EV) (d : Nat) (x0_ : Int32) (s0_ : Int32) (h : AH) : rn E d 246 12 [some (vI x0_)] [vI s0_] h =
    gd (decide (s0_ = 0) || decide (s0_ = 1)) (some (Sum.inl (some (vI s0_)), h)) := rn_b (b := b246_12) rfl
/-! 247 java/lang/StringLatin1.canEncode(I)Z -/
theorem c247 (E : EV) (d : Nat) (x0_ : Int32) (h : AH) : cal E (d + 1) 247 [vI x0_] h = rn E d 247 0 [some (vI x0_)] [] h := cal_rn rfl rfl
theorem e247_0 (E : EV) (d : Nat) (x0_ : Int32) (h : AH) : rn E d 247 0 [some (vI x0_)] [] h =
    if x0_ < 0 then rn E d 247 15 [some (vI x0_)] [] h else
    if 255 < x0_ then rn E d 247 15 [some (vI x0_)] [] h else
    rn E d 247 16 [some (vI x0_)] [vI 1] h := rn_b (b := b247_0) rfl
theorem e247_15 (E : EV) (d : Nat) (x0_ : Int32) (h : AH) : rn E d 247 15 [some (vI x0_)] [] h =
    rn E d 247 16 [some (vI x0_)] [vI 0] h := rn_b (b := b247_15) rfl
theorem e247_16 (E : EV) (d : Nat) (x0_ : Int32) (s0_ : Int32) (h : AH) : rn E d 247 16 [some (vI x0_)] [vI s0_] h =
    gd (decide (s0_ = 0) || decide (s0_ = 1)) (some (Sum.inl (some (vI s0_)), h)) := rn_b (b := b247_16) rfl
/-! 248 java/lang/StringLatin1.charAt([BI)C -/
theorem c248 (E : EV) (d : Nat) (x0_ : Option Nat) (x1_ : Int32) (h : AH) : cal E (d + 1) 248 [vR x0_, vI x1_] h = rn E d 248 0 [some (vR x0_), some (vI x1_)] [] h := cal_rn rfl rfl
theorem e248_0 (E : EV) (d : Nat) (r0_ : Option Nat) (x1_ : Int32) (h : AH) : rn E d 248 0 [some (vR r0_), some (vI x1_)] [] h =
    nn r0_ fun a1 =>
    gd (decide (101 ≤ h.kd a1)) (cV (cal E d 280 [vI x1_, vI (Int32.ofNat (h.ln a1))] h) th fun h =>
    nn r0_ fun a2 =>
    gd ((h.kd a2 == 102 || h.kd a2 == 103) && inb x1_ (h.ln a2)) (gd (decide ((((((h.I a2 x1_.toNatClampNeg) &&& 255).toUInt32 % 65536).toInt32).toUInt32 % 65536).toInt32 = ((((h.I a2 x1_.toNatClampNeg) &&& 255).toUInt32 % 65536).toInt32))) (some (Sum.inl (some (vI ((((h.I a2 x1_.toNatClampNeg) &&& 255).toUInt32 % 65536).toInt32))), h)))) := rn_b (b := b248_0) rfl
/-! 249 java/lang/StringLatin1.equals([B[B)Z -/
theorem c249 (E : EV) (d : Nat) (x0_ : Option Nat) (x1_ : Option Nat) (h : AH) : cal E (d + 1) 249 [vR x0_, vR x1_] h = rn E d 249 0 [some (vR x0_), some (vR x1_), none] [] h := cal_rn rfl rfl
theorem e249_0 (E : EV) (d : Nat) (r0_ : Option Nat) (r1_ : Option Nat) (o2_ : Option AV) (h : AH) : rn E d 249 0 [some (vR r0_), some (vR r1_), o2_] [] h =
    nn r0_ fun a1 =>
    gd (decide (101 ≤ h.kd a1)) (nn r1_ fun a2 =>
    gd (decide (101 ≤ h.kd a2)) (if (Int32.ofNat (h.ln a1)) = (Int32.ofNat (h.ln a2)) then
    rn E d 249 9 [some (vR r0_), some (vR r1_), some (vI 0)] [] h
    else rn E d 249 34 [some (vR r0_), some (vR r1_), o2_] [] h)) := rn_b (b := b249_0) rfl
theorem e249_9 (E : EV) (d : Nat) (r0_ : Option Nat) (r1_ : Option Nat) (x2_ : Int32) (h : AH) : rn E d 249 9 [some (vR r0_), some (vR r1_), some (vI x2_)] [] h =
    nn r0_ fun a1 =>
    gd (decide (101 ≤ h.kd a1)) (if (Int32.ofNat (h.ln a1)) ≤ x2_ then rn E d 249 32 [some (vR r0_), some (vR r1_), some (vI x2_)] [] h else
    nn r0_ fun a2 =>
    gd ((h.kd a2 == 102 || h.kd a2 == 103) && inb x2_ (h.ln a2)) (nn r1_ fun a3 =>
    gd ((h.kd a3 == 102 || h.kd a3 == 103) && inb x2_ (h.ln a3)) (if (h.I a2 x2_.toNatClampNeg) = (h.I a3 x2_.toNatClampNeg) then rn E d 249 26 [some (vR r0_), some (vR r1_), some (vI x2_)] [] h else
    some (Sum.inl (some (vI 0)), h)))) := rn_b (b := b249_9) rfl
theorem e249_26 (E : EV) (d : Nat) (r0_ : Option Nat) (r1_ : Option Nat) (x2_ : Int32) (h : AH) : rn E d 249 26 [some (vR r0_), some (vR r1_), some (vI x2_)] [] h =
    hs (x2_ + 1) fun x1 =>
    rn E d 249 9 [some (vR r0_), some (vR r1_), some (vI x1)] [] h := rn_b (b := b249_26) rfl
theorem e249_32 (E : EV) (d : Nat) (r0_ : Option Nat) (r1_ : Option Nat) (x2_ : Int32) (h : AH) : rn E d 249 32 [some (vR r0_), some (vR r1_), some (vI x2_)] [] h =
    some (Sum.inl (some (vI 1)), h) := rn_b (b := b249_32) rfl
theorem e249_34 (E : EV) (d : Nat) (r0_ : Option Nat) (r1_ : Option Nat) (o2_ : Option AV) (h : AH) : rn E d 249 34 [some (vR r0_), some (vR r1_), o2_] [] h =
    some (Sum.inl (some (vI 0)), h) := rn_b (b := b249_34) rfl
/-! 250 java/lang/StringLatin1.hashCode([B)I -/
theorem c250 (E : EV) (d : Nat) (x0_ : Option Nat) (h : AH) : cal E (d + 1) 250 [vR x0_] h = rn E d 250 0 [some (vR x0_)] [] h := cal_rn rfl rfl
theorem e250_0 (E : EV) (d : Nat) (r0_ : Option Nat) (h : AH) : rn E d 250 0 [some (vR r0_)] [] h =
    nn r0_ fun a1 =>
    gd (decide (101 ≤ h.kd a1)) (if (Int32.ofNat (h.ln a1)) = 0 then rn E d 250 28 [some (vR r0_)] [] h else
    if (Int32.ofNat (h.ln a1)) = 1 then rn E d 250 32 [some (vR r0_)] [] h else
    rn E d 250 42 [some (vR r0_)] [] h) := rn_b (b := b250_0) rfl
theorem e250_28 (E : EV) (d : Nat) (r0_ : Option Nat) (h : AH) : rn E d 250 28 [some (vR r0_)] [] h =
    rn E d 250 51 [some (vR r0_)] [vI 0] h := rn_b (b := b250_28) rfl
theorem e250_32 (E : EV) (d : Nat) (r0_ : Option Nat) (h : AH) : rn E d 250 32 [some (vR r0_)] [] h =
    nn r0_ fun a1 =>
    gd ((h.kd a1 == 102 || h.kd a1 == 103) && inb 0 (h.ln a1)) (rn E d 250 51 [some (vR r0_)] [vI ((h.I a1 (0 : Int32).toNatClampNeg) &&& 255)] h) := rn_b (b := b250_32) rfl
theorem e250_42 (E : EV) (d : Nat) (r0_ : Option Nat) (h : AH) : rn E d 250 42 [some (vR r0_)] [] h =
    nn r0_ fun a1 =>
    gd (decide (101 ≤ h.kd a1)) (cI (cal E d 292 [vR r0_, vI 0, vI (Int32.ofNat (h.ln a1)), vI 0, vI 4] h) th fun v2 h =>
    rn E d 250 51 [some (vR r0_)] [vI v2] h) := rn_b (b := b250_42) rfl
theorem e250_51 (E : EV) (d : Nat) (r0_ : Option Nat) (s0_ : Int32) (h : AH) : rn E d 250 51 [some (vR r0_)] [vI s0_] h =
    some (Sum.inl (some (vI s0_)), h) := rn_b (b := b250_51) rfl
/-! 251 java/lang/StringLatin1.indexOfChar([BIII)I -/
theorem c251 (E : EV) (d : Nat) (x0_ : Option Nat) (x1_ : Int32) (x2_ : Int32) (x3_ : Int32) (h : AH) : cal E (d + 1) 251 [vR x0_, vI x1_, vI x2_, vI x3_] h = rn E d 251 0 [some (vR x0_), some (vI x1_), some (vI x2_), some (vI x3_), none, none] [] h := cal_rn rfl rfl
theorem e251_0 (E : EV) (d : Nat) (r0_ : Option Nat) (x1_ : Int32) (x2_ : Int32) (x3_ : Int32) (o4_ : Option AV) (o5_ : Option AV) (h : AH) : rn E d 251 0 [some (vR r0_), some (vI x1_), some (vI x2_), some (vI x3_), o4_, o5_] [] h =
    hs x1_.toInt8.toInt32 fun x1 =>
    rn E d 251 7 [some (vR r0_), some (vI x1_), some (vI x2_), some (vI x3_), some (vI x1), some (vI x2_)] [] h := rn_b (b := b251_0) rfl
theorem e251_7 (E : EV) (d : Nat) (r0_ : Option Nat) (x1_ : Int32) (x2_ : Int32) (x3_ : Int32) (x4_ : Int32) (x5_ : Int32) (h : AH) : rn E d 251 7 [some (vR r0_), some (vI x1_), some (vI x2_), some (vI x3_), some (vI x4_), some (vI x5_)] [] h =
    if x3_ ≤ x5_ then rn E d 251 31 [some (vR r0_), some (vI x1_), some (vI x2_), some (vI x3_), some (vI x4_), some (vI x5_)] [] h else
    nn r0_ fun a1 =>
    gd ((h.kd a1 == 102 || h.kd a1 == 103) && inb x5_ (h.ln a1)) (if (h.I a1 x5_.toNatClampNeg) = x4_ then
    some (Sum.inl (some (vI x5_)), h)
    else rn E d 251 25 [some (vR r0_), some (vI x1_), some (vI x2_), some (vI x3_), some (vI x4_), some (vI x5_)] [] h) := rn_b (b := b251_7) rfl
theorem e251_25 (E : EV) (d : Nat) (r0_ : Option Nat) (x1_ : Int32) (x2_ : Int32) (x3_ : Int32) (x4_ : Int32) (x5_ : Int32) (h : AH) : rn E d 251 25 [some (vR r0_), some (vI x1_), some (vI x2_), some (vI x3_), some (vI x4_), some (vI x5_)] [] h =
    hs (x5_ + 1) fun x1 =>
    rn E d 251 7 [some (vR r0_), some (vI x1_), some (vI x2_), some (vI x3_), some (vI x4_), some (vI x1)] [] h := rn_b (b := b251_25) rfl
theorem e251_31 (E : EV) (d : Nat) (r0_ : Option Nat) (x1_ : Int32) (x2_ : Int32) (x3_ : Int32) (x4_ : Int32) (x5_ : Int32) (h : AH) : rn E d 251 31 [some (vR r0_), some (vI x1_), some (vI x2_), some (vI x3_), some (vI x4_), some (vI x5_)] [] h =
    some (Sum.inl (some (vI (-1))), h) := rn_b (b := b251_31) rfl
/-! 252 java/lang/StringLatin1.indexOf([BIII)I -/
theorem c252 (E : EV) (d : Nat) (x0_ : Option Nat) (x1_ : Int32) (x2_ : Int32) (x3_ : Int32) (h : AH) : cal E (d + 1) 252 [vR x0_, vI x1_, vI x2_, vI x3_] h = rn E d 252 0 [some (vR x0_), some (vI x1_), some (vI x2_), some (vI x3_)] [] h := cal_rn rfl rfl
theorem e252_0 (E : EV) (d : Nat) (r0_ : Option Nat) (x1_ : Int32) (x2_ : Int32) (x3_ : Int32) (h : AH) : rn E d 252 0 [some (vR r0_), some (vI x1_), some (vI x2_), some (vI x3_)] [] h =
    cI (cal E d 247 [vI x1_] h) th fun v1 h =>
    if v1 = 0 then
    some (Sum.inl (some (vI (-1))), h)
    else rn E d 252 9 [some (vR r0_), some (vI x1_), some (vI x2_), some (vI x3_)] [] h := rn_b (b := b252_0) rfl
theorem e252_9 (E : EV) (d : Nat) (r0_ : Option Nat) (x1_ : Int32) (x2_ : Int32) (x3_ : Int32) (h : AH) : rn E d 252 9 [some (vR r0_), some (vI x1_), some (vI x2_), some (vI x3_)] [] h =
    cI (cal E d 294 [vI x2_, vI 0] h) th fun v1 h =>
    nn r0_ fun a2 =>
    gd (decide (101 ≤ h.kd a2)) (cI (cal E d 295 [vI x3_, vI (Int32.ofNat (h.ln a2))] h) th fun v3 h =>
    if v1 < v3 then rn E d 252 29 [some (vR r0_), some (vI x1_), some (vI v1), some (vI v3)] [] h else
    some (Sum.inl (some (vI (-1))), h)) := rn_b (b := b252_9) rfl
theorem e252_29 (E : EV) (d : Nat) (r0_ : Option Nat) (x1_ : Int32) (x2_ : Int32) (x3_ : Int32) (h : AH) : rn E d 252 29 [some (vR r0_), some (vI x1_), some (vI x2_), some (vI x3_)] [] h =
    cI (cal E d 251 [vR r0_, vI x1_, vI x2_, vI x3_] h) th fun v1 h =>
    some (Sum.inl (some (vI v1)), h) := rn_b (b := b252_29) rfl
/-! 253 jdk/internal/util/Preconditions.checkIndex(IILjava/util/function/BiFunction;)I -/
theorem c253 (E : EV) (d : Nat) (x0_ : Int32) (x1_ : Int32) (x2_ : Option Nat) (h : AH) : cal E (d + 1) 253 [vI x0_, vI x1_, vR x2_] h = rn E d 253 0 [some (vI x0_), some (vI x1_), some (vR x2_)] [] h := cal_rn rfl rfl
theorem e253_0 (E : EV) (d : Nat) (x0_ : Int32) (x1_ : Int32) (r2_ : Option Nat) (h : AH) : rn E d 253 0 [some (vI x0_), some (vI x1_), some (vR r2_)] [] h =
    if x0_ < 0 then rn E d 253 9 [some (vI x0_), some (vI x1_), some (vR r2_)] [] h else
    if x0_ < x1_ then rn E d 253 16 [some (vI x0_), some (vI x1_), some (vR r2_)] [] h else
    rn E d 253 9 [some (vI x0_), some (vI x1_), some (vR r2_)] [] h := rn_b (b := b253_0) rfl
theorem e253_9 (E : EV) (d : Nat) (x0_ : Int32) (x1_ : Int32) (r2_ : Option Nat) (h : AH) : rn E d 253 9 [some (vI x0_), some (vI x1_), some (vR r2_)] [] h =
    none := rn_b (b := b253_9) rfl
theorem e253_16 (E : EV) (d : Nat) (x0_ : Int32) (x1_ : Int32) (r2_ : Option Nat) (h : AH) : rn E d 253 16 [some (vI x0_), some (vI x1_), some (vR r2_)] [] h =
    some (Sum.inl (some (vI x0_)), h) := rn_b (b := b253_16) rfl
/-! 254 java/lang/Throwable.<init>(Ljava/lang/String;Ljava/lang/Throwable;ZZ)V -/
theorem c254 (E : EV) (d : Nat) (t : Nat) (x1_ : Option Nat) (x2_ : Option Nat) (x3_ : Int32) (x4_ : Int32) (h : AH) : cal E (d + 1) 254 [vR (some t), vR x1_, vR x2_, vI x3_, vI x4_] h = rn E d 254 0 [some (vR (some t)), some (vR x1_), some (vR x2_), some (vI x3_), some (vI x4_)] [] h := cal_rn rfl rfl
theorem e254_0 (E : EV) (d : Nat) (t : Nat) (r1_ : Option Nat) (r2_ : Option Nat) (x3_ : Int32) (x4_ : Int32) (h : AH) : rn E d 254 0 [some (vR (some t)), some (vR r1_), some (vR r2_), some (vI x3_), some (vI x4_)] [] h =
    gd ((h.kd t == 8) && decide (E.bs ≤ t)) (hs (h.setR t 65 (some t)) fun h =>
    gd ((h.kd t == 8) && decide (E.bs ≤ t)) (hs (h.setR t 66 (E.sr 7)) fun h =>
    gd ((h.kd t == 8) && decide (E.bs ≤ t)) (hs (h.setR t 67 (E.sr 8)) fun h =>
    if x4_ = 0 then rn E d 254 36 [some (vR (some t)), some (vR r1_), some (vR r2_), some (vI x3_), some (vI x4_)] [] h else
    none))) := rn_b (b := b254_0) rfl
theorem e254_36 (E : EV) (d : Nat) (t : Nat) (r1_ : Option Nat) (r2_ : Option Nat) (x3_ : Int32) (x4_ : Int32) (h : AH) : rn E d 254 36 [some (vR (some t)), some (vR r1_), some (vR r2_), some (vI x3_), some (vI x4_)] [] h =
    gd ((h.kd t == 8) && decide (E.bs ≤ t)) (hs (h.setR t 66 none) fun h =>
    rn E d 254 41 [some (vR (some t)), some (vR r1_), some (vR r2_), some (vI x3_), some (vI x4_)] [] h) := rn_b (b := b254_36) rfl
theorem e254_41 (E : EV) (d : Nat) (t : Nat) (r1_ : Option Nat) (r2_ : Option Nat) (x3_ : Int32) (x4_ : Int32) (h : AH) : rn E d 254 41 [some (vR (some t)), some (vR r1_), some (vR r2_), some (vI x3_), some (vI x4_)] [] h =
    gd ((h.kd t == 8) && decide (E.bs ≤ t)) (hs (h.setR t 68 r1_) fun h =>
    gd ((h.kd t == 8) && decide (E.bs ≤ t)) (hs (h.setR t 65 r2_) fun h =>
    if x3_ = 0 then
    gd ((h.kd t == 8) && decide (E.bs ≤ t)) (hs (h.setR t 67 none) fun h =>
    rn E d 254 60 [some (vR (some t)), some (vR r1_), some (vR r2_), some (vI x3_), some (vI x4_)] [] h)
    else rn E d 254 60 [some (vR (some t)), some (vR r1_), some (vR r2_), some (vI x3_), some (vI x4_)] [] h)) := rn_b (b := b254_41) rfl
theorem e254_60 (E : EV) (d : Nat) (t : Nat) (r1_ : Option Nat) (r2_ : Option Nat) (x3_ : Int32) (x4_ : Int32) (h : AH) : rn E d 254 60 [some (vR (some t)), some (vR r1_), some (vR r2_), some (vI x3_), some (vI x4_)] [] h =
    some (Sum.inl none, h) := rn_b (b := b254_60) rfl
/-! 255 java/lang/Exception.<init>(Ljava/lang/String;Ljava/lang/Throwable;ZZ)V -/
theorem c255 (E : EV) (d : Nat) (t : Nat) (x1_ : Option Nat) (x2_ : Option Nat) (x3_ : Int32) (x4_ : Int32) (h : AH) : cal E (d + 1) 255 [vR (some t), vR x1_, vR x2_, vI x3_, vI x4_] h = rn E d 255 0 [some (vR (some t)), some (vR x1_), some (vR x2_), some (vI x3_), some (vI x4_)] [] h := cal_rn rfl rfl
theorem e255_0 (E : EV) (d : Nat) (t : Nat) (r1_ : Option Nat) (r2_ : Option Nat) (x3_ : Int32) (x4_ : Int32) (h : AH) : rn E d 255 0 [some (vR (some t)), some (vR r1_), some (vR r2_), some (vI x3_), some (vI x4_)] [] h =
    cV (cal E d 254 [vR (some t), vR r1_, vR r2_, vI x3_, vI x4_] h) th fun h =>
    some (Sum.inl none, h) := rn_b (b := b255_0) rfl
/-! 256 java/util/Objects.checkIndex(II)I -/
theorem c256 (E : EV) (d : Nat) (x0_ : Int32) (x1_ : Int32) (h : AH) : cal E (d + 1) 256 [vI x0_, vI x1_] h = rn E d 256 0 [some (vI x0_), some (vI x1_)] [] h := cal_rn rfl rfl
theorem e256_0 (E : EV) (d : Nat) (x0_ : Int32) (x1_ : Int32) (h : AH) : rn E d 256 0 [some (vI x0_), some (vI x1_)] [] h =
    cI (cal E d 253 [vI x0_, vI x1_, vR none] h) th fun v1 h =>
    some (Sum.inl (some (vI v1)), h) := rn_b (b := b256_0) rfl
/-! 257 java/lang/Integer.bitCount(I)I -/
theorem c257 (E : EV) (d : Nat) (x0_ : Int32) (h : AH) : cal E (d + 1) 257 [vI x0_] h = rn E d 257 0 [some (vI x0_)] [] h := cal_rn rfl rfl
theorem e257_0 (E : EV) (d : Nat) (x0_ : Int32) (h : AH) : rn E d 257 0 [some (vI x0_)] [] h =
    hs (x0_ - (((x0_.toUInt32 >>> ((1 : Int32).toUInt32 &&& Int32.toUInt32 31)).toInt32) &&& 1431655765)) fun x1 =>
    hs ((x1 &&& 858993459) + (((x1.toUInt32 >>> ((2 : Int32).toUInt32 &&& Int32.toUInt32 31)).toInt32) &&& 858993459)) fun x2 =>
    hs ((x2 + ((x2.toUInt32 >>> ((4 : Int32).toUInt32 &&& Int32.toUInt32 31)).toInt32)) &&& 252645135) fun x3 =>
    hs (x3 + ((x3.toUInt32 >>> ((8 : Int32).toUInt32 &&& Int32.toUInt32 31)).toInt32)) fun x4 =>
    hs (x4 + ((x4.toUInt32 >>> ((16 : Int32).toUInt32 &&& Int32.toUInt32 31)).toInt32)) fun x5 =>
    some (Sum.inl (some (vI (x5 &&& 63))), h) := rn_b (b := b257_0) rfl
/-! 258 java/lang/Integer.intValue()I -/
theorem c258 (E : EV) (d : Nat) (t : Nat) (h : AH) : cal E (d + 1) 258 [vR (some t)] h = rn E d 258 0 [some (vR (some t))] [] h := cal_rn rfl rfl
theorem e258_0 (E : EV) (d : Nat) (t : Nat) (h : AH) : rn E d 258 0 [some (vR (some t))] [] h =
    gd (h.kd t == 17) (some (Sum.inl (some (vI (h.I t 92))), h)) := rn_b (b := b258_0) rfl
/-! 259 java/lang/Integer.valueOf(I)Ljava/lang/Integer; -/
theorem c259 (E : EV) (d : Nat) (x0_ : Int32) (h : AH) : cal E (d + 1) 259 [vI x0_] h = rn E d 259 0 [some (vI x0_)] [] h := cal_rn rfl rfl
theorem e259_0 (E : EV) (d : Nat) (x0_ : Int32) (h : AH) : rn E d 259 0 [some (vI x0_)] [] h =
    if x0_ < (-128) then rn E d 259 23 [some (vI x0_)] [] h else
    if (E.si 10) < x0_ then rn E d 259 23 [some (vI x0_)] [] h else
    nn (E.sr 11) fun a1 =>
    gd (decide (105 ≤ h.kd a1) && inb (x0_ + 128) (h.ln a1)) (some (Sum.inl (some (vR (h.R a1 (x0_ + 128).toNatClampNeg))), h)) := rn_b (b := b259_0) rfl
theorem e259_23 (E : EV) (d : Nat) (x0_ : Int32) (h : AH) : rn E d 259 23 [some (vI x0_)] [] h =
    gd (decide (h.nx + 1 ≤ E.lc) && decide (h.us + 1 ≤ E.lu)) (hs h.nx fun n1 => hs (h.mk 17 0 1) fun h =>
    none) := rn_b (b := b259_23) rfl
/-! 260 java/util/ArrayList.add(Ljava/lang/Object;)Z -/
theorem c260 (E : EV) (d : Nat) (t : Nat) (x1_ : Option Nat) (h : AH) : cal E (d + 1) 260 [vR (some t), vR x1_] h = rn E d 260 0 [some (vR (some t)), some (vR x1_)] [] h := cal_rn rfl rfl
theorem e260_0 (E : EV) (d : Nat) (t : Nat) (r1_ : Option Nat) (h : AH) : rn E d 260 0 [some (vR (some t)), some (vR r1_)] [] h =
    gd (h.kd t == 3) (gd ((h.kd t == 3) && decide (E.bs ≤ t) && true) (hs (h.setI t 43 ((h.I t 43) + 1)) fun h =>
    gd (h.kd t == 3) (gd (h.kd t == 3) (gd (h.kd t == 3) (cV (cal E d 261 [vR (some t), vR r1_, vR (h.R t 44), vI (h.I t 45)] h) th fun h =>
    some (Sum.inl (some (vI 1)), h)))))) := rn_b (b := b260_0) rfl
/-! 261 java/util/ArrayList.add(Ljava/lang/Object;[Ljava/lang/Object;I)V -/
theorem c261 (E : EV) (d : Nat) (t : Nat) (x1_ : Option Nat) (x2_ : Option Nat) (x3_ : Int32) (h : AH) : cal E (d + 1) 261 [vR (some t), vR x1_, vR x2_, vI x3_] h = rn E d 261 0 [some (vR (some t)), some (vR x1_), some (vR x2_), some (vI x3_)] [] h := cal_rn rfl rfl
theorem e261_0 (E : EV) (d : Nat) (t : Nat) (r1_ : Option Nat) (r2_ : Option Nat) (x3_ : Int32) (h : AH) : rn E d 261 0 [some (vR (some t)), some (vR r1_), some (vR r2_), some (vI x3_)] [] h =
    nn r2_ fun a1 =>
    gd (decide (101 ≤ h.kd a1)) (if x3_ = (Int32.ofNat (h.ln a1)) then
    gd (h.kd t == 3) (cR (cal E d 265 [vR (some t)] h) th fun r2 h =>
    rn E d 261 11 [some (vR (some t)), some (vR r1_), some (vR r2), some (vI x3_)] [] h)
    else rn E d 261 11 [some (vR (some t)), some (vR r1_), some (vR r2_), some (vI x3_)] [] h) := rn_b (b := b261_0) rfl
theorem e261_11 (E : EV) (d : Nat) (t : Nat) (r1_ : Option Nat) (r2_ : Option Nat) (x3_ : Int32) (h : AH) : rn E d 261 11 [some (vR (some t)), some (vR r1_), some (vR r2_), some (vI x3_)] [] h =
    nn r2_ fun a1 =>
    gd (decide (105 ≤ h.kd a1) && decide (h.kd a1 < 108) && inb x3_ (h.ln a1) && decide (E.bs ≤ a1) && okA h a1 r1_) (hs (h.setR a1 x3_.toNatClampNeg r1_) fun h =>
    gd ((h.kd t == 3) && decide (E.bs ≤ t) && true) (hs (h.setI t 45 (x3_ + 1)) fun h =>
    some (Sum.inl none, h))) := rn_b (b := b261_11) rfl
/-! 262 java/util/ArrayList.clear()V -/
theorem c262 (E : EV) (d : Nat) (t : Nat) (h : AH) : cal E (d + 1) 262 [vR (some t)] h = rn E d 262 0 [some (vR (some t)), none, none, none] [] h := cal_rn rfl rfl
theorem e262_0 (E : EV) (d : Nat) (t : Nat) (o1_ : Option AV) (o2_ : Option AV) (o3_ : Option AV) (h : AH) : rn E d 262 0 [some (vR (some t)), o1_, o2_, o3_] [] h =
    gd (h.kd t == 3) (gd ((h.kd t == 3) && decide (E.bs ≤ t) && true) (hs (h.setI t 43 ((h.I t 43) + 1)) fun h =>
    gd (h.kd t == 3) (hs (h.R t 44) fun r1 =>
    gd (h.kd t == 3) (hs (h.I t 45) fun x2 =>
    gd ((h.kd t == 3) && decide (E.bs ≤ t) && true) (hs (h.setI t 45 0) fun h =>
    rn E d 262 27 [some (vR (some t)), some (vR r1), some (vI x2), some (vI 0)] [] h))))) := rn_b (b := b262_0) rfl
theorem e262_27 (E : EV) (d : Nat) (t : Nat) (r1_ : Option Nat) (x2_ : Int32) (x3_ : Int32) (h : AH) : rn E d 262 27 [some (vR (some t)), some (vR r1_), some (vI x2_), some (vI x3_)] [] h =
    if x2_ ≤ x3_ then rn E d 262 42 [some (vR (some t)), some (vR r1_), some (vI x2_), some (vI x3_)] [] h else
    nn r1_ fun a1 =>
    gd (decide (105 ≤ h.kd a1) && decide (h.kd a1 < 108) && inb x3_ (h.ln a1) && decide (E.bs ≤ a1) && true) (hs (h.setR a1 x3_.toNatClampNeg none) fun h =>
    hs (x3_ + 1) fun x2 =>
    rn E d 262 27 [some (vR (some t)), some (vR r1_), some (vI x2_), some (vI x2)] [] h) := rn_b (b := b262_27) rfl
theorem e262_42 (E : EV) (d : Nat) (t : Nat) (r1_ : Option Nat) (x2_ : Int32) (x3_ : Int32) (h : AH) : rn E d 262 42 [some (vR (some t)), some (vR r1_), some (vI x2_), some (vI x3_)] [] h =
    some (Sum.inl none, h) := rn_b (b := b262_42) rfl
/-! 263 java/util/ArrayList.elementData(I)Ljava/lang/Object; -/
theorem c263 (E : EV) (d : Nat) (t : Nat) (x1_ : Int32) (h : AH) : cal E (d + 1) 263 [vR (some t), vI x1_] h = rn E d 263 0 [some (vR (some t)), some (vI x1_)] [] h := cal_rn rfl rfl
theorem e263_0 (E : EV) (d : Nat) (t : Nat) (x1_ : Int32) (h : AH) : rn E d 263 0 [some (vR (some t)), some (vI x1_)] [] h =
    gd (h.kd t == 3) (nn (h.R t 44) fun a1 =>
    gd (decide (105 ≤ h.kd a1) && inb x1_ (h.ln a1)) (some (Sum.inl (some (vR (h.R a1 x1_.toNatClampNeg))), h))) := rn_b (b := b263_0) rfl
/-! 264 java/util/ArrayList.get(I)Ljava/lang/Object; -/
theorem c264 (E : EV) (d : Nat) (t : Nat) (x1_ : Int32) (h : AH) : cal E (d + 1) 264 [vR (some t), vI x1_] h = rn E d 264 0 [some (vR (some t)), some (vI x1_)] [] h := cal_rn rfl rfl
theorem e264_0 (E : EV) (d : Nat) (t : Nat) (x1_ : Int32) (h : AH) : rn E d 264 0 [some (vR (some t)), some (vI x1_)] [] h =
    gd (h.kd t == 3) (cI (cal E d 256 [vI x1_, vI (h.I t 45)] h) th fun v1 h =>
    gd (h.kd t == 3) (cR (cal E d 263 [vR (some t), vI x1_] h) th fun r2 h =>
    some (Sum.inl (some (vR r2)), h))) := rn_b (b := b264_0) rfl
/-! 265 java/util/ArrayList.grow()[Ljava/lang/Object; -/
theorem c265 (E : EV) (d : Nat) (t : Nat) (h : AH) : cal E (d + 1) 265 [vR (some t)] h = rn E d 265 0 [some (vR (some t))] [] h := cal_rn rfl rfl
theorem e265_0 (E : EV) (d : Nat) (t : Nat) (h : AH) : rn E d 265 0 [some (vR (some t))] [] h =
    gd (h.kd t == 3) (gd (h.kd t == 3) (cR (cal E d 266 [vR (some t), vI ((h.I t 45) + 1)] h) th fun r1 h =>
    some (Sum.inl (some (vR r1)), h))) := rn_b (b := b265_0) rfl
/-! 266 java/util/ArrayList.grow(I)[Ljava/lang/Object; -/
theorem c266 (E : EV) (d : Nat) (t : Nat) (x1_ : Int32) (h : AH) : cal E (d + 1) 266 [vR (some t), vI x1_] h = rn E d 266 0 [some (vR (some t)), some (vI x1_), none, none] [] h := cal_rn rfl rfl
theorem e266_0 (E : EV) (d : Nat) (t : Nat) (x1_ : Int32) (o2_ : Option AV) (o3_ : Option AV) (h : AH) : rn E d 266 0 [some (vR (some t)), some (vI x1_), o2_, o3_] [] h =
    gd (h.kd t == 3) (nn (h.R t 44) fun a1 =>
    gd (decide (101 ≤ h.kd a1)) (hs (Int32.ofNat (h.ln a1)) fun x2 =>
    if 0 < x2 then rn E d 266 20 [some (vR (some t)), some (vI x1_), some (vI x2), o3_] [] h else
    gd (h.kd t == 3) (if (h.R t 44) = (E.sr 9) then rn E d 266 45 [some (vR (some t)), some (vI x1_), some (vI x2), o3_] [] h else
    rn E d 266 20 [some (vR (some t)), some (vI x1_), some (vI x2), o3_] [] h))) := rn_b (b := b266_0) rfl
theorem e266_20 (E : EV) (d : Nat) (t : Nat) (x1_ : Int32) (x2_ : Int32) (o3_ : Option AV) (h : AH) : rn E d 266 20 [some (vR (some t)), some (vI x1_), some (vI x2_), o3_] [] h =
    cI (cal E d 290 [vI x2_, vI (x1_ - x2_), vI (x2_ >>> (1 &&& 31))] h) th fun v1 h =>
    gd (h.kd t == 3) (cR (cal E d 299 [vR (h.R t 44), vI v1] h) th fun r2 h =>
    gd ((h.kd t == 3) && decide (E.bs ≤ t)) (hs (h.setR t 44 r2) fun h =>
    some (Sum.inl (some (vR r2)), h))) := rn_b (b := b266_20) rfl
theorem e266_45 (E : EV) (d : Nat) (t : Nat) (x1_ : Int32) (x2_ : Int32) (o3_ : Option AV) (h : AH) : rn E d 266 45 [some (vR (some t)), some (vI x1_), some (vI x2_), o3_] [] h =
    cI (cal E d 294 [vI 10, vI x1_] h) th fun v1 h =>
    gd (decide (0 ≤ v1) && decide (v1.toNatClampNeg ≤ 1048576) && decide (h.nx + 1 ≤ E.lc) && decide (h.us + v1.toNatClampNeg ≤ E.lu)) (hs h.nx fun n2 => hs (h.mk 105 v1.toNatClampNeg v1.toNatClampNeg) fun h =>
    gd ((h.kd t == 3) && decide (E.bs ≤ t)) (hs (h.setR t 44 (some n2)) fun h =>
    some (Sum.inl (some (vR (some n2))), h))) := rn_b (b := b266_45) rfl
/-! 267 java/util/ArrayList.<init>(I)V -/
theorem c267 (E : EV) (d : Nat) (t : Nat) (x1_ : Int32) (h : AH) : cal E (d + 1) 267 [vR (some t), vI x1_] h = rn E d 267 0 [some (vR (some t)), some (vI x1_)] [] h := cal_rn rfl rfl
theorem e267_0 (E : EV) (d : Nat) (t : Nat) (x1_ : Int32) (h : AH) : rn E d 267 0 [some (vR (some t)), some (vI x1_)] [] h =
    cV (cal E d 245 [vR (some t)] h) th fun h =>
    if x1_ ≤ 0 then rn E d 267 19 [some (vR (some t)), some (vI x1_)] [] h else
    gd (decide (0 ≤ x1_) && decide (x1_.toNatClampNeg ≤ 1048576) && decide (h.nx + 1 ≤ E.lc) && decide (h.us + x1_.toNatClampNeg ≤ E.lu)) (hs h.nx fun n1 => hs (h.mk 105 x1_.toNatClampNeg x1_.toNatClampNeg) fun h =>
    gd ((h.kd t == 3) && decide (E.bs ≤ t)) (hs (h.setR t 44 (some n1)) fun h =>
    rn E d 267 60 [some (vR (some t)), some (vI x1_)] [] h)) := rn_b (b := b267_0) rfl
theorem e267_19 (E : EV) (d : Nat) (t : Nat) (x1_ : Int32) (h : AH) : rn E d 267 19 [some (vR (some t)), some (vI x1_)] [] h =
    if x1_ = 0 then
    gd ((h.kd t == 3) && decide (E.bs ≤ t)) (hs (h.setR t 44 (E.sr 0)) fun h =>
    rn E d 267 60 [some (vR (some t)), some (vI x1_)] [] h)
    else rn E d 267 33 [some (vR (some t)), some (vI x1_)] [] h := rn_b (b := b267_19) rfl
theorem e267_33 (E : EV) (d : Nat) (t : Nat) (x1_ : Int32) (h : AH) : rn E d 267 33 [some (vR (some t)), some (vI x1_)] [] h =
    none := rn_b (b := b267_33) rfl
theorem e267_60 (E : EV) (d : Nat) (t : Nat) (x1_ : Int32) (h : AH) : rn E d 267 60 [some (vR (some t)), some (vI x1_)] [] h =
    some (Sum.inl none, h) := rn_b (b := b267_60) rfl
/-! 268 java/util/ArrayList.size()I -/
theorem c268 (E : EV) (d : Nat) (t : Nat) (h : AH) : cal E (d + 1) 268 [vR (some t)] h = rn E d 268 0 [some (vR (some t))] [] h := cal_rn rfl rfl
theorem e268_0 (E : EV) (d : Nat) (t : Nat) (h : AH) : rn E d 268 0 [some (vR (some t))] [] h =
    gd (h.kd t == 3) (some (Sum.inl (some (vI (h.I t 45))), h)) := rn_b (b := b268_0) rfl
/-! 269 java/lang/AbstractStringBuilder.append(C)Ljava/lang/AbstractStringBuilder; -/
theorem c269 (E : EV) (d : Nat) (t : Nat) (x1_ : Int32) (h : AH) : cal E (d + 1) 269 [vR (some t), vI x1_] h = rn E d 269 0 [some (vR (some t)), some (vI x1_)] [] h := cal_rn rfl rfl
theorem e269_0 (E : EV) (d : Nat) (t : Nat) (x1_ : Int32) (h : AH) : rn E d 269 0 [some (vR (some t)), some (vI x1_)] [] h =
    gd (h.kd t == 6) (gd (h.kd t == 6) (cV (cal E d 270 [vR (some t), vI ((h.I t 60) + 1)] h) th fun h =>
    gd (h.kd t == 6) (cI (cal E d 273 [vR (some t)] h) th fun v1 h =>
    if v1 = 0 then rn E d 269 45 [some (vR (some t)), some (vI x1_)] [] h else
    cI (cal E d 246 [vI x1_] h) th fun v2 h =>
    if v2 = 0 then rn E d 269 45 [some (vR (some t)), some (vI x1_)] [] h else
    gd (h.kd t == 6) (gd (h.kd t == 6) (gd ((h.kd t == 6) && decide (E.bs ≤ t) && true) (hs (h.R t 57) fun q3 =>
    hs (h.I t 60) fun y4 =>
    hs (h.setI t 60 ((h.I t 60) + 1)) fun h =>
    nn q3 fun a5 =>
    gd ((h.kd a5 == 102 || h.kd a5 == 103) && inb y4 (h.ln a5) && decide (E.bs ≤ a5)) (hs (h.setI a5 y4.toNatClampNeg (if h.kd a5 = 102 then x1_.toInt8.toInt32.toInt8.toInt32 else x1_.toInt8.toInt32 &&& 1)) fun h =>
    rn E d 269 75 [some (vR (some t)), some (vI x1_)] [] h))))))) := rn_b (b := b269_0) rfl
theorem e269_45 (E : EV) (d : Nat) (t : Nat) (x1_ : Int32) (h : AH) : rn E d 269 45 [some (vR (some t)), some (vI x1_)] [] h =
    gd (h.kd t == 6) (cI (cal E d 273 [vR (some t)] h) th fun v1 h =>
    if v1 = 0 then rn E d 269 56 [some (vR (some t)), some (vI x1_)] [] h else
    none) := rn_b (b := b269_45) rfl
theorem e269_56 (E : EV) (d : Nat) (t : Nat) (x1_ : Int32) (h : AH) : rn E d 269 56 [some (vR (some t)), some (vI x1_)] [] h =
    gd (h.kd t == 6) (gd (h.kd t == 6) (gd ((h.kd t == 6) && decide (E.bs ≤ t) && true) (hs (h.R t 57) fun q1 =>
    hs (h.I t 60) fun y2 =>
    hs (h.setI t 60 ((h.I t 60) + 1)) fun h =>
    none))) := rn_b (b := b269_56) rfl
theorem e269_75 (E : EV) (d : Nat) (t : Nat) (x1_ : Int32) (h : AH) : rn E d 269 75 [some (vR (some t)), some (vI x1_)] [] h =
    some (Sum.inl (some (vR (some t))), h) := rn_b (b := b269_75) rfl
/-! 270 java/lang/AbstractStringBuilder.ensureCapacityInternal(I)V -/
theorem c270 (E : EV) (d : Nat) (t : Nat) (x1_ : Int32) (h : AH) : cal E (d + 1) 270 [vR (some t), vI x1_] h = rn E d 270 0 [some (vR (some t)), some (vI x1_), none] [] h := cal_rn rfl rfl
theorem e270_0 (E : EV) (d : Nat) (t : Nat) (x1_ : Int32) (o2_ : Option AV) (h : AH) : rn E d 270 0 [some (vR (some t)), some (vI x1_), o2_] [] h =
    gd (h.kd t == 6) (nn (h.R t 57) fun a1 =>
    gd (decide (101 ≤ h.kd a1)) (gd (h.kd t == 6) (hs ((Int32.ofNat (h.ln a1)) >>> ((h.I t 58) &&& 31)) fun x2 =>
    if (x1_ - x2) ≤ 0 then rn E d 270 38 [some (vR (some t)), some (vI x1_), some (vI x2)] [] h else
    gd (h.kd t == 6) (none)))) := rn_b (b := b270_0) rfl
theorem e270_38 (E : EV) (d : Nat) (t : Nat) (x1_ : Int32) (x2_ : Int32) (h : AH) : rn E d 270 38 [some (vR (some t)), some (vI x1_), some (vI x2_)] [] h =
    some (Sum.inl none, h) := rn_b (b := b270_38) rfl
/-! 271 java/lang/AbstractStringBuilder.getValue()[B -/
theorem c271 (E : EV) (d : Nat) (t : Nat) (h : AH) : cal E (d + 1) 271 [vR (some t)] h = rn E d 271 0 [some (vR (some t))] [] h := cal_rn rfl rfl
theorem e271_0 (E : EV) (d : Nat) (t : Nat) (h : AH) : rn E d 271 0 [some (vR (some t))] [] h =
    gd (h.kd t == 6) (some (Sum.inl (some (vR (h.R t 57))), h)) := rn_b (b := b271_0) rfl
/-! 272 java/lang/AbstractStringBuilder.<init>(I)V -/
theorem c272 (E : EV) (d : Nat) (t : Nat) (x1_ : Int32) (h : AH) : cal E (d + 1) 272 [vR (some t), vI x1_] h = rn E d 272 0 [some (vR (some t)), some (vI x1_)] [] h := cal_rn rfl rfl
theorem e272_0 (E : EV) (d : Nat) (t : Nat) (x1_ : Int32) (h : AH) : rn E d 272 0 [some (vR (some t)), some (vI x1_)] [] h =
    if (E.si 1) = 0 then rn E d 272 25 [some (vR (some t)), some (vI x1_)] [] h else
    gd (decide (0 ≤ x1_) && decide (x1_.toNatClampNeg ≤ 1048576) && decide (h.nx + 1 ≤ E.lc) && decide (h.us + x1_.toNatClampNeg ≤ E.lu)) (hs h.nx fun n1 => hs (h.mk 102 x1_.toNatClampNeg x1_.toNatClampNeg) fun h =>
    gd ((h.kd t == 6) && decide (E.bs ≤ t)) (hs (h.setR t 57 (some n1)) fun h =>
    gd ((h.kd t == 6) && decide (E.bs ≤ t) && decide ((0 : Int32).toInt8.toInt32 = 0)) (hs (h.setI t 58 0) fun h =>
    rn E d 272 38 [some (vR (some t)), some (vI x1_)] [] h))) := rn_b (b := b272_0) rfl
theorem e272_25 (E : EV) (d : Nat) (t : Nat) (x1_ : Int32) (h : AH) : rn E d 272 25 [some (vR (some t)), some (vI x1_)] [] h =
    none := rn_b (b := b272_25) rfl
theorem e272_38 (E : EV) (d : Nat) (t : Nat) (x1_ : Int32) (h : AH) : rn E d 272 38 [some (vR (some t)), some (vI x1_)] [] h =
    some (Sum.inl none, h) := rn_b (b := b272_38) rfl
/-! 273 java/lang/AbstractStringBuilder.isLatin1()Z -/
theorem c273 (E : EV) (d : Nat) (t : Nat) (h : AH) : cal E (d + 1) 273 [vR (some t)] h = rn E d 273 0 [some (vR (some t))] [] h := cal_rn rfl rfl
theorem e273_0 (E : EV) (d : Nat) (t : Nat) (h : AH) : rn E d 273 0 [some (vR (some t))] [] h =
    if (E.si 1) = 0 then rn E d 273 17 [some (vR (some t))] [] h else
    gd (h.kd t == 6) (if (h.I t 58) = 0 then
    rn E d 273 18 [some (vR (some t))] [vI 1] h
    else rn E d 273 17 [some (vR (some t))] [] h) := rn_b (b := b273_0) rfl
theorem e273_17 (E : EV) (d : Nat) (t : Nat) (h : AH) : rn E d 273 17 [some (vR (some t))] [] h =
    rn E d 273 18 [some (vR (some t))] [vI 0] h := rn_b (b := b273_17) rfl
theorem e273_18 (E : EV) (d : Nat) (t : Nat) (s0_ : Int32) (h : AH) : rn E d 273 18 [some (vR (some t))] [vI s0_] h =
    gd (decide (s0_ = 0) || decide (s0_ = 1)) (some (Sum.inl (some (vI s0_)), h)) := rn_b (b := b273_18) rfl
/-! 274 java/lang/AbstractStringBuilder.length()I -/
theorem c274 (E : EV) (d : Nat) (t : Nat) (h : AH) : cal E (d + 1) 274 [vR (some t)] h = rn E d 274 0 [some (vR (some t))] [] h := cal_rn rfl rfl
theorem e274_0 (E : EV) (d : Nat) (t : Nat) (h : AH) : rn E d 274 0 [some (vR (some t))] [] h =
    gd (h.kd t == 6) (some (Sum.inl (some (vI (h.I t 60))), h)) := rn_b (b := b274_0) rfl
/-! 275 java/lang/StringBuilder.append(C)Ljava/lang/StringBuilder; -/
theorem c275 (E : EV) (d : Nat) (t : Nat) (x1_ : Int32) (h : AH) : cal E (d + 1) 275 [vR (some t), vI x1_] h = rn E d 275 0 [some (vR (some t)), some (vI x1_)] [] h := cal_rn rfl rfl
theorem e275_0 (E : EV) (d : Nat) (t : Nat) (x1_ : Int32) (h : AH) : rn E d 275 0 [some (vR (some t)), some (vI x1_)] [] h =
    gd (h.kd t == 6) (cR (cal E d 269 [vR (some t), vI x1_] h) th fun r1 h =>
    some (Sum.inl (some (vR (some t))), h)) := rn_b (b := b275_0) rfl
/-! 276 java/lang/StringBuilder.<init>(I)V -/
theorem c276 (E : EV) (d : Nat) (t : Nat) (x1_ : Int32) (h : AH) : cal E (d + 1) 276 [vR (some t), vI x1_] h = rn E d 276 0 [some (vR (some t)), some (vI x1_)] [] h := cal_rn rfl rfl
theorem e276_0 (E : EV) (d : Nat) (t : Nat) (x1_ : Int32) (h : AH) : rn E d 276 0 [some (vR (some t)), some (vI x1_)] [] h =
    cV (cal E d 272 [vR (some t), vI x1_] h) th fun h =>
    some (Sum.inl none, h) := rn_b (b := b276_0) rfl
/-! 277 java/lang/StringBuilder.length()I -/
theorem c277 (E : EV) (d : Nat) (t : Nat) (h : AH) : cal E (d + 1) 277 [vR (some t)] h = rn E d 277 0 [some (vR (some t))] [] h := cal_rn rfl rfl
theorem e277_0 (E : EV) (d : Nat) (t : Nat) (h : AH) : rn E d 277 0 [some (vR (some t))] [] h =
    gd (h.kd t == 6) (cI (cal E d 274 [vR (some t)] h) th fun v1 h =>
    some (Sum.inl (some (vI v1)), h)) := rn_b (b := b277_0) rfl
/-! 278 java/lang/StringBuilder.toString()Ljava/lang/String; -/
theorem c278 (E : EV) (d : Nat) (t : Nat) (h : AH) : cal E (d + 1) 278 [vR (some t)] h = rn E d 278 0 [some (vR (some t))] [] h := cal_rn rfl rfl
theorem e278_0 (E : EV) (d : Nat) (t : Nat) (h : AH) : rn E d 278 0 [some (vR (some t))] [] h =
    gd (decide (h.nx + 1 ≤ E.lc) && decide (h.us + 4 ≤ E.lu)) (hs h.nx fun n1 => hs (h.mk 7 0 4) fun h =>
    cV (cal E d 286 [vR (some n1), vR (some t)] h) th fun h =>
    some (Sum.inl (some (vR (some n1))), h)) := rn_b (b := b278_0) rfl
/-! 279 java/lang/String.charAt(I)C -/
theorem c279 (E : EV) (d : Nat) (t : Nat) (x1_ : Int32) (h : AH) : cal E (d + 1) 279 [vR (some t), vI x1_] h = rn E d 279 0 [some (vR (some t)), some (vI x1_)] [] h := cal_rn rfl rfl
theorem e279_0 (E : EV) (d : Nat) (t : Nat) (x1_ : Int32) (h : AH) : rn E d 279 0 [some (vR (some t)), some (vI x1_)] [] h =
    gd (h.kd t == 7) (cI (cal E d 288 [vR (some t)] h) th fun v1 h =>
    if v1 = 0 then rn E d 279 16 [some (vR (some t)), some (vI x1_)] [] h else
    gd (h.kd t == 7) (cI (cal E d 248 [vR (h.R t 61), vI x1_] h) th fun v2 h =>
    gd (decide ((v2.toUInt32 % 65536).toInt32 = v2)) (some (Sum.inl (some (vI v2)), h)))) := rn_b (b := b279_0) rfl
theorem e279_16 (E : EV) (d : Nat) (t : Nat) (x1_ : Int32) (h : AH) : rn E d 279 16 [some (vR (some t)), some (vI x1_)] [] h =
    gd (h.kd t == 7) (none) := rn_b (b := b279_16) rfl
/-! 280 java/lang/String.checkIndex(II)V -/
theorem c280 (E : EV) (d : Nat) (x0_ : Int32) (x1_ : Int32) (h : AH) : cal E (d + 1) 280 [vI x0_, vI x1_] h = rn E d 280 0 [some (vI x0_), some (vI x1_)] [] h := cal_rn rfl rfl
theorem e280_0 (E : EV) (d : Nat) (x0_ : Int32) (x1_ : Int32) (h : AH) : rn E d 280 0 [some (vI x0_), some (vI x1_)] [] h =
    cI (cal E d 253 [vI x0_, vI x1_, vR (E.sr 2)] h) th fun v1 h =>
    some (Sum.inl none, h) := rn_b (b := b280_0) rfl
/-! 281 java/lang/String.coder()B -/
theorem c281 (E : EV) (d : Nat) (t : Nat) (h : AH) : cal E (d + 1) 281 [vR (some t)] h = rn E d 281 0 [some (vR (some t))] [] h := cal_rn rfl rfl
theorem e281_0 (E : EV) (d : Nat) (t : Nat) (h : AH) : rn E d 281 0 [some (vR (some t))] [] h =
    if (E.si 1) = 0 then rn E d 281 13 [some (vR (some t))] [] h else
    gd (h.kd t == 7) (rn E d 281 14 [some (vR (some t))] [vI (h.I t 62)] h) := rn_b (b := b281_0) rfl
theorem e281_13 (E : EV) (d : Nat) (t : Nat) (h : AH) : rn E d 281 13 [some (vR (some t))] [] h =
    rn E d 281 14 [some (vR (some t))] [vI 1] h := rn_b (b := b281_13) rfl
theorem e281_14 (E : EV) (d : Nat) (t : Nat) (s0_ : Int32) (h : AH) : rn E d 281 14 [some (vR (some t))] [vI s0_] h =
    gd (decide (s0_.toInt8.toInt32 = s0_)) (some (Sum.inl (some (vI s0_)), h)) := rn_b (b := b281_14) rfl
/-! 282 java/lang/String.equals(Ljava/lang/Object;)Z -/
theorem c282 (E : EV) (d : Nat) (t : Nat) (x1_ : Option Nat) (h : AH) : cal E (d + 1) 282 [vR (some t), vR x1_] h = rn E d 282 0 [some (vR (some t)), some (vR x1_), none] [] h := cal_rn rfl rfl
theorem e282_0 (E : EV) (d : Nat) (t : Nat) (r1_ : Option Nat) (o2_ : Option AV) (h : AH) : rn E d 282 0 [some (vR (some t)), some (vR r1_), o2_] [] h =
    if (some t) = r1_ then
    some (Sum.inl (some (vI 1)), h)
    else rn E d 282 7 [some (vR (some t)), some (vR r1_), o2_] [] h := rn_b (b := b282_0) rfl
theorem e282_7 (E : EV) (d : Nat) (t : Nat) (r1_ : Option Nat) (o2_ : Option AV) (h : AH) : rn E d 282 7 [some (vR (some t)), some (vR r1_), o2_] [] h =
    iof 7 h r1_ fun x1 =>
    if x1 = 0 then rn E d 282 54 [some (vR (some t)), some (vR r1_), o2_] [] h else
    gd (okC 7 h r1_) (if (E.si 1) = 0 then rn E d 282 36 [some (vR (some t)), some (vR r1_), some (vR r1_)] [] h else
    gd (h.kd t == 7) (nn r1_ fun a2 =>
    gd (h.kd a2 == 7) (if (h.I t 62) = (h.I a2 62) then
    rn E d 282 36 [some (vR (some t)), some (vR r1_), some (vR r1_)] [] h
    else rn E d 282 54 [some (vR (some t)), some (vR r1_), some (vR r1_)] [] h))) := rn_b (b := b282_7) rfl
theorem e282_36 (E : EV) (d : Nat) (t : Nat) (r1_ : Option Nat) (r2_ : Option Nat) (h : AH) : rn E d 282 36 [some (vR (some t)), some (vR r1_), some (vR r2_)] [] h =
    gd (h.kd t == 7) (nn r2_ fun a1 =>
    gd (h.kd a1 == 7) (cI (cal E d 249 [vR (h.R t 61), vR (h.R a1 61)] h) th fun v2 h =>
    if v2 = 0 then rn E d 282 54 [some (vR (some t)), some (vR r1_), some (vR r2_)] [] h else
    rn E d 282 55 [some (vR (some t)), some (vR r1_), some (vR r2_)] [vI 1] h)) := rn_b (b := b282_36) rfl
theorem e282_54 (E : EV) (d : Nat) (t : Nat) (r1_ : Option Nat) (o2_ : Option AV) (h : AH) : rn E d 282 54 [some (vR (some t)), some (vR r1_), o2_] [] h =
    rn E d 282 55 [some (vR (some t)), some (vR r1_), o2_] [vI 0] h := rn_b (b := b282_54) rfl
theorem e282_55 (E : EV) (d : Nat) (t : Nat) (r1_ : Option Nat) (o2_ : Option AV) (s0_ : Int32) (h : AH) : rn E d 282 55 [some (vR (some t)), some (vR r1_), o2_] [vI s0_] h =
    gd (decide (s0_ = 0) || decide (s0_ = 1)) (some (Sum.inl (some (vI s0_)), h)) := rn_b (b := b282_55) rfl
/-! 283 java/lang/String.hashCode()I -/
theorem c283 (E : EV) (d : Nat) (t : Nat) (h : AH) : cal E (d + 1) 283 [vR (some t)] h = rn E d 283 0 [some (vR (some t)), none] [] h := cal_rn rfl rfl
theorem e283_0 (E : EV) (d : Nat) (t : Nat) (o1_ : Option AV) (h : AH) : rn E d 283 0 [some (vR (some t)), o1_] [] h =
    gd (h.kd t == 7) (hs (h.I t 63) fun x1 =>
    if x1 = 0 then
    gd (h.kd t == 7) (if (h.I t 64) = 0 then
    gd (h.kd t == 7) (cI (cal E d 288 [vR (some t)] h) th fun v2 h =>
    if v2 = 0 then rn E d 283 33 [some (vR (some t)), some (vI x1)] [] h else
    gd (h.kd t == 7) (cI (cal E d 250 [vR (h.R t 61)] h) th fun v3 h =>
    rn E d 283 40 [some (vR (some t)), some (vI x1)] [vI v3] h))
    else rn E d 283 58 [some (vR (some t)), some (vI x1)] [] h)
    else rn E d 283 58 [some (vR (some t)), some (vI x1)] [] h) := rn_b (b := b283_0) rfl
theorem e283_33 (E : EV) (d : Nat) (t : Nat) (x1_ : Int32) (h : AH) : rn E d 283 33 [some (vR (some t)), some (vI x1_)] [] h =
    gd (h.kd t == 7) (none) := rn_b (b := b283_33) rfl
theorem e283_40 (E : EV) (d : Nat) (t : Nat) (x1_ : Int32) (s0_ : Int32) (h : AH) : rn E d 283 40 [some (vR (some t)), some (vI x1_)] [vI s0_] h =
    if s0_ = 0 then
    gd ((h.kd t == 7) && decide (E.bs ≤ t) && (decide ((1 : Int32) = 0) || decide ((1 : Int32) = 1))) (hs (h.setI t 64 1) fun h =>
    rn E d 283 58 [some (vR (some t)), some (vI s0_)] [] h)
    else rn E d 283 53 [some (vR (some t)), some (vI s0_)] [] h := rn_b (b := b283_40) rfl
theorem e283_53 (E : EV) (d : Nat) (t : Nat) (x1_ : Int32) (h : AH) : rn E d 283 53 [some (vR (some t)), some (vI x1_)] [] h =
    gd ((h.kd t == 7) && decide (E.bs ≤ t) && true) (hs (h.setI t 63 x1_) fun h =>
    rn E d 283 58 [some (vR (some t)), some (vI x1_)] [] h) := rn_b (b := b283_53) rfl
theorem e283_58 (E : EV) (d : Nat) (t : Nat) (x1_ : Int32) (h : AH) : rn E d 283 58 [some (vR (some t)), some (vI x1_)] [] h =
    some (Sum.inl (some (vI x1_)), h) := rn_b (b := b283_58) rfl
/-! 284 java/lang/String.indexOf(I)I -/
theorem c284 (E : EV) (d : Nat) (t : Nat) (x1_ : Int32) (h : AH) : cal E (d + 1) 284 [vR (some t), vI x1_] h = rn E d 284 0 [some (vR (some t)), some (vI x1_)] [] h := cal_rn rfl rfl
theorem e284_0 (E : EV) (d : Nat) (t : Nat) (x1_ : Int32) (h : AH) : rn E d 284 0 [some (vR (some t)), some (vI x1_)] [] h =
    gd (h.kd t == 7) (cI (cal E d 285 [vR (some t), vI x1_, vI 0] h) th fun v1 h =>
    some (Sum.inl (some (vI v1)), h)) := rn_b (b := b284_0) rfl
/-! 285 java/lang/String.indexOf(II)I -/
theorem c285 (E : EV) (d : Nat) (t : Nat) (x1_ : Int32) (x2_ : Int32) (h : AH) : cal E (d + 1) 285 [vR (some t), vI x1_, vI x2_] h = rn E d 285 0 [some (vR (some t)), some (vI x1_), some (vI x2_)] [] h := cal_rn rfl rfl
theorem e285_0 (E : EV) (d : Nat) (t : Nat) (x1_ : Int32) (x2_ : Int32) (h : AH) : rn E d 285 0 [some (vR (some t)), some (vI x1_), some (vI x2_)] [] h =
    gd (h.kd t == 7) (cI (cal E d 288 [vR (some t)] h) th fun v1 h =>
    if v1 = 0 then rn E d 285 23 [some (vR (some t)), some (vI x1_), some (vI x2_)] [] h else
    gd (h.kd t == 7) (gd (h.kd t == 7) (hs (h.R t 61) fun q3 =>
    cI (cal E d 289 [vR (some t)] h) th fun v2 h =>
    cI (cal E d 252 [vR q3, vI x1_, vI x2_, vI v2] h) th fun v4 h =>
    rn E d 285 36 [some (vR (some t)), some (vI x1_), some (vI x2_)] [vI v4] h))) := rn_b (b := b285_0) rfl
theorem e285_23 (E : EV) (d : Nat) (t : Nat) (x1_ : Int32) (x2_ : Int32) (h : AH) : rn E d 285 23 [some (vR (some t)), some (vI x1_), some (vI x2_)] [] h =
    gd (h.kd t == 7) (gd (h.kd t == 7) (hs (h.R t 61) fun q2 =>
    cI (cal E d 289 [vR (some t)] h) th fun v1 h =>
    none)) := rn_b (b := b285_23) rfl
theorem e285_36 (E : EV) (d : Nat) (t : Nat) (x1_ : Int32) (x2_ : Int32) (s0_ : Int32) (h : AH) : rn E d 285 36 [some (vR (some t)), some (vI x1_), some (vI x2_)] [vI s0_] h =
    some (Sum.inl (some (vI s0_)), h) := rn_b (b := b285_36) rfl
/-! 286 java/lang/String.<init>(Ljava/lang/StringBuilder;)V -/
theorem c286 (E : EV) (d : Nat) (t : Nat) (x1_ : Option Nat) (h : AH) : cal E (d + 1) 286 [vR (some t), vR x1_] h = rn E d 286 0 [some (vR (some t)), some (vR x1_)] [] h := cal_rn rfl rfl
theorem e286_0 (E : EV) (d : Nat) (t : Nat) (r1_ : Option Nat) (h : AH) : rn E d 286 0 [some (vR (some t)), some (vR r1_)] [] h =
    cV (cal E d 287 [vR (some t), vR r1_, vR none] h) th fun h =>
    some (Sum.inl none, h) := rn_b (b := b286_0) rfl
/-! 287 java/lang/String.<init>(Ljava/lang/AbstractStringBuilder;Ljava/lang/Void;)V -/
theorem c287 (E : EV) (d : Nat) (t : Nat) (x1_ : Option Nat) (x2_ : Option Nat) (h : AH) : cal E (d + 1) 287 [vR (some t), vR x1_, vR x2_] h = rn E d 287 0 [some (vR (some t)), some (vR x1_), some (vR x2_), none, none] [] h := cal_rn rfl rfl
theorem e287_0 (E : EV) (d : Nat) (t : Nat) (r1_ : Option Nat) (r2_ : Option Nat) (o3_ : Option AV) (o4_ : Option AV) (h : AH) : rn E d 287 0 [some (vR (some t)), some (vR r1_), some (vR r2_), o3_, o4_] [] h =
    gd (rcO 295 [vR r1_] h) (cR (cal E d 271 [vR r1_] h) th fun r1 h =>
    gd (rcO 296 [vR r1_] h) (cI (cal E d 277 [vR r1_] h) th fun v2 h =>
    gd (rcO 282 [vR r1_] h) (cI (cal E d 273 [vR r1_] h) th fun v3 h =>
    if v3 = 0 then rn E d 287 41 [some (vR (some t)), some (vR r1_), some (vR r2_), some (vR r1), some (vI v2)] [] h else
    gd ((h.kd t == 7) && decide (E.bs ≤ t) && decide ((0 : Int32).toInt8.toInt32 = 0)) (hs (h.setI t 62 0) fun h =>
    cR (cal E d 298 [vR r1, vI 0, vI v2] h) th fun r4 h =>
    gd ((h.kd t == 7) && decide (E.bs ≤ t)) (hs (h.setR t 61 r4) fun h =>
    rn E d 287 97 [some (vR (some t)), some (vR r1_), some (vR r2_), some (vR r1), some (vI v2)] [] h))))) := rn_b (b := b287_0) rfl
theorem e287_41 (E : EV) (d : Nat) (t : Nat) (r1_ : Option Nat) (r2_ : Option Nat) (r3_ : Option Nat) (x4_ : Int32) (h : AH) : rn E d 287 41 [some (vR (some t)), some (vR r1_), some (vR r2_), some (vR r3_), some (vI x4_)] [] h =
    if (E.si 1) = 0 then rn E d 287 79 [some (vR (some t)), some (vR r1_), some (vR r2_), some (vR r3_), some (vI x4_)] [] h else
    nn r1_ fun a1 =>
    gd (h.kd a1 == 6) (if (h.I a1 59) = 0 then rn E d 287 79 [some (vR (some t)), some (vR r1_), some (vR r2_), some (vR r3_), some (vI x4_)] [] h else
    none) := rn_b (b := b287_41) rfl
theorem e287_79 (E : EV) (d : Nat) (t : Nat) (r1_ : Option Nat) (r2_ : Option Nat) (r3_ : Option Nat) (x4_ : Int32) (h : AH) : rn E d 287 79 [some (vR (some t)), some (vR r1_), some (vR r2_), some (vR r3_), some (vI x4_)] [] h =
    gd ((h.kd t == 7) && decide (E.bs ≤ t) && decide ((1 : Int32).toInt8.toInt32 = 1)) (hs (h.setI t 62 1) fun h =>
    cR (cal E d 298 [vR r3_, vI 0, vI (x4_ <<< (1 &&& 31))] h) th fun r1 h =>
    gd ((h.kd t == 7) && decide (E.bs ≤ t)) (hs (h.setR t 61 r1) fun h =>
    rn E d 287 97 [some (vR (some t)), some (vR r1_), some (vR r2_), some (vR r3_), some (vI x4_)] [] h)) := rn_b (b := b287_79) rfl
theorem e287_97 (E : EV) (d : Nat) (t : Nat) (r1_ : Option Nat) (r2_ : Option Nat) (r3_ : Option Nat) (x4_ : Int32) (h : AH) : rn E d 287 97 [some (vR (some t)), some (vR r1_), some (vR r2_), some (vR r3_), some (vI x4_)] [] h =
    some (Sum.inl none, h) := rn_b (b := b287_97) rfl
/-! 288 java/lang/String.isLatin1()Z -/
theorem c288 (E : EV) (d : Nat) (t : Nat) (h : AH) : cal E (d + 1) 288 [vR (some t)] h = rn E d 288 0 [some (vR (some t))] [] h := cal_rn rfl rfl
theorem e288_0 (E : EV) (d : Nat) (t : Nat) (h : AH) : rn E d 288 0 [some (vR (some t))] [] h =
    if (E.si 1) = 0 then rn E d 288 17 [some (vR (some t))] [] h else
    gd (h.kd t == 7) (if (h.I t 62) = 0 then
    rn E d 288 18 [some (vR (some t))] [vI 1] h
    else rn E d 288 17 [some (vR (some t))] [] h) := rn_b (b := b288_0) rfl
theorem e288_17 (E : EV) (d : Nat) (t : Nat) (h : AH) : rn E d 288 17 [some (vR (some t))] [] h =
    rn E d 288 18 [some (vR (some t))] [vI 0] h := rn_b (b := b288_17) rfl
theorem e288_18 (E : EV) (d : Nat) (t : Nat) (s0_ : Int32) (h : AH) : rn E d 288 18 [some (vR (some t))] [vI s0_] h =
    gd (decide (s0_ = 0) || decide (s0_ = 1)) (some (Sum.inl (some (vI s0_)), h)) := rn_b (b := b288_18) rfl
/-! 289 java/lang/String.length()I -/
theorem c289 (E : EV) (d : Nat) (t : Nat) (h : AH) : cal E (d + 1) 289 [vR (some t)] h = rn E d 289 0 [some (vR (some t))] [] h := cal_rn rfl rfl
theorem e289_0 (E : EV) (d : Nat) (t : Nat) (h : AH) : rn E d 289 0 [some (vR (some t))] [] h =
    gd (h.kd t == 7) (nn (h.R t 61) fun a1 =>
    gd (decide (101 ≤ h.kd a1)) (gd (h.kd t == 7) (hs (Int32.ofNat (h.ln a1)) fun y3 =>
    cI (cal E d 281 [vR (some t)] h) th fun v2 h =>
    some (Sum.inl (some (vI (y3 >>> (v2 &&& 31)))), h)))) := rn_b (b := b289_0) rfl
/-! 290 jdk/internal/util/ArraysSupport.newLength(III)I -/
theorem c290 (E : EV) (d : Nat) (x0_ : Int32) (x1_ : Int32) (x2_ : Int32) (h : AH) : cal E (d + 1) 290 [vI x0_, vI x1_, vI x2_] h = rn E d 290 0 [some (vI x0_), some (vI x1_), some (vI x2_), none] [] h := cal_rn rfl rfl
theorem e290_0 (E : EV) (d : Nat) (x0_ : Int32) (x1_ : Int32) (x2_ : Int32) (o3_ : Option AV) (h : AH) : rn E d 290 0 [some (vI x0_), some (vI x1_), some (vI x2_), o3_] [] h =
    cI (cal E d 294 [vI x1_, vI x2_] h) th fun v1 h =>
    hs (x0_ + v1) fun x2 =>
    if x2 ≤ 0 then rn E d 290 21 [some (vI x0_), some (vI x1_), some (vI x2_), some (vI x2)] [] h else
    if 2147483639 < x2 then rn E d 290 21 [some (vI x0_), some (vI x1_), some (vI x2_), some (vI x2)] [] h else
    some (Sum.inl (some (vI x2)), h) := rn_b (b := b290_0) rfl
theorem e290_21 (E : EV) (d : Nat) (x0_ : Int32) (x1_ : Int32) (x2_ : Int32) (x3_ : Int32) (h : AH) : rn E d 290 21 [some (vI x0_), some (vI x1_), some (vI x2_), some (vI x3_)] [] h =
    none := rn_b (b := b290_21) rfl
/-! 291 jdk/internal/util/ArraysSupport.signedHashCode(I[BII)I -/
theorem c291 (E : EV) (d : Nat) (x0_ : Int32) (x1_ : Option Nat) (x2_ : Int32) (x3_ : Int32) (h : AH) : cal E (d + 1) 291 [vI x0_, vR x1_, vI x2_, vI x3_] h = rn E d 291 0 [some (vI x0_), some (vR x1_), some (vI x2_), some (vI x3_), none, none] [] h := cal_rn rfl rfl
theorem e291_0 (E : EV) (d : Nat) (x0_ : Int32) (r1_ : Option Nat) (x2_ : Int32) (x3_ : Int32) (o4_ : Option AV) (o5_ : Option AV) (h : AH) : rn E d 291 0 [some (vI x0_), some (vR r1_), some (vI x2_), some (vI x3_), o4_, o5_] [] h =
    hs (x2_ + x3_) fun x1 =>
    rn E d 291 8 [some (vI x0_), some (vR r1_), some (vI x2_), some (vI x3_), some (vI x1), some (vI x2_)] [] h := rn_b (b := b291_0) rfl
theorem e291_8 (E : EV) (d : Nat) (x0_ : Int32) (r1_ : Option Nat) (x2_ : Int32) (x3_ : Int32) (x4_ : Int32) (x5_ : Int32) (h : AH) : rn E d 291 8 [some (vI x0_), some (vR r1_), some (vI x2_), some (vI x3_), some (vI x4_), some (vI x5_)] [] h =
    if x4_ ≤ x5_ then rn E d 291 35 [some (vI x0_), some (vR r1_), some (vI x2_), some (vI x3_), some (vI x4_), some (vI x5_)] [] h else
    nn r1_ fun a1 =>
    gd ((h.kd a1 == 102 || h.kd a1 == 103) && inb x5_ (h.ln a1)) (hs ((31 * x0_) + ((h.I a1 x5_.toNatClampNeg) &&& 255)) fun x2 =>
    hs (x5_ + 1) fun x3 =>
    rn E d 291 8 [some (vI x2), some (vR r1_), some (vI x2_), some (vI x3_), some (vI x4_), some (vI x3)] [] h) := rn_b (b := b291_8) rfl
theorem e291_35 (E : EV) (d : Nat) (x0_ : Int32) (r1_ : Option Nat) (x2_ : Int32) (x3_ : Int32) (x4_ : Int32) (x5_ : Int32) (h : AH) : rn E d 291 35 [some (vI x0_), some (vR r1_), some (vI x2_), some (vI x3_), some (vI x4_), some (vI x5_)] [] h =
    some (Sum.inl (some (vI x0_)), h) := rn_b (b := b291_35) rfl
/-! 292 jdk/internal/util/ArraysSupport.vectorizedHashCode(Ljava/lang/Object;IIII)I -/
theorem c292 (E : EV) (d : Nat) (x0_ : Option Nat) (x1_ : Int32) (x2_ : Int32) (x3_ : Int32) (x4_ : Int32) (h : AH) : cal E (d + 1) 292 [vR x0_, vI x1_, vI x2_, vI x3_, vI x4_] h = rn E d 292 0 [some (vR x0_), some (vI x1_), some (vI x2_), some (vI x3_), some (vI x4_)] [] h := cal_rn rfl rfl
theorem e292_0 (E : EV) (d : Nat) (r0_ : Option Nat) (x1_ : Int32) (x2_ : Int32) (x3_ : Int32) (x4_ : Int32) (h : AH) : rn E d 292 0 [some (vR r0_), some (vI x1_), some (vI x2_), some (vI x3_), some (vI x4_)] [] h =
    if x4_ = 4 then rn E d 292 44 [some (vR r0_), some (vI x1_), some (vI x2_), some (vI x3_), some (vI x4_)] [] h else
    if x4_ = 5 then rn E d 292 57 [some (vR r0_), some (vI x1_), some (vI x2_), some (vI x3_), some (vI x4_)] [] h else
    if x4_ = 6 then rn E d 292 129 [some (vR r0_), some (vI x1_), some (vI x2_), some (vI x3_), some (vI x4_)] [] h else
    if x4_ = 7 then rn E d 292 129 [some (vR r0_), some (vI x1_), some (vI x2_), some (vI x3_), some (vI x4_)] [] h else
    if x4_ = 8 then rn E d 292 90 [some (vR r0_), some (vI x1_), some (vI x2_), some (vI x3_), some (vI x4_)] [] h else
    if x4_ = 9 then rn E d 292 103 [some (vR r0_), some (vI x1_), some (vI x2_), some (vI x3_), some (vI x4_)] [] h else
    if x4_ = 10 then rn E d 292 116 [some (vR r0_), some (vI x1_), some (vI x2_), some (vI x3_), some (vI x4_)] [] h else
    rn E d 292 129 [some (vR r0_), some (vI x1_), some (vI x2_), some (vI x3_), some (vI x4_)] [] h := rn_b (b := b292_0) rfl
theorem e292_44 (E : EV) (d : Nat) (r0_ : Option Nat) (x1_ : Int32) (x2_ : Int32) (x3_ : Int32) (x4_ : Int32) (h : AH) : rn E d 292 44 [some (vR r0_), some (vI x1_), some (vI x2_), some (vI x3_), some (vI x4_)] [] h =
    gd (okC 102 h r0_) (cI (cal E d 291 [vI x3_, vR r0_, vI x1_, vI x2_] h) th fun v1 h =>
    rn E d 292 157 [some (vR r0_), some (vI x1_), some (vI x2_), some (vI x3_), some (vI x4_)] [vI v1] h) := rn_b (b := b292_44) rfl
theorem e292_57 (E : EV) (d : Nat) (r0_ : Option Nat) (x1_ : Int32) (x2_ : Int32) (x3_ : Int32) (x4_ : Int32) (h : AH) : rn E d 292 57 [some (vR r0_), some (vI x1_), some (vI x2_), some (vI x3_), some (vI x4_)] [] h =
    iof 102 h r0_ fun x1 =>
    if x1 = 0 then rn E d 292 77 [some (vR r0_), some (vI x1_), some (vI x2_), some (vI x3_), some (vI x4_)] [] h else
    gd (okC 102 h r0_) (none) := rn_b (b := b292_57) rfl
theorem e292_77 (E : EV) (d : Nat) (r0_ : Option Nat) (x1_ : Int32) (x2_ : Int32) (x3_ : Int32) (x4_ : Int32) (h : AH) : rn E d 292 77 [some (vR r0_), some (vI x1_), some (vI x2_), some (vI x3_), some (vI x4_)] [] h =
    none := rn_b (b := b292_77) rfl
theorem e292_90 (E : EV) (d : Nat) (r0_ : Option Nat) (x1_ : Int32) (x2_ : Int32) (x3_ : Int32) (x4_ : Int32) (h : AH) : rn E d 292 90 [some (vR r0_), some (vI x1_), some (vI x2_), some (vI x3_), some (vI x4_)] [] h =
    gd (okC 102 h r0_) (none) := rn_b (b := b292_90) rfl
theorem e292_103 (E : EV) (d : Nat) (r0_ : Option Nat) (x1_ : Int32) (x2_ : Int32) (x3_ : Int32) (x4_ : Int32) (h : AH) : rn E d 292 103 [some (vR r0_), some (vI x1_), some (vI x2_), some (vI x3_), some (vI x4_)] [] h =
    none := rn_b (b := b292_103) rfl
theorem e292_116 (E : EV) (d : Nat) (r0_ : Option Nat) (x1_ : Int32) (x2_ : Int32) (x3_ : Int32) (x4_ : Int32) (h : AH) : rn E d 292 116 [some (vR r0_), some (vI x1_), some (vI x2_), some (vI x3_), some (vI x4_)] [] h =
    gd (okC 101 h r0_) (none) := rn_b (b := b292_116) rfl
theorem e292_129 (E : EV) (d : Nat) (r0_ : Option Nat) (x1_ : Int32) (x2_ : Int32) (x3_ : Int32) (x4_ : Int32) (h : AH) : rn E d 292 129 [some (vR r0_), some (vI x1_), some (vI x2_), some (vI x3_), some (vI x4_)] [] h =
    none := rn_b (b := b292_129) rfl
theorem e292_157 (E : EV) (d : Nat) (r0_ : Option Nat) (x1_ : Int32) (x2_ : Int32) (x3_ : Int32) (x4_ : Int32) (s0_ : Int32) (h : AH) : rn E d 292 157 [some (vR r0_), some (vI x1_), some (vI x2_), some (vI x3_), some (vI x4_)] [vI s0_] h =
    some (Sum.inl (some (vI s0_)), h) := rn_b (b := b292_157) rfl
/-! 293 java/lang/Math.abs(I)I -/
theorem c293 (E : EV) (d : Nat) (x0_ : Int32) (h : AH) : cal E (d + 1) 293 [vI x0_] h = rn E d 293 0 [some (vI x0_)] [] h := cal_rn rfl rfl
theorem e293_0 (E : EV) (d : Nat) (x0_ : Int32) (h : AH) : rn E d 293 0 [some (vI x0_)] [] h =
    if 0 ≤ x0_ then rn E d 293 9 [some (vI x0_)] [] h else
    rn E d 293 10 [some (vI x0_)] [vI (-x0_)] h := rn_b (b := b293_0) rfl
theorem e293_9 (E : EV) (d : Nat) (x0_ : Int32) (h : AH) : rn E d 293 9 [some (vI x0_)] [] h =
    rn E d 293 10 [some (vI x0_)] [vI x0_] h := rn_b (b := b293_9) rfl
theorem e293_10 (E : EV) (d : Nat) (x0_ : Int32) (s0_ : Int32) (h : AH) : rn E d 293 10 [some (vI x0_)] [vI s0_] h =
    some (Sum.inl (some (vI s0_)), h) := rn_b (b := b293_10) rfl
/-! 294 java/lang/Math.max(II)I -/
theorem c294 (E : EV) (d : Nat) (x0_ : Int32) (x1_ : Int32) (h : AH) : cal E (d + 1) 294 [vI x0_, vI x1_] h = rn E d 294 0 [some (vI x0_), some (vI x1_)] [] h := cal_rn rfl rfl
theorem e294_0 (E : EV) (d : Nat) (x0_ : Int32) (x1_ : Int32) (h : AH) : rn E d 294 0 [some (vI x0_), some (vI x1_)] [] h =
    if x0_ < x1_ then rn E d 294 9 [some (vI x0_), some (vI x1_)] [] h else
    rn E d 294 10 [some (vI x0_), some (vI x1_)] [vI x0_] h := rn_b (b := b294_0) rfl
theorem e294_9 (E : EV) (d : Nat) (x0_ : Int32) (x1_ : Int32) (h : AH) : rn E d 294 9 [some (vI x0_), some (vI x1_)] [] h =
    rn E d 294 10 [some (vI x0_), some (vI x1_)] [vI x1_] h := rn_b (b := b294_9) rfl
theorem e294_10 (E : EV) (d : Nat) (x0_ : Int32) (x1_ : Int32) (s0_ : Int32) (h : AH) : rn E d 294 10 [some (vI x0_), some (vI x1_)] [vI s0_] h =
    some (Sum.inl (some (vI s0_)), h) := rn_b (b := b294_10) rfl
/-! 295 java/lang/Math.min(II)I -/
theorem c295 (E : EV) (d : Nat) (x0_ : Int32) (x1_ : Int32) (h : AH) : cal E (d + 1) 295 [vI x0_, vI x1_] h = rn E d 295 0 [some (vI x0_), some (vI x1_)] [] h := cal_rn rfl rfl
theorem e295_0 (E : EV) (d : Nat) (x0_ : Int32) (x1_ : Int32) (h : AH) : rn E d 295 0 [some (vI x0_), some (vI x1_)] [] h =
    if x1_ < x0_ then rn E d 295 9 [some (vI x0_), some (vI x1_)] [] h else
    rn E d 295 10 [some (vI x0_), some (vI x1_)] [vI x0_] h := rn_b (b := b295_0) rfl
theorem e295_9 (E : EV) (d : Nat) (x0_ : Int32) (x1_ : Int32) (h : AH) : rn E d 295 9 [some (vI x0_), some (vI x1_)] [] h =
    rn E d 295 10 [some (vI x0_), some (vI x1_)] [vI x1_] h := rn_b (b := b295_9) rfl
theorem e295_10 (E : EV) (d : Nat) (x0_ : Int32) (x1_ : Int32) (s0_ : Int32) (h : AH) : rn E d 295 10 [some (vI x0_), some (vI x1_)] [vI s0_] h =
    some (Sum.inl (some (vI s0_)), h) := rn_b (b := b295_10) rfl
/-! 296 java/util/Arrays.checkLength(II)V -/
theorem c296 (E : EV) (d : Nat) (x0_ : Int32) (x1_ : Int32) (h : AH) : cal E (d + 1) 296 [vI x0_, vI x1_] h = rn E d 296 0 [some (vI x0_), some (vI x1_)] [] h := cal_rn rfl rfl
theorem e296_0 (E : EV) (d : Nat) (x0_ : Int32) (x1_ : Int32) (h : AH) : rn E d 296 0 [some (vI x0_), some (vI x1_)] [] h =
    if x0_ ≤ x1_ then rn E d 296 37 [some (vI x0_), some (vI x1_)] [] h else
    none := rn_b (b := b296_0) rfl
theorem e296_37 (E : EV) (d : Nat) (x0_ : Int32) (x1_ : Int32) (h : AH) : rn E d 296 37 [some (vI x0_), some (vI x1_)] [] h =
    some (Sum.inl none, h) := rn_b (b := b296_37) rfl
/-! 297 java/util/Arrays.copyOfRangeByte([BII)[B -/
theorem c297 (E : EV) (d : Nat) (x0_ : Option Nat) (x1_ : Int32) (x2_ : Int32) (h : AH) : cal E (d + 1) 297 [vR x0_, vI x1_, vI x2_] h = rn E d 297 0 [some (vR x0_), some (vI x1_), some (vI x2_), none, none] [] h := cal_rn rfl rfl
theorem e297_0 (E : EV) (d : Nat) (r0_ : Option Nat) (x1_ : Int32) (x2_ : Int32) (o3_ : Option AV) (o4_ : Option AV) (h : AH) : rn E d 297 0 [some (vR r0_), some (vI x1_), some (vI x2_), o3_, o4_] [] h =
    cV (cal E d 296 [vI x1_, vI x2_] h) th fun h =>
    hs (x2_ - x1_) fun x1 =>
    gd (decide (0 ≤ x1) && decide (x1.toNatClampNeg ≤ 1048576) && decide (h.nx + 1 ≤ E.lc) && decide (h.us + x1.toNatClampNeg ≤ E.lu)) (hs h.nx fun n2 => hs (h.mk 102 x1.toNatClampNeg x1.toNatClampNeg) fun h =>
    nn r0_ fun a3 =>
    gd (decide (101 ≤ h.kd a3)) (cI (cal E d 295 [vI ((Int32.ofNat (h.ln a3)) - x1_), vI x1] h) th fun v4 h =>
    cV (cal E d 301 [vR r0_, vI x1_, vR (some n2), vI 0, vI v4] h) th fun h =>
    some (Sum.inl (some (vR (some n2))), h))) := rn_b (b := b297_0) rfl
/-! 298 java/util/Arrays.copyOfRange([BII)[B -/
theorem c298 (E : EV) (d : Nat) (x0_ : Option Nat) (x1_ : Int32) (x2_ : Int32) (h : AH) : cal E (d + 1) 298 [vR x0_, vI x1_, vI x2_] h = rn E d 298 0 [some (vR x0_), some (vI x1_), some (vI x2_)] [] h := cal_rn rfl rfl
theorem e298_0 (E : EV) (d : Nat) (r0_ : Option Nat) (x1_ : Int32) (x2_ : Int32) (h : AH) : rn E d 298 0 [some (vR r0_), some (vI x1_), some (vI x2_)] [] h =
    if x1_ = 0 then
    nn r0_ fun a1 =>
    gd (decide (101 ≤ h.kd a1)) (if x2_ = (Int32.ofNat (h.ln a1)) then rn E d 298 17 [some (vR r0_), some (vI x1_), some (vI x2_)] [] h else
    rn E d 298 10 [some (vR r0_), some (vI x1_), some (vI x2_)] [] h)
    else rn E d 298 10 [some (vR r0_), some (vI x1_), some (vI x2_)] [] h := rn_b (b := b298_0) rfl
theorem e298_10 (E : EV) (d : Nat) (r0_ : Option Nat) (x1_ : Int32) (x2_ : Int32) (h : AH) : rn E d 298 10 [some (vR r0_), some (vI x1_), some (vI x2_)] [] h =
    cR (cal E d 297 [vR r0_, vI x1_, vI x2_] h) th fun r1 h =>
    some (Sum.inl (some (vR r1)), h) := rn_b (b := b298_10) rfl
theorem e298_17 (E : EV) (d : Nat) (r0_ : Option Nat) (x1_ : Int32) (x2_ : Int32) (h : AH) : rn E d 298 17 [some (vR r0_), some (vI x1_), some (vI x2_)] [] h =
    gd (rcO 302 [vR r0_] h) (cR (cal E d 302 [vR r0_] h) th fun r1 h =>
    gd (okC 102 h r1) (some (Sum.inl (some (vR r1)), h))) := rn_b (b := b298_17) rfl
/-! 299 java/util/Arrays.copyOf([Ljava/lang/Object;I)[Ljava/lang/Object; -/
theorem c299 (E : EV) (d : Nat) (x0_ : Option Nat) (x1_ : Int32) (h : AH) : cal E (d + 1) 299 [vR x0_, vI x1_] h = rn E d 299 0 [some (vR x0_), some (vI x1_)] [] h := cal_rn rfl rfl
theorem e299_0 (E : EV) (d : Nat) (r0_ : Option Nat) (x1_ : Int32) (h : AH) : rn E d 299 0 [some (vR r0_), some (vI x1_)] [] h =
    gd (rcO 303 [vR r0_] h) (cR (cal E d 303 [vR r0_] h) th fun r1 h =>
    cR (cal E d 300 [vR r0_, vI x1_, vR r1] h) th fun r2 h =>
    some (Sum.inl (some (vR r2)), h)) := rn_b (b := b299_0) rfl
/-! 300 java/util/Arrays.copyOf([Ljava/lang/Object;ILjava/lang/Class;)[Ljava/lang/Object; -/
theorem c300 (E : EV) (d : Nat) (x0_ : Option Nat) (x1_ : Int32) (x2_ : Option Nat) (h : AH) : cal E (d + 1) 300 [vR x0_, vI x1_, vR x2_] h = rn E d 300 0 [some (vR x0_), some (vI x1_), some (vR x2_), none] [] h := cal_rn rfl rfl
theorem e300_0 (E : EV) (d : Nat) (r0_ : Option Nat) (x1_ : Int32) (r2_ : Option Nat) (o3_ : Option AV) (h : AH) : rn E d 300 0 [some (vR r0_), some (vI x1_), some (vR r2_), o3_] [] h =
    if r2_ = (E.sr 12) then
    gd (decide (0 ≤ x1_) && decide (x1_.toNatClampNeg ≤ 1048576) && decide (h.nx + 1 ≤ E.lc) && decide (h.us + x1_.toNatClampNeg ≤ E.lu)) (hs h.nx fun n1 => hs (h.mk 105 x1_.toNatClampNeg x1_.toNatClampNeg) fun h =>
    rn E d 300 24 [some (vR r0_), some (vI x1_), some (vR r2_), o3_] [vR (some n1)] h)
    else rn E d 300 13 [some (vR r0_), some (vI x1_), some (vR r2_), o3_] [] h := rn_b (b := b300_0) rfl
theorem e300_13 (E : EV) (d : Nat) (r0_ : Option Nat) (x1_ : Int32) (r2_ : Option Nat) (o3_ : Option AV) (h : AH) : rn E d 300 13 [some (vR r0_), some (vI x1_), some (vR r2_), o3_] [] h =
    none := rn_b (b := b300_13) rfl
theorem e300_24 (E : EV) (d : Nat) (r0_ : Option Nat) (x1_ : Int32) (r2_ : Option Nat) (o3_ : Option AV) (s0_ : Option Nat) (h : AH) : rn E d 300 24 [some (vR r0_), some (vI x1_), some (vR r2_), o3_] [vR s0_] h =
    nn r0_ fun a1 =>
    gd (decide (101 ≤ h.kd a1)) (cI (cal E d 295 [vI (Int32.ofNat (h.ln a1)), vI x1_] h) th fun v2 h =>
    cV (cal E d 301 [vR r0_, vI 0, vR s0_, vI 0, vI v2] h) th fun h =>
    some (Sum.inl (some (vR s0_)), h)) := rn_b (b := b300_24) rfl
