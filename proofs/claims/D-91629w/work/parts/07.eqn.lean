/-! block equations, by alleqs.py out of the tables -/
set_option maxRecDepth 100000
/-! 70 FastPlane$Machine.<init>()V -/
theorem c70 (E : EV) (d : Nat) (t : Nat) (h : AH) : cal E (d + 1) 70 [vR (some t)] h = rn E d 70 0 [some (vR (some t))] [] h := cal_rn rfl rfl
theorem e70_0 (E : EV) (d : Nat) (t : Nat) (h : AH) : rn E d 70 0 [some (vR (some t))] [] h =
    gd (decide (h.nx + 1 ≤ E.lc) && decide (h.us + 3 ≤ E.lu)) (hs h.nx fun n1 => hs (h.mk 3 0 3) fun h =>
    cV (cal E d 267 [vR (some n1), vI 2] h) th fun h =>
    gd ((h.kd t == 2) && decide (E.bs ≤ t)) (hs (h.setR t 34 (some n1)) fun h =>
    gd (decide (h.nx + 1 ≤ E.lc) && decide (h.us + 3 ≤ E.lu)) (hs h.nx fun n2 => hs (h.mk 3 0 3) fun h =>
    cV (cal E d 267 [vR (some n2), vI 1] h) th fun h =>
    gd ((h.kd t == 2) && decide (E.bs ≤ t)) (hs (h.setR t 35 (some n2)) fun h =>
    gd (decide (h.nx + 1 ≤ E.lc) && decide (h.us + 3 ≤ E.lu)) (hs h.nx fun n3 => hs (h.mk 3 0 3) fun h =>
    cV (cal E d 267 [vR (some n3), vI 1] h) th fun h =>
    gd ((h.kd t == 2) && decide (E.bs ≤ t)) (hs (h.setR t 36 (some n3)) fun h =>
    gd (decide (0 ≤ (3 : Int32)) && decide ((3 : Int32).toNatClampNeg ≤ 1048576) && decide (h.nx + 1 ≤ E.lc) && decide (h.us + (3 : Int32).toNatClampNeg ≤ E.lu)) (hs h.nx fun n4 => hs (h.mk 101 (3 : Int32).toNatClampNeg (3 : Int32).toNatClampNeg) fun h =>
    gd ((h.kd t == 2) && decide (E.bs ≤ t)) (hs (h.setR t 37 (some n4)) fun h =>
    gd (decide (0 ≤ (3 : Int32)) && decide ((3 : Int32).toNatClampNeg ≤ 1048576) && decide (h.nx + 1 ≤ E.lc) && decide (h.us + (3 : Int32).toNatClampNeg ≤ E.lu)) (hs h.nx fun n5 => hs (h.mk 101 (3 : Int32).toNatClampNeg (3 : Int32).toNatClampNeg) fun h =>
    gd ((h.kd t == 2) && decide (E.bs ≤ t)) (hs (h.setR t 38 (some n5)) fun h =>
    gd (decide (0 ≤ (64 : Int32)) && decide ((64 : Int32).toNatClampNeg ≤ 1048576) && decide (h.nx + 1 ≤ E.lc) && decide (h.us + (64 : Int32).toNatClampNeg ≤ E.lu)) (hs h.nx fun n6 => hs (h.mk 101 (64 : Int32).toNatClampNeg (64 : Int32).toNatClampNeg) fun h =>
    gd ((h.kd t == 2) && decide (E.bs ≤ t)) (hs (h.setR t 39 (some n6)) fun h =>
    gd (decide (0 ≤ (8 : Int32)) && decide ((8 : Int32).toNatClampNeg ≤ 1048576) && decide (h.nx + 1 ≤ E.lc) && decide (h.us + (8 : Int32).toNatClampNeg ≤ E.lu)) (hs h.nx fun n7 => hs (h.mk 103 (8 : Int32).toNatClampNeg (8 : Int32).toNatClampNeg) fun h =>
    gd ((h.kd t == 2) && decide (E.bs ≤ t)) (hs (h.setR t 40 (some n7)) fun h =>
    some (Sum.inl none, h))))))))))))))) := rn_b (b := b70_0) rfl
/-! 71 FastPlane$Machine.part(Ljava/lang/String;)LFastPlane$Part; -/
theorem c71 (E : EV) (d : Nat) (t : Nat) (x1_ : Option Nat) (h : AH) : cal E (d + 1) 71 [vR (some t), vR x1_] h = rn E d 71 0 [some (vR (some t)), some (vR x1_), none] [] h := cal_rn rfl rfl
theorem e71_0 (E : EV) (d : Nat) (t : Nat) (r1_ : Option Nat) (o2_ : Option AV) (h : AH) : rn E d 71 0 [some (vR (some t)), some (vR r1_), o2_] [] h =
    rn E d 71 2 [some (vR (some t)), some (vR r1_), some (vI 0)] [] h := rn_b (b := b71_0) rfl
theorem e71_2 (E : EV) (d : Nat) (t : Nat) (r1_ : Option Nat) (x2_ : Int32) (h : AH) : rn E d 71 2 [some (vR (some t)), some (vR r1_), some (vI x2_)] [] h =
    gd (h.kd t == 2) (gd (rcO 76 [vR (h.R t 34)] h) (cI (cal E d 268 [vR (h.R t 34)] h) th fun v1 h =>
    if v1 ≤ x2_ then rn E d 71 52 [some (vR (some t)), some (vR r1_), some (vI x2_)] [] h else
    gd (h.kd t == 2) (gd (rcO 82 [vR (h.R t 34), vI x2_] h) (cR (cal E d 264 [vR (h.R t 34), vI x2_] h) th fun r2 h =>
    gd (okC 51 h r2) (nn r2 fun a3 =>
    gd (h.kd a3 == 9 || h.kd a3 == 10) (gd (rcO 103 [vR (h.R a3 73), vR r1_] h) (cI (cal E d 282 [vR (h.R a3 73), vR r1_] h) th fun v4 h =>
    if v4 = 0 then rn E d 71 46 [some (vR (some t)), some (vR r1_), some (vI x2_)] [] h else
    gd (h.kd t == 2) (gd (rcO 82 [vR (h.R t 34), vI x2_] h) (cR (cal E d 264 [vR (h.R t 34), vI x2_] h) th fun r5 h =>
    gd (okC 51 h r5) (some (Sum.inl (some (vR r5)), h))))))))))) := rn_b (b := b71_2) rfl
theorem e71_46 (E : EV) (d : Nat) (t : Nat) (r1_ : Option Nat) (x2_ : Int32) (h : AH) : rn E d 71 46 [some (vR (some t)), some (vR r1_), some (vI x2_)] [] h =
    hs (x2_ + 1) fun x1 =>
    rn E d 71 2 [some (vR (some t)), some (vR r1_), some (vI x1)] [] h := rn_b (b := b71_46) rfl
theorem e71_52 (E : EV) (d : Nat) (t : Nat) (r1_ : Option Nat) (x2_ : Int32) (h : AH) : rn E d 71 52 [some (vR (some t)), some (vR r1_), some (vI x2_)] [] h =
    some (Sum.inl (some (vR none)), h) := rn_b (b := b71_52) rfl
/-! 72 FastPlane$Link.fits(I)Z -/
theorem c72 (E : EV) (d : Nat) (t : Nat) (x1_ : Int32) (h : AH) : cal E (d + 1) 72 [vR (some t), vI x1_] h = rn E d 72 0 [some (vR (some t)), some (vI x1_)] [] h := cal_rn rfl rfl
theorem e72_0 (E : EV) (d : Nat) (t : Nat) (x1_ : Int32) (h : AH) : rn E d 72 0 [some (vR (some t)), some (vI x1_)] [] h =
    gd (h.kd t == 11) (gd (rcO 116 [vR (h.R t 79), vI x1_] h) (cI (cal E d 238 [vR (h.R t 79), vI x1_] h) th fun v1 h =>
    gd (h.kd t == 11) (gd (rcO 116 [vR (h.R t 80), vI x1_] h) (cI (cal E d 238 [vR (h.R t 80), vI x1_] h) th fun v2 h =>
    cI (cal E d 293 [vI (v1 - v2)] h) th fun v3 h =>
    gd (h.kd t == 11) (if (h.I t 81) < v3 then rn E d 72 31 [some (vR (some t)), some (vI x1_)] [] h else
    rn E d 72 32 [some (vR (some t)), some (vI x1_)] [vI 1] h))))) := rn_b (b := b72_0) rfl
theorem e72_31 (E : EV) (d : Nat) (t : Nat) (x1_ : Int32) (h : AH) : rn E d 72 31 [some (vR (some t)), some (vI x1_)] [] h =
    rn E d 72 32 [some (vR (some t)), some (vI x1_)] [vI 0] h := rn_b (b := b72_31) rfl
theorem e72_32 (E : EV) (d : Nat) (t : Nat) (x1_ : Int32) (s0_ : Int32) (h : AH) : rn E d 72 32 [some (vR (some t)), some (vI x1_)] [vI s0_] h =
    gd (decide (s0_ = 0) || decide (s0_ = 1)) (some (Sum.inl (some (vI s0_)), h)) := rn_b (b := b72_32) rfl
/-! 73 FastPlane$Link.<init>(LFastPlane$Part;LFastPlane$Part;I)V -/
theorem c73 (E : EV) (d : Nat) (t : Nat) (x1_ : Option Nat) (x2_ : Option Nat) (x3_ : Int32) (h : AH) : cal E (d + 1) 73 [vR (some t), vR x1_, vR x2_, vI x3_] h = rn E d 73 0 [some (vR (some t)), some (vR x1_), some (vR x2_), some (vI x3_)] [] h := cal_rn rfl rfl
theorem e73_0 (E : EV) (d : Nat) (t : Nat) (r1_ : Option Nat) (r2_ : Option Nat) (x3_ : Int32) (h : AH) : rn E d 73 0 [some (vR (some t)), some (vR r1_), some (vR r2_), some (vI x3_)] [] h =
    gd ((h.kd t == 11) && decide (E.bs ≤ t)) (hs (h.setR t 79 r1_) fun h =>
    gd ((h.kd t == 11) && decide (E.bs ≤ t)) (hs (h.setR t 80 r2_) fun h =>
    gd ((h.kd t == 11) && decide (E.bs ≤ t) && true) (hs (h.setI t 81 x3_) fun h =>
    some (Sum.inl none, h)))) := rn_b (b := b73_0) rfl
/-! 74 FastPlane$TreatyReader.both()LFastPlane$Ex; -/
theorem c74 (E : EV) (d : Nat) (t : Nat) (h : AH) : cal E (d + 1) 74 [vR (some t)] h = rn E d 74 0 [some (vR (some t)), none] [] h := cal_rn rfl rfl
theorem e74_0 (E : EV) (d : Nat) (t : Nat) (o1_ : Option AV) (h : AH) : rn E d 74 0 [some (vR (some t)), o1_] [] h =
    gd (decide (h.nx + 1 ≤ E.lc) && decide (h.us + 3 ≤ E.lu)) (hs h.nx fun n1 => hs (h.mk 3 0 3) fun h =>
    cV (cal E d 267 [vR (some n1), vI 1] h) th fun h =>
    gd (h.kd t == 12) (cR (cal E d 79 [vR (some t)] h) th fun r2 h =>
    gd (h.kd n1 == 3) (cI (cal E d 260 [vR (some n1), vR r2] h) th fun v3 h =>
    rn E d 74 18 [some (vR (some t)), some (vR (some n1))] [] h))) := rn_b (b := b74_0) rfl
theorem e74_18 (E : EV) (d : Nat) (t : Nat) (r1_ : Option Nat) (h : AH) : rn E d 74 18 [some (vR (some t)), some (vR r1_)] [] h =
    gd (h.kd t == 12) (cI (cal E d 224 [vR (some t), vR (some (E.sa 33))] h) th fun v1 h =>
    if v1 = 0 then rn E d 74 39 [some (vR (some t)), some (vR r1_)] [] h else
    gd (h.kd t == 12) (cR (cal E d 79 [vR (some t)] h) th fun r2 h =>
    gd (rcO 129 [vR r1_, vR r2] h) (cI (cal E d 260 [vR r1_, vR r2] h) th fun v3 h =>
    rn E d 74 18 [some (vR (some t)), some (vR r1_)] [] h))) := rn_b (b := b74_18) rfl
theorem e74_39 (E : EV) (d : Nat) (t : Nat) (r1_ : Option Nat) (h : AH) : rn E d 74 39 [some (vR (some t)), some (vR r1_)] [] h =
    gd (rcO 76 [vR r1_] h) (cI (cal E d 268 [vR r1_] h) th fun v1 h =>
    if v1 = 1 then
    gd (rcO 82 [vR r1_, vI 0] h) (cR (cal E d 264 [vR r1_, vI 0] h) th fun r2 h =>
    gd (okC 52 h r2) (rn E d 74 67 [some (vR (some t)), some (vR r1_)] [vR r2] h))
    else rn E d 74 58 [some (vR (some t)), some (vR r1_)] [] h) := rn_b (b := b74_39) rfl
theorem e74_58 (E : EV) (d : Nat) (t : Nat) (r1_ : Option Nat) (h : AH) : rn E d 74 58 [some (vR (some t)), some (vR r1_)] [] h =
    gd (decide (h.nx + 1 ≤ E.lc) && decide (h.us + 2 ≤ E.lu)) (hs h.nx fun n1 => hs (h.mk 19 0 2) fun h =>
    cV (cal E d 96 [vR (some n1), vR r1_, vI 1] h) th fun h =>
    rn E d 74 67 [some (vR (some t)), some (vR r1_)] [vR (some n1)] h) := rn_b (b := b74_58) rfl
theorem e74_67 (E : EV) (d : Nat) (t : Nat) (r1_ : Option Nat) (s0_ : Option Nat) (h : AH) : rn E d 74 67 [some (vR (some t)), some (vR r1_)] [vR s0_] h =
    some (Sum.inl (some (vR s0_)), h) := rn_b (b := b74_67) rfl
/-! 75 FastPlane$TreatyReader.deeper()V -/
theorem c75 (E : EV) (d : Nat) (t : Nat) (h : AH) : cal E (d + 1) 75 [vR (some t)] h = rn E d 75 0 [some (vR (some t))] [] h := cal_rn rfl rfl
theorem e75_0 (E : EV) (d : Nat) (t : Nat) (h : AH) : rn E d 75 0 [some (vR (some t))] [] h =
    gd (h.kd t == 12) (if (h.I t 84) = 7 then
    gd (h.kd t == 12) (cR (cal E d 229 [vR (some t)] h) th fun r1 h =>
    nn r1 fun a2 =>
    th a2 h)
    else rn E d 75 14 [some (vR (some t))] [] h) := rn_b (b := b75_0) rfl
theorem e75_14 (E : EV) (d : Nat) (t : Nat) (h : AH) : rn E d 75 14 [some (vR (some t))] [] h =
    gd (h.kd t == 12) (gd ((h.kd t == 12) && decide (E.bs ≤ t) && true) (hs (h.setI t 84 ((h.I t 84) + 1)) fun h =>
    some (Sum.inl none, h))) := rn_b (b := b75_14) rfl
/-! 76 FastPlane$TreatyReader.either()LFastPlane$Ex; -/
theorem c76 (E : EV) (d : Nat) (t : Nat) (h : AH) : cal E (d + 1) 76 [vR (some t)] h = rn E d 76 0 [some (vR (some t)), none] [] h := cal_rn rfl rfl
theorem e76_0 (E : EV) (d : Nat) (t : Nat) (o1_ : Option AV) (h : AH) : rn E d 76 0 [some (vR (some t)), o1_] [] h =
    gd (decide (h.nx + 1 ≤ E.lc) && decide (h.us + 3 ≤ E.lu)) (hs h.nx fun n1 => hs (h.mk 3 0 3) fun h =>
    cV (cal E d 267 [vR (some n1), vI 1] h) th fun h =>
    gd (h.kd t == 12) (cR (cal E d 74 [vR (some t)] h) th fun r2 h =>
    gd (h.kd n1 == 3) (cI (cal E d 260 [vR (some n1), vR r2] h) th fun v3 h =>
    rn E d 76 18 [some (vR (some t)), some (vR (some n1))] [] h))) := rn_b (b := b76_0) rfl
theorem e76_18 (E : EV) (d : Nat) (t : Nat) (r1_ : Option Nat) (h : AH) : rn E d 76 18 [some (vR (some t)), some (vR r1_)] [] h =
    gd (h.kd t == 12) (cI (cal E d 224 [vR (some t), vR (some (E.sa 34))] h) th fun v1 h =>
    if v1 = 0 then rn E d 76 39 [some (vR (some t)), some (vR r1_)] [] h else
    gd (h.kd t == 12) (cR (cal E d 74 [vR (some t)] h) th fun r2 h =>
    gd (rcO 129 [vR r1_, vR r2] h) (cI (cal E d 260 [vR r1_, vR r2] h) th fun v3 h =>
    rn E d 76 18 [some (vR (some t)), some (vR r1_)] [] h))) := rn_b (b := b76_18) rfl
theorem e76_39 (E : EV) (d : Nat) (t : Nat) (r1_ : Option Nat) (h : AH) : rn E d 76 39 [some (vR (some t)), some (vR r1_)] [] h =
    gd (rcO 76 [vR r1_] h) (cI (cal E d 268 [vR r1_] h) th fun v1 h =>
    if v1 = 1 then
    gd (rcO 82 [vR r1_, vI 0] h) (cR (cal E d 264 [vR r1_, vI 0] h) th fun r2 h =>
    gd (okC 52 h r2) (rn E d 76 67 [some (vR (some t)), some (vR r1_)] [vR r2] h))
    else rn E d 76 58 [some (vR (some t)), some (vR r1_)] [] h) := rn_b (b := b76_39) rfl
theorem e76_58 (E : EV) (d : Nat) (t : Nat) (r1_ : Option Nat) (h : AH) : rn E d 76 58 [some (vR (some t)), some (vR r1_)] [] h =
    gd (decide (h.nx + 1 ≤ E.lc) && decide (h.us + 2 ≤ E.lu)) (hs h.nx fun n1 => hs (h.mk 19 0 2) fun h =>
    cV (cal E d 96 [vR (some n1), vR r1_, vI 0] h) th fun h =>
    rn E d 76 67 [some (vR (some t)), some (vR r1_)] [vR (some n1)] h) := rn_b (b := b76_58) rfl
theorem e76_67 (E : EV) (d : Nat) (t : Nat) (r1_ : Option Nat) (s0_ : Option Nat) (h : AH) : rn E d 76 67 [some (vR (some t)), some (vR r1_)] [vR s0_] h =
    some (Sum.inl (some (vR s0_)), h) := rn_b (b := b76_67) rfl
/-! 77 FastPlane$TreatyReader.<init>(LFastPlane;)V -/
theorem c77 (E : EV) (d : Nat) (t : Nat) (x1_ : Option Nat) (h : AH) : cal E (d + 1) 77 [vR (some t), vR x1_] h = rn E d 77 0 [some (vR (some t)), some (vR x1_)] [] h := cal_rn rfl rfl
theorem e77_0 (E : EV) (d : Nat) (t : Nat) (r1_ : Option Nat) (h : AH) : rn E d 77 0 [some (vR (some t)), some (vR r1_)] [] h =
    gd ((h.kd t == 12) && decide (E.bs ≤ t)) (hs (h.setR t 86 r1_) fun h =>
    cV (cal E d 219 [vR (some t), vR r1_] h) th fun h =>
    gd (decide (h.nx + 1 ≤ E.lc) && decide (h.us + 2 ≤ E.lu)) (hs h.nx fun n1 => hs (h.mk 4 0 2) fun h =>
    cV (cal E d 102 [vR (some n1)] h) th fun h =>
    gd ((h.kd t == 12) && decide (E.bs ≤ t)) (hs (h.setR t 82 (some n1)) fun h =>
    some (Sum.inl none, h)))) := rn_b (b := b77_0) rfl
/-! 78 FastPlane$TreatyReader.lineHere()I -/
theorem c78 (E : EV) (d : Nat) (t : Nat) (h : AH) : cal E (d + 1) 78 [vR (some t)] h = rn E d 78 0 [some (vR (some t))] [] h := cal_rn rfl rfl
theorem e78_0 (E : EV) (d : Nat) (t : Nat) (h : AH) : rn E d 78 0 [some (vR (some t))] [] h =
    gd (h.kd t == 12) (cI (cal E d 222 [vR (some t), vR (some (E.sa 28))] h) th fun v1 h =>
    if v1 = 0 then rn E d 78 13 [some (vR (some t))] [] h else
    rn E d 78 53 [some (vR (some t))] [vI 0] h) := rn_b (b := b78_0) rfl
theorem e78_13 (E : EV) (d : Nat) (t : Nat) (h : AH) : rn E d 78 13 [some (vR (some t))] [] h =
    gd (h.kd t == 12) (cI (cal E d 222 [vR (some t), vR (some (E.sa 29))] h) th fun v1 h =>
    if v1 = 0 then rn E d 78 26 [some (vR (some t))] [] h else
    rn E d 78 53 [some (vR (some t))] [vI 1] h) := rn_b (b := b78_13) rfl
theorem e78_26 (E : EV) (d : Nat) (t : Nat) (h : AH) : rn E d 78 26 [some (vR (some t))] [] h =
    gd (h.kd t == 12) (cI (cal E d 222 [vR (some t), vR (some (E.sa 30))] h) th fun v1 h =>
    if v1 = 0 then rn E d 78 39 [some (vR (some t))] [] h else
    rn E d 78 53 [some (vR (some t))] [vI 2] h) := rn_b (b := b78_26) rfl
theorem e78_39 (E : EV) (d : Nat) (t : Nat) (h : AH) : rn E d 78 39 [some (vR (some t))] [] h =
    gd (h.kd t == 12) (cI (cal E d 222 [vR (some t), vR (some (E.sa 31))] h) th fun v1 h =>
    if v1 = 0 then rn E d 78 52 [some (vR (some t))] [] h else
    rn E d 78 53 [some (vR (some t))] [vI 3] h) := rn_b (b := b78_39) rfl
theorem e78_52 (E : EV) (d : Nat) (t : Nat) (h : AH) : rn E d 78 52 [some (vR (some t))] [] h =
    rn E d 78 53 [some (vR (some t))] [vI (-1)] h := rn_b (b := b78_52) rfl
theorem e78_53 (E : EV) (d : Nat) (t : Nat) (s0_ : Int32) (h : AH) : rn E d 78 53 [some (vR (some t))] [vI s0_] h =
    some (Sum.inl (some (vI s0_)), h) := rn_b (b := b78_53) rfl
/-! 79 FastPlane$TreatyReader.one()LFastPlane$Ex; -/
theorem c79 (E : EV) (d : Nat) (t : Nat) (h : AH) : cal E (d + 1) 79 [vR (some t)] h = rn E d 79 0 [some (vR (some t)), none, none] [] h := cal_rn rfl rfl
theorem e79_0 (E : EV) (d : Nat) (t : Nat) (o1_ : Option AV) (o2_ : Option AV) (h : AH) : rn E d 79 0 [some (vR (some t)), o1_, o2_] [] h =
    gd (h.kd t == 12) (cI (cal E d 222 [vR (some t), vR (some (E.sa 35))] h) th fun v1 h =>
    if v1 = 0 then rn E d 79 41 [some (vR (some t)), o1_, o2_] [] h else
    gd (h.kd t == 12) (cV (cal E d 75 [vR (some t)] h) th fun h =>
    gd (h.kd t == 12) (cV (cal E d 227 [vR (some t)] h) th fun h =>
    gd (decide (h.nx + 1 ≤ E.lc) && decide (h.us + 1 ≤ E.lu)) (hs h.nx fun n2 => hs (h.mk 13 0 1) fun h =>
    gd (h.kd t == 12) (cR (cal E d 79 [vR (some t)] h) th fun r3 h =>
    cV (cal E d 85 [vR (some n2), vR r3] h) th fun h =>
    gd (h.kd t == 12) (gd ((h.kd t == 12) && decide (E.bs ≤ t) && true) (hs (h.setI t 84 ((h.I t 84) - 1)) fun h =>
    some (Sum.inl (some (vR (some n2))), h)))))))) := rn_b (b := b79_0) rfl
theorem e79_41 (E : EV) (d : Nat) (t : Nat) (o1_ : Option AV) (o2_ : Option AV) (h : AH) : rn E d 79 41 [some (vR (some t)), o1_, o2_] [] h =
    gd (h.kd t == 12) (cR (cal E d 80 [vR (some t)] h) th fun r1 h =>
    gd (h.kd t == 5 || h.kd t == 12) (if (h.I t 49) = 60 then rn E d 79 75 [some (vR (some t)), some (vR r1), o2_] [] h else
    gd (h.kd t == 5 || h.kd t == 12) (if (h.I t 49) = 62 then rn E d 79 75 [some (vR (some t)), some (vR r1), o2_] [] h else
    gd (h.kd t == 5 || h.kd t == 12) (if (h.I t 49) = 61 then rn E d 79 75 [some (vR (some t)), some (vR r1), o2_] [] h else
    some (Sum.inl (some (vR r1)), h))))) := rn_b (b := b79_41) rfl
theorem e79_75 (E : EV) (d : Nat) (t : Nat) (r1_ : Option Nat) (o2_ : Option AV) (h : AH) : rn E d 79 75 [some (vR (some t)), some (vR r1_), o2_] [] h =
    gd (h.kd t == 5 || h.kd t == 12) (hs (h.I t 49) fun x1 =>
    gd (h.kd t == 12) (cV (cal E d 227 [vR (some t)] h) th fun h =>
    gd (decide (h.nx + 1 ≤ E.lc) && decide (h.us + 3 ≤ E.lu)) (hs h.nx fun n2 => hs (h.mk 18 0 3) fun h =>
    gd (h.kd t == 12) (cR (cal E d 80 [vR (some t)] h) th fun r3 h =>
    cV (cal E d 94 [vR (some n2), vR r1_, vI x1, vR r3] h) th fun h =>
    some (Sum.inl (some (vR (some n2))), h))))) := rn_b (b := b79_75) rfl
/-! 80 FastPlane$TreatyReader.sum()LFastPlane$Ex; -/
theorem c80 (E : EV) (d : Nat) (t : Nat) (h : AH) : cal E (d + 1) 80 [vR (some t)] h = rn E d 80 0 [some (vR (some t)), none, none, none] [] h := cal_rn rfl rfl
theorem e80_0 (E : EV) (d : Nat) (t : Nat) (o1_ : Option AV) (o2_ : Option AV) (o3_ : Option AV) (h : AH) : rn E d 80 0 [some (vR (some t)), o1_, o2_, o3_] [] h =
    gd (h.kd t == 12) (cR (cal E d 81 [vR (some t)] h) th fun r1 h =>
    gd (h.kd t == 5 || h.kd t == 12) (if (h.I t 49) = 43 then rn E d 80 25 [some (vR (some t)), some (vR r1), o2_, o3_] [] h else
    gd (h.kd t == 5 || h.kd t == 12) (if (h.I t 49) = 45 then rn E d 80 25 [some (vR (some t)), some (vR r1), o2_, o3_] [] h else
    some (Sum.inl (some (vR r1)), h)))) := rn_b (b := b80_0) rfl
theorem e80_25 (E : EV) (d : Nat) (t : Nat) (r1_ : Option Nat) (o2_ : Option AV) (o3_ : Option AV) (h : AH) : rn E d 80 25 [some (vR (some t)), some (vR r1_), o2_, o3_] [] h =
    gd (decide (h.nx + 1 ≤ E.lc) && decide (h.us + 2 ≤ E.lu)) (hs h.nx fun n1 => hs (h.mk 16 0 2) fun h =>
    cV (cal E d 92 [vR (some n1), vR r1_] h) th fun h =>
    rn E d 80 34 [some (vR (some t)), some (vR r1_), some (vR (some n1)), o3_] [] h) := rn_b (b := b80_25) rfl
theorem e80_34 (E : EV) (d : Nat) (t : Nat) (r1_ : Option Nat) (r2_ : Option Nat) (o3_ : Option AV) (h : AH) : rn E d 80 34 [some (vR (some t)), some (vR r1_), some (vR r2_), o3_] [] h =
    gd (h.kd t == 5 || h.kd t == 12) (if (h.I t 49) = 43 then rn E d 80 52 [some (vR (some t)), some (vR r1_), some (vR r2_), o3_] [] h else
    gd (h.kd t == 5 || h.kd t == 12) (if (h.I t 49) = 45 then
    rn E d 80 52 [some (vR (some t)), some (vR r1_), some (vR r2_), o3_] [] h
    else rn E d 80 73 [some (vR (some t)), some (vR r1_), some (vR r2_), o3_] [] h)) := rn_b (b := b80_34) rfl
theorem e80_52 (E : EV) (d : Nat) (t : Nat) (r1_ : Option Nat) (r2_ : Option Nat) (o3_ : Option AV) (h : AH) : rn E d 80 52 [some (vR (some t)), some (vR r1_), some (vR r2_), o3_] [] h =
    gd (h.kd t == 5 || h.kd t == 12) (hs (h.I t 49) fun x1 =>
    gd (h.kd t == 12) (cV (cal E d 227 [vR (some t)] h) th fun h =>
    gd (h.kd t == 12) (cR (cal E d 81 [vR (some t)] h) th fun r2 h =>
    gd (rcO 147 [vR r2_, vI x1, vR r2] h) (cV (cal E d 91 [vR r2_, vI x1, vR r2] h) th fun h =>
    rn E d 80 34 [some (vR (some t)), some (vR r1_), some (vR r2_), some (vI x1)] [] h)))) := rn_b (b := b80_52) rfl
theorem e80_73 (E : EV) (d : Nat) (t : Nat) (r1_ : Option Nat) (r2_ : Option Nat) (o3_ : Option AV) (h : AH) : rn E d 80 73 [some (vR (some t)), some (vR r1_), some (vR r2_), o3_] [] h =
    some (Sum.inl (some (vR r2_)), h) := rn_b (b := b80_73) rfl
/-! 81 FastPlane$TreatyReader.term()LFastPlane$Ex; -/
theorem c81 (E : EV) (d : Nat) (t : Nat) (h : AH) : cal E (d + 1) 81 [vR (some t)] h = rn E d 81 0 [some (vR (some t)), none, none] [] h := cal_rn rfl rfl
theorem e81_0 (E : EV) (d : Nat) (t : Nat) (o1_ : Option AV) (o2_ : Option AV) (h : AH) : rn E d 81 0 [some (vR (some t)), o1_, o2_] [] h =
    gd (h.kd t == 12) (cR (cal E d 83 [vR (some t)] h) th fun r1 h =>
    gd (h.kd t == 5 || h.kd t == 12) (if (h.I t 49) = 42 then rn E d 81 16 [some (vR (some t)), some (vR r1), o2_] [] h else
    some (Sum.inl (some (vR r1)), h))) := rn_b (b := b81_0) rfl
theorem e81_16 (E : EV) (d : Nat) (t : Nat) (r1_ : Option Nat) (o2_ : Option AV) (h : AH) : rn E d 81 16 [some (vR (some t)), some (vR r1_), o2_] [] h =
    gd (decide (h.nx + 1 ≤ E.lc) && decide (h.us + 2 ≤ E.lu)) (hs h.nx fun n1 => hs (h.mk 16 0 2) fun h =>
    cV (cal E d 92 [vR (some n1), vR r1_] h) th fun h =>
    rn E d 81 25 [some (vR (some t)), some (vR r1_), some (vR (some n1))] [] h) := rn_b (b := b81_16) rfl
theorem e81_25 (E : EV) (d : Nat) (t : Nat) (r1_ : Option Nat) (r2_ : Option Nat) (h : AH) : rn E d 81 25 [some (vR (some t)), some (vR r1_), some (vR r2_)] [] h =
    gd (h.kd t == 5 || h.kd t == 12) (if (h.I t 49) = 42 then
    gd (h.kd t == 12) (cV (cal E d 227 [vR (some t)] h) th fun h =>
    gd (h.kd t == 12) (cR (cal E d 83 [vR (some t)] h) th fun r1 h =>
    gd (rcO 147 [vR r2_, vI 42, vR r1] h) (cV (cal E d 91 [vR r2_, vI 42, vR r1] h) th fun h =>
    rn E d 81 25 [some (vR (some t)), some (vR r1_), some (vR r2_)] [] h)))
    else rn E d 81 51 [some (vR (some t)), some (vR r1_), some (vR r2_)] [] h) := rn_b (b := b81_25) rfl
theorem e81_51 (E : EV) (d : Nat) (t : Nat) (r1_ : Option Nat) (r2_ : Option Nat) (h : AH) : rn E d 81 51 [some (vR (some t)), some (vR r1_), some (vR r2_)] [] h =
    some (Sum.inl (some (vR r2_)), h) := rn_b (b := b81_51) rfl
/-! 82 FastPlane$TreatyReader.text()LFastPlane$Treaty; -/
theorem c82 (E : EV) (d : Nat) (t : Nat) (h : AH) : cal E (d + 1) 82 [vR (some t)] h = rn E d 82 0 [some (vR (some t)), none] [] h := cal_rn rfl rfl
theorem e82_0 (E : EV) (d : Nat) (t : Nat) (o1_ : Option AV) (h : AH) : rn E d 82 0 [some (vR (some t)), o1_] [] h =
    gd (h.kd t == 12) (cV (cal E d 227 [vR (some t)] h) th fun h =>
    rn E d 82 4 [some (vR (some t)), o1_] [] h) := rn_b (b := b82_0) rfl
theorem e82_4 (E : EV) (d : Nat) (t : Nat) (o1_ : Option AV) (h : AH) : rn E d 82 4 [some (vR (some t)), o1_] [] h =
    gd (h.kd t == 5 || h.kd t == 12) (if (h.I t 49) = 0 then rn E d 82 103 [some (vR (some t)), o1_] [] h else
    gd (h.kd t == 12) (cI (cal E d 78 [vR (some t)] h) th fun v1 h =>
    gd ((h.kd t == 12) && decide (E.bs ≤ t) && true) (hs (h.setI t 85 v1) fun h =>
    gd (h.kd t == 12) (if (h.I t 85) < 0 then rn E d 82 41 [some (vR (some t)), o1_] [] h else
    gd (h.kd t == 12) (nn (h.R t 82) fun a2 =>
    gd (h.kd a2 == 4) (gd (h.kd t == 12) (nn (h.R a2 46) fun a3 =>
    gd (decide (105 ≤ h.kd a3) && inb (h.I t 85) (h.ln a3)) (if (h.R a3 (h.I t 85).toNatClampNeg) = none then rn E d 82 46 [some (vR (some t)), o1_] [] h else
    rn E d 82 41 [some (vR (some t)), o1_] [] h)))))))) := rn_b (b := b82_4) rfl
theorem e82_41 (E : EV) (d : Nat) (t : Nat) (o1_ : Option AV) (h : AH) : rn E d 82 41 [some (vR (some t)), o1_] [] h =
    gd (h.kd t == 12) (cR (cal E d 229 [vR (some t)] h) th fun r1 h =>
    nn r1 fun a2 =>
    th a2 h) := rn_b (b := b82_41) rfl
theorem e82_46 (E : EV) (d : Nat) (t : Nat) (o1_ : Option AV) (h : AH) : rn E d 82 46 [some (vR (some t)), o1_] [] h =
    gd (h.kd t == 12) (cV (cal E d 227 [vR (some t)] h) th fun h =>
    gd (h.kd t == 12) (if (h.I t 85) = 0 then rn E d 82 63 [some (vR (some t)), o1_] [] h else
    gd (h.kd t == 12) (cV (cal E d 223 [vR (some t), vR (some (E.sa 32))] h) th fun h =>
    rn E d 82 63 [some (vR (some t)), o1_] [] h))) := rn_b (b := b82_46) rfl
theorem e82_63 (E : EV) (d : Nat) (t : Nat) (o1_ : Option AV) (h : AH) : rn E d 82 63 [some (vR (some t)), o1_] [] h =
    gd (h.kd t == 12) (cR (cal E d 76 [vR (some t)] h) th fun r1 h =>
    gd (h.kd t == 12) (cV (cal E d 226 [vR (some t), vI 59] h) th fun h =>
    gd (h.kd t == 12) (nn (h.R t 82) fun a2 =>
    gd (h.kd a2 == 4) (gd (h.kd t == 12) (nn (h.R a2 46) fun a3 =>
    gd (decide (105 ≤ h.kd a3) && decide (h.kd a3 < 108) && inb (h.I t 85) (h.ln a3) && decide (E.bs ≤ a3) && okA h a3 r1) (hs (h.setR a3 (h.I t 85).toNatClampNeg r1) fun h =>
    gd (h.kd t == 12) (nn (h.R t 82) fun a4 =>
    gd (h.kd a4 == 4) (nn (h.R t 82) fun a5 =>
    gd ((h.kd a5 == 4) && decide (E.bs ≤ a5) && true) (hs (h.setI a5 47 ((h.I a4 47) + 1)) fun h =>
    rn E d 82 4 [some (vR (some t)), some (vR r1)] [] h))))))))) := rn_b (b := b82_63) rfl
theorem e82_103 (E : EV) (d : Nat) (t : Nat) (o1_ : Option AV) (h : AH) : rn E d 82 103 [some (vR (some t)), o1_] [] h =
    gd (h.kd t == 12) (some (Sum.inl (some (vR (h.R t 82))), h)) := rn_b (b := b82_103) rfl
/-! 83 FastPlane$TreatyReader.unit()LFastPlane$Ex; -/
theorem c83 (E : EV) (d : Nat) (t : Nat) (h : AH) : cal E (d + 1) 83 [vR (some t)] h = rn E d 83 0 [some (vR (some t)), none, none] [] h := cal_rn rfl rfl
theorem e83_0 (E : EV) (d : Nat) (t : Nat) (o1_ : Option AV) (o2_ : Option AV) (h : AH) : rn E d 83 0 [some (vR (some t)), o1_, o2_] [] h =
    gd (h.kd t == 5 || h.kd t == 12) (if (h.I t 49) = 1 then
    gd (h.kd t == 5 || h.kd t == 12) (cI (cal E d 32 [vR (h.R t 53)] h) th fun v1 h =>
    rn E d 83 19 [some (vR (some t)), o1_, o2_] [vI v1] h)
    else rn E d 83 18 [some (vR (some t)), o1_, o2_] [] h) := rn_b (b := b83_0) rfl
theorem e83_18 (E : EV) (d : Nat) (t : Nat) (o1_ : Option AV) (o2_ : Option AV) (h : AH) : rn E d 83 18 [some (vR (some t)), o1_, o2_] [] h =
    rn E d 83 19 [some (vR (some t)), o1_, o2_] [vI (-1)] h := rn_b (b := b83_18) rfl
theorem e83_19 (E : EV) (d : Nat) (t : Nat) (o1_ : Option AV) (o2_ : Option AV) (s0_ : Int32) (h : AH) : rn E d 83 19 [some (vR (some t)), o1_, o2_] [vI s0_] h =
    gd (h.kd t == 5 || h.kd t == 12) (if (h.I t 49) = 2 then rn E d 83 41 [some (vR (some t)), some (vI s0_), o2_] [] h else
    gd (h.kd t == 5 || h.kd t == 12) (if (h.I t 49) = 40 then rn E d 83 41 [some (vR (some t)), some (vI s0_), o2_] [] h else
    if s0_ < 0 then rn E d 83 50 [some (vR (some t)), some (vI s0_), o2_] [] h else
    rn E d 83 41 [some (vR (some t)), some (vI s0_), o2_] [] h)) := rn_b (b := b83_19) rfl
theorem e83_41 (E : EV) (d : Nat) (t : Nat) (x1_ : Int32) (o2_ : Option AV) (h : AH) : rn E d 83 41 [some (vR (some t)), some (vI x1_), o2_] [] h =
    gd (h.kd t == 12) (if (h.I t 83) = 60 then
    rn E d 83 50 [some (vR (some t)), some (vI x1_), o2_] [] h
    else rn E d 83 55 [some (vR (some t)), some (vI x1_), o2_] [] h) := rn_b (b := b83_41) rfl
theorem e83_50 (E : EV) (d : Nat) (t : Nat) (x1_ : Int32) (o2_ : Option AV) (h : AH) : rn E d 83 50 [some (vR (some t)), some (vI x1_), o2_] [] h =
    gd (h.kd t == 12) (cR (cal E d 229 [vR (some t)] h) th fun r1 h =>
    nn r1 fun a2 =>
    th a2 h) := rn_b (b := b83_50) rfl
theorem e83_55 (E : EV) (d : Nat) (t : Nat) (x1_ : Int32) (o2_ : Option AV) (h : AH) : rn E d 83 55 [some (vR (some t)), some (vI x1_), o2_] [] h =
    if x1_ < 0 then rn E d 83 87 [some (vR (some t)), some (vI x1_), o2_] [] h else
    gd (h.kd t == 12) (cI (cal E d 43 [vI (h.I t 85)] h) th fun v1 h =>
    if ((v1 >>> (x1_ &&& 31)) &&& 1) = 0 then
    gd (decide (h.nx + 1 ≤ E.lc) && decide (h.us + 8 ≤ E.lu)) (hs h.nx fun n2 => hs (h.mk 8 0 8) fun h =>
    gd (h.kd t == 5 || h.kd t == 12) (cV (cal E d 237 [vR (some n2), vI 7, vI (h.I t 50)] h) th fun h =>
    th n2 h))
    else rn E d 83 87 [some (vR (some t)), some (vI x1_), o2_] [] h) := rn_b (b := b83_55) rfl
theorem e83_87 (E : EV) (d : Nat) (t : Nat) (x1_ : Int32) (o2_ : Option AV) (h : AH) : rn E d 83 87 [some (vR (some t)), some (vI x1_), o2_] [] h =
    gd (h.kd t == 5 || h.kd t == 12) (if (h.I t 49) = 40 then
    gd (h.kd t == 12) (cV (cal E d 75 [vR (some t)] h) th fun h =>
    gd (h.kd t == 12) (gd ((h.kd t == 12) && decide (E.bs ≤ t) && true) (hs (h.setI t 83 ((h.I t 83) + 1)) fun h =>
    gd (h.kd t == 12) (cV (cal E d 227 [vR (some t)] h) th fun h =>
    gd (h.kd t == 12) (cR (cal E d 76 [vR (some t)] h) th fun r1 h =>
    gd (h.kd t == 12) (cV (cal E d 226 [vR (some t), vI 41] h) th fun h =>
    gd (h.kd t == 12) (gd ((h.kd t == 12) && decide (E.bs ≤ t) && true) (hs (h.setI t 84 ((h.I t 84) - 1)) fun h =>
    some (Sum.inl (some (vR r1)), h)))))))))
    else rn E d 83 137 [some (vR (some t)), some (vI x1_), o2_] [] h) := rn_b (b := b83_87) rfl
theorem e83_137 (E : EV) (d : Nat) (t : Nat) (x1_ : Int32) (o2_ : Option AV) (h : AH) : rn E d 83 137 [some (vR (some t)), some (vI x1_), o2_] [] h =
    gd (h.kd t == 12) (gd ((h.kd t == 12) && decide (E.bs ≤ t) && true) (hs (h.setI t 83 ((h.I t 83) + 1)) fun h =>
    if x1_ < 0 then rn E d 83 162 [some (vR (some t)), some (vI x1_), o2_] [] h else
    gd (decide (h.nx + 1 ≤ E.lc) && decide (h.us + 1 ≤ E.lu)) (hs h.nx fun n1 => hs (h.mk 14 0 1) fun h =>
    cV (cal E d 87 [vR (some n1), vI x1_] h) th fun h =>
    rn E d 83 173 [some (vR (some t)), some (vI x1_), o2_] [vR (some n1)] h))) := rn_b (b := b83_137) rfl
theorem e83_162 (E : EV) (d : Nat) (t : Nat) (x1_ : Int32) (o2_ : Option AV) (h : AH) : rn E d 83 162 [some (vR (some t)), some (vI x1_), o2_] [] h =
    gd (decide (h.nx + 1 ≤ E.lc) && decide (h.us + 1 ≤ E.lu)) (hs h.nx fun n1 => hs (h.mk 15 0 1) fun h =>
    gd (h.kd t == 5 || h.kd t == 12) (cV (cal E d 89 [vR (some n1), vI (h.I t 51)] h) th fun h =>
    rn E d 83 173 [some (vR (some t)), some (vI x1_), o2_] [vR (some n1)] h)) := rn_b (b := b83_162) rfl
theorem e83_173 (E : EV) (d : Nat) (t : Nat) (x1_ : Int32) (o2_ : Option AV) (s0_ : Option Nat) (h : AH) : rn E d 83 173 [some (vR (some t)), some (vI x1_), o2_] [vR s0_] h =
    gd (h.kd t == 12) (cV (cal E d 227 [vR (some t)] h) th fun h =>
    some (Sum.inl (some (vR s0_)), h)) := rn_b (b := b83_173) rfl
/-! 84 FastPlane$Ex.<init>()V -/
theorem c84 (E : EV) (d : Nat) (t : Nat) (h : AH) : cal E (d + 1) 84 [vR (some t)] h = rn E d 84 0 [some (vR (some t))] [] h := cal_rn rfl rfl
theorem e84_0 (E : EV) (d : Nat) (t : Nat) (h : AH) : rn E d 84 0 [some (vR (some t))] [] h =
    some (Sum.inl none, h) := rn_b (b := b84_0) rfl
/-! 85 FastPlane$Not.<init>(LFastPlane$Ex;)V -/
theorem c85 (E : EV) (d : Nat) (t : Nat) (x1_ : Option Nat) (h : AH) : cal E (d + 1) 85 [vR (some t), vR x1_] h = rn E d 85 0 [some (vR (some t)), some (vR x1_)] [] h := cal_rn rfl rfl
theorem e85_0 (E : EV) (d : Nat) (t : Nat) (r1_ : Option Nat) (h : AH) : rn E d 85 0 [some (vR (some t)), some (vR r1_)] [] h =
    cV (cal E d 84 [vR (some t)] h) th fun h =>
    gd ((h.kd t == 13) && decide (E.bs ≤ t)) (hs (h.setR t 87 r1_) fun h =>
    some (Sum.inl none, h)) := rn_b (b := b85_0) rfl
/-! 86 FastPlane$Not.of([I)I -/
theorem c86 (E : EV) (d : Nat) (t : Nat) (x1_ : Option Nat) (h : AH) : cal E (d + 1) 86 [vR (some t), vR x1_] h = rn E d 86 0 [some (vR (some t)), some (vR x1_)] [] h := cal_rn rfl rfl
theorem e86_0 (E : EV) (d : Nat) (t : Nat) (r1_ : Option Nat) (h : AH) : rn E d 86 0 [some (vR (some t)), some (vR r1_)] [] h =
    gd (h.kd t == 13) (nn (h.R t 87) fun a2 =>
    gd (anyK exk (h.kd a2)) (cI (cal E d (vt1 (h.kd a2)) [vR (some a2), vR r1_] h) th fun v1 h =>
    if v1 = 0 then
    rn E d 86 16 [some (vR (some t)), some (vR r1_)] [vI 1] h
    else rn E d 86 15 [some (vR (some t)), some (vR r1_)] [] h)) := rn_b (b := b86_0) rfl
theorem e86_15 (E : EV) (d : Nat) (t : Nat) (r1_ : Option Nat) (h : AH) : rn E d 86 15 [some (vR (some t)), some (vR r1_)] [] h =
    rn E d 86 16 [some (vR (some t)), some (vR r1_)] [vI 0] h := rn_b (b := b86_15) rfl
theorem e86_16 (E : EV) (d : Nat) (t : Nat) (r1_ : Option Nat) (s0_ : Int32) (h : AH) : rn E d 86 16 [some (vR (some t)), some (vR r1_)] [vI s0_] h =
    some (Sum.inl (some (vI s0_)), h) := rn_b (b := b86_16) rfl
/-! 87 FastPlane$Word.<init>(I)V -/
theorem c87 (E : EV) (d : Nat) (t : Nat) (x1_ : Int32) (h : AH) : cal E (d + 1) 87 [vR (some t), vI x1_] h = rn E d 87 0 [some (vR (some t)), some (vI x1_)] [] h := cal_rn rfl rfl
theorem e87_0 (E : EV) (d : Nat) (t : Nat) (x1_ : Int32) (h : AH) : rn E d 87 0 [some (vR (some t)), some (vI x1_)] [] h =
    cV (cal E d 84 [vR (some t)] h) th fun h =>
    gd ((h.kd t == 14) && decide (E.bs ≤ t) && true) (hs (h.setI t 88 x1_) fun h =>
    some (Sum.inl none, h)) := rn_b (b := b87_0) rfl
/-! 88 FastPlane$Word.of([I)I -/
theorem c88 (E : EV) (d : Nat) (t : Nat) (x1_ : Option Nat) (h : AH) : cal E (d + 1) 88 [vR (some t), vR x1_] h = rn E d 88 0 [some (vR (some t)), some (vR x1_)] [] h := cal_rn rfl rfl
theorem e88_0 (E : EV) (d : Nat) (t : Nat) (r1_ : Option Nat) (h : AH) : rn E d 88 0 [some (vR (some t)), some (vR r1_)] [] h =
    gd (h.kd t == 14) (nn r1_ fun a1 =>
    gd (h.kd a1 == 101 && inb (h.I t 88) (h.ln a1)) (some (Sum.inl (some (vI (h.I a1 (h.I t 88).toNatClampNeg))), h))) := rn_b (b := b88_0) rfl
/-! 89 FastPlane$Plain.<init>(I)V -/
theorem c89 (E : EV) (d : Nat) (t : Nat) (x1_ : Int32) (h : AH) : cal E (d + 1) 89 [vR (some t), vI x1_] h = rn E d 89 0 [some (vR (some t)), some (vI x1_)] [] h := cal_rn rfl rfl
theorem e89_0 (E : EV) (d : Nat) (t : Nat) (x1_ : Int32) (h : AH) : rn E d 89 0 [some (vR (some t)), some (vI x1_)] [] h =
    cV (cal E d 84 [vR (some t)] h) th fun h =>
    gd ((h.kd t == 15) && decide (E.bs ≤ t) && true) (hs (h.setI t 89 x1_) fun h =>
    some (Sum.inl none, h)) := rn_b (b := b89_0) rfl
/-! 90 FastPlane$Plain.of([I)I -/
theorem c90 (E : EV) (d : Nat) (t : Nat) (x1_ : Option Nat) (h : AH) : cal E (d + 1) 90 [vR (some t), vR x1_] h = rn E d 90 0 [some (vR (some t)), some (vR x1_)] [] h := cal_rn rfl rfl
theorem e90_0 (E : EV) (d : Nat) (t : Nat) (r1_ : Option Nat) (h : AH) : rn E d 90 0 [some (vR (some t)), some (vR r1_)] [] h =
    gd (h.kd t == 15) (some (Sum.inl (some (vI (h.I t 89))), h)) := rn_b (b := b90_0) rfl
/-! 91 FastPlane$Chain.add(ILFastPlane$Ex;)V -/
theorem c91 (E : EV) (d : Nat) (t : Nat) (x1_ : Int32) (x2_ : Option Nat) (h : AH) : cal E (d + 1) 91 [vR (some t), vI x1_, vR x2_] h = rn E d 91 0 [some (vR (some t)), some (vI x1_), some (vR x2_)] [] h := cal_rn rfl rfl
theorem e91_0 (E : EV) (d : Nat) (t : Nat) (x1_ : Int32) (r2_ : Option Nat) (h : AH) : rn E d 91 0 [some (vR (some t)), some (vI x1_), some (vR r2_)] [] h =
    gd (h.kd t == 16) (hs (h.R t 91) fun q2 =>
    cR (cal E d 259 [vI x1_] h) th fun r1 h =>
    gd (rcO 129 [vR q2, vR r1] h) (cI (cal E d 260 [vR q2, vR r1] h) th fun v3 h =>
    gd (h.kd t == 16) (gd (rcO 129 [vR (h.R t 90), vR r2_] h) (cI (cal E d 260 [vR (h.R t 90), vR r2_] h) th fun v4 h =>
    some (Sum.inl none, h))))) := rn_b (b := b91_0) rfl
/-! 92 FastPlane$Chain.<init>(LFastPlane$Ex;)V -/
theorem c92 (E : EV) (d : Nat) (t : Nat) (x1_ : Option Nat) (h : AH) : cal E (d + 1) 92 [vR (some t), vR x1_] h = rn E d 92 0 [some (vR (some t)), some (vR x1_)] [] h := cal_rn rfl rfl
theorem e92_0 (E : EV) (d : Nat) (t : Nat) (r1_ : Option Nat) (h : AH) : rn E d 92 0 [some (vR (some t)), some (vR r1_)] [] h =
    cV (cal E d 84 [vR (some t)] h) th fun h =>
    gd (decide (h.nx + 1 ≤ E.lc) && decide (h.us + 3 ≤ E.lu)) (hs h.nx fun n1 => hs (h.mk 3 0 3) fun h =>
    cV (cal E d 267 [vR (some n1), vI 2] h) th fun h =>
    gd ((h.kd t == 16) && decide (E.bs ≤ t)) (hs (h.setR t 90 (some n1)) fun h =>
    gd (decide (h.nx + 1 ≤ E.lc) && decide (h.us + 3 ≤ E.lu)) (hs h.nx fun n2 => hs (h.mk 3 0 3) fun h =>
    cV (cal E d 267 [vR (some n2), vI 2] h) th fun h =>
    gd ((h.kd t == 16) && decide (E.bs ≤ t)) (hs (h.setR t 91 (some n2)) fun h =>
    gd (h.kd t == 16) (gd (rcO 129 [vR (h.R t 90), vR r1_] h) (cI (cal E d 260 [vR (h.R t 90), vR r1_] h) th fun v3 h =>
    some (Sum.inl none, h))))))) := rn_b (b := b92_0) rfl
/-! 93 FastPlane$Chain.of([I)I -/
theorem c93 (E : EV) (d : Nat) (t : Nat) (x1_ : Option Nat) (h : AH) : cal E (d + 1) 93 [vR (some t), vR x1_] h = rn E d 93 0 [some (vR (some t)), some (vR x1_), none, none, none, none] [] h := cal_rn rfl rfl
theorem e93_0 (E : EV) (d : Nat) (t : Nat) (r1_ : Option Nat) (o2_ : Option AV) (o3_ : Option AV) (o4_ : Option AV) (o5_ : Option AV) (h : AH) : rn E d 93 0 [some (vR (some t)), some (vR r1_), o2_, o3_, o4_, o5_] [] h =
    gd (h.kd t == 16) (gd (rcO 82 [vR (h.R t 90), vI 0] h) (cR (cal E d 264 [vR (h.R t 90), vI 0] h) th fun r1 h =>
    gd (okC 52 h r1) (nn r1 fun a3 =>
    gd (anyK exk (h.kd a3)) (cI (cal E d (vt1 (h.kd a3)) [vR (some a3), vR r1_] h) th fun v2 h =>
    rn E d 93 18 [some (vR (some t)), some (vR r1_), some (vI v2), some (vI 1), o4_, o5_] [] h)))) := rn_b (b := b93_0) rfl
theorem e93_18 (E : EV) (d : Nat) (t : Nat) (r1_ : Option Nat) (x2_ : Int32) (x3_ : Int32) (o4_ : Option AV) (o5_ : Option AV) (h : AH) : rn E d 93 18 [some (vR (some t)), some (vR r1_), some (vI x2_), some (vI x3_), o4_, o5_] [] h =
    gd (h.kd t == 16) (gd (rcO 76 [vR (h.R t 90)] h) (cI (cal E d 268 [vR (h.R t 90)] h) th fun v1 h =>
    if v1 ≤ x3_ then rn E d 93 103 [some (vR (some t)), some (vR r1_), some (vI x2_), some (vI x3_), o4_, o5_] [] h else
    gd (h.kd t == 16) (gd (rcO 82 [vR (h.R t 90), vI x3_] h) (cR (cal E d 264 [vR (h.R t 90), vI x3_] h) th fun r2 h =>
    gd (okC 52 h r2) (nn r2 fun a4 =>
    gd (anyK exk (h.kd a4)) (cI (cal E d (vt1 (h.kd a4)) [vR (some a4), vR r1_] h) th fun v3 h =>
    gd (h.kd t == 16) (gd (rcO 82 [vR (h.R t 91), vI (x3_ - 1)] h) (cR (cal E d 264 [vR (h.R t 91), vI (x3_ - 1)] h) th fun r5 h =>
    gd (okC 17 h r5) (gd (rcO 160 [vR r5] h) (cI (cal E d 258 [vR r5] h) th fun v6 h =>
    if v6 = 43 then
    rn E d 93 96 [some (vR (some t)), some (vR r1_), some (vI x2_), some (vI x3_), some (vI v3), some (vI v6)] [vI (x2_ + v3)] h
    else rn E d 93 78 [some (vR (some t)), some (vR r1_), some (vI x2_), some (vI x3_), some (vI v3), some (vI v6)] [] h)))))))))) := rn_b (b := b93_18) rfl
theorem e93_78 (E : EV) (d : Nat) (t : Nat) (r1_ : Option Nat) (x2_ : Int32) (x3_ : Int32) (x4_ : Int32) (x5_ : Int32) (h : AH) : rn E d 93 78 [some (vR (some t)), some (vR r1_), some (vI x2_), some (vI x3_), some (vI x4_), some (vI x5_)] [] h =
    if x5_ = 45 then
    rn E d 93 96 [some (vR (some t)), some (vR r1_), some (vI x2_), some (vI x3_), some (vI x4_), some (vI x5_)] [vI (x2_ - x4_)] h
    else rn E d 93 92 [some (vR (some t)), some (vR r1_), some (vI x2_), some (vI x3_), some (vI x4_), some (vI x5_)] [] h := rn_b (b := b93_78) rfl
theorem e93_92 (E : EV) (d : Nat) (t : Nat) (r1_ : Option Nat) (x2_ : Int32) (x3_ : Int32) (x4_ : Int32) (x5_ : Int32) (h : AH) : rn E d 93 92 [some (vR (some t)), some (vR r1_), some (vI x2_), some (vI x3_), some (vI x4_), some (vI x5_)] [] h =
    rn E d 93 96 [some (vR (some t)), some (vR r1_), some (vI x2_), some (vI x3_), some (vI x4_), some (vI x5_)] [vI (x2_ * x4_)] h := rn_b (b := b93_92) rfl
theorem e93_96 (E : EV) (d : Nat) (t : Nat) (r1_ : Option Nat) (x2_ : Int32) (x3_ : Int32) (x4_ : Int32) (x5_ : Int32) (s0_ : Int32) (h : AH) : rn E d 93 96 [some (vR (some t)), some (vR r1_), some (vI x2_), some (vI x3_), some (vI x4_), some (vI x5_)] [vI s0_] h =
    hs (x3_ + 1) fun x1 =>
    rn E d 93 18 [some (vR (some t)), some (vR r1_), some (vI s0_), some (vI x1), some (vI x4_), some (vI x5_)] [] h := rn_b (b := b93_96) rfl
theorem e93_103 (E : EV) (d : Nat) (t : Nat) (r1_ : Option Nat) (x2_ : Int32) (x3_ : Int32) (o4_ : Option AV) (o5_ : Option AV) (h : AH) : rn E d 93 103 [some (vR (some t)), some (vR r1_), some (vI x2_), some (vI x3_), o4_, o5_] [] h =
    some (Sum.inl (some (vI x2_)), h) := rn_b (b := b93_103) rfl
/-! 94 FastPlane$Order.<init>(LFastPlane$Ex;ILFastPlane$Ex;)V -/
theorem c94 (E : EV) (d : Nat) (t : Nat) (x1_ : Option Nat) (x2_ : Int32) (x3_ : Option Nat) (h : AH) : cal E (d + 1) 94 [vR (some t), vR x1_, vI x2_, vR x3_] h = rn E d 94 0 [some (vR (some t)), some (vR x1_), some (vI x2_), some (vR x3_)] [] h := cal_rn rfl rfl
theorem e94_0 (E : EV) (d : Nat) (t : Nat) (r1_ : Option Nat) (x2_ : Int32) (r3_ : Option Nat) (h : AH) : rn E d 94 0 [some (vR (some t)), some (vR r1_), some (vI x2_), some (vR r3_)] [] h =
    cV (cal E d 84 [vR (some t)] h) th fun h =>
    gd ((h.kd t == 18) && decide (E.bs ≤ t)) (hs (h.setR t 93 r1_) fun h =>
    gd ((h.kd t == 18) && decide (E.bs ≤ t) && true) (hs (h.setI t 95 x2_) fun h =>
    gd ((h.kd t == 18) && decide (E.bs ≤ t)) (hs (h.setR t 94 r3_) fun h =>
    some (Sum.inl none, h)))) := rn_b (b := b94_0) rfl
/-! 95 FastPlane$Order.of([I)I -/
theorem c95 (E : EV) (d : Nat) (t : Nat) (x1_ : Option Nat) (h : AH) : cal E (d + 1) 95 [vR (some t), vR x1_] h = rn E d 95 0 [some (vR (some t)), some (vR x1_), none, none] [] h := cal_rn rfl rfl
theorem e95_0 (E : EV) (d : Nat) (t : Nat) (r1_ : Option Nat) (o2_ : Option AV) (o3_ : Option AV) (h : AH) : rn E d 95 0 [some (vR (some t)), some (vR r1_), o2_, o3_] [] h =
    gd (h.kd t == 18) (nn (h.R t 93) fun a2 =>
    gd (anyK exk (h.kd a2)) (cI (cal E d (vt1 (h.kd a2)) [vR (some a2), vR r1_] h) th fun v1 h =>
    gd (h.kd t == 18) (nn (h.R t 94) fun a4 =>
    gd (anyK exk (h.kd a4)) (cI (cal E d (vt1 (h.kd a4)) [vR (some a4), vR r1_] h) th fun v3 h =>
    gd (h.kd t == 18) (if (h.I t 95) = 60 then
    if v3 ≤ v1 then rn E d 95 61 [some (vR (some t)), some (vR r1_), some (vI v1), some (vI v3)] [] h else
    rn E d 95 57 [some (vR (some t)), some (vR r1_), some (vI v1), some (vI v3)] [] h
    else rn E d 95 35 [some (vR (some t)), some (vR r1_), some (vI v1), some (vI v3)] [] h))))) := rn_b (b := b95_0) rfl
theorem e95_35 (E : EV) (d : Nat) (t : Nat) (r1_ : Option Nat) (x2_ : Int32) (x3_ : Int32) (h : AH) : rn E d 95 35 [some (vR (some t)), some (vR r1_), some (vI x2_), some (vI x3_)] [] h =
    gd (h.kd t == 18) (if (h.I t 95) = 62 then
    if x2_ ≤ x3_ then rn E d 95 61 [some (vR (some t)), some (vR r1_), some (vI x2_), some (vI x3_)] [] h else
    rn E d 95 57 [some (vR (some t)), some (vR r1_), some (vI x2_), some (vI x3_)] [] h
    else rn E d 95 52 [some (vR (some t)), some (vR r1_), some (vI x2_), some (vI x3_)] [] h) := rn_b (b := b95_35) rfl
theorem e95_52 (E : EV) (d : Nat) (t : Nat) (r1_ : Option Nat) (x2_ : Int32) (x3_ : Int32) (h : AH) : rn E d 95 52 [some (vR (some t)), some (vR r1_), some (vI x2_), some (vI x3_)] [] h =
    if x2_ = x3_ then
    rn E d 95 57 [some (vR (some t)), some (vR r1_), some (vI x2_), some (vI x3_)] [] h
    else rn E d 95 61 [some (vR (some t)), some (vR r1_), some (vI x2_), some (vI x3_)] [] h := rn_b (b := b95_52) rfl
theorem e95_57 (E : EV) (d : Nat) (t : Nat) (r1_ : Option Nat) (x2_ : Int32) (x3_ : Int32) (h : AH) : rn E d 95 57 [some (vR (some t)), some (vR r1_), some (vI x2_), some (vI x3_)] [] h =
    rn E d 95 62 [some (vR (some t)), some (vR r1_), some (vI x2_), some (vI x3_)] [vI 1] h := rn_b (b := b95_57) rfl
theorem e95_61 (E : EV) (d : Nat) (t : Nat) (r1_ : Option Nat) (x2_ : Int32) (x3_ : Int32) (h : AH) : rn E d 95 61 [some (vR (some t)), some (vR r1_), some (vI x2_), some (vI x3_)] [] h =
    rn E d 95 62 [some (vR (some t)), some (vR r1_), some (vI x2_), some (vI x3_)] [vI 0] h := rn_b (b := b95_61) rfl
theorem e95_62 (E : EV) (d : Nat) (t : Nat) (r1_ : Option Nat) (x2_ : Int32) (x3_ : Int32) (s0_ : Int32) (h : AH) : rn E d 95 62 [some (vR (some t)), some (vR r1_), some (vI x2_), some (vI x3_)] [vI s0_] h =
    some (Sum.inl (some (vI s0_)), h) := rn_b (b := b95_62) rfl
/-! 96 FastPlane$Join.<init>(Ljava/util/ArrayList;Z)V -/
theorem c96 (E : EV) (d : Nat) (t : Nat) (x1_ : Option Nat) (x2_ : Int32) (h : AH) : cal E (d + 1) 96 [vR (some t), vR x1_, vI x2_] h = rn E d 96 0 [some (vR (some t)), some (vR x1_), some (vI x2_)] [] h := cal_rn rfl rfl
theorem e96_0 (E : EV) (d : Nat) (t : Nat) (r1_ : Option Nat) (x2_ : Int32) (h : AH) : rn E d 96 0 [some (vR (some t)), some (vR r1_), some (vI x2_)] [] h =
    cV (cal E d 84 [vR (some t)] h) th fun h =>
    gd ((h.kd t == 19) && decide (E.bs ≤ t)) (hs (h.setR t 96 r1_) fun h =>
    gd ((h.kd t == 19) && decide (E.bs ≤ t) && (decide (x2_ = 0) || decide (x2_ = 1))) (hs (h.setI t 97 x2_) fun h =>
    some (Sum.inl none, h))) := rn_b (b := b96_0) rfl
/-! 97 FastPlane$Join.of([I)I -/
theorem c97 (E : EV) (d : Nat) (t : Nat) (x1_ : Option Nat) (h : AH) : cal E (d + 1) 97 [vR (some t), vR x1_] h = rn E d 97 0 [some (vR (some t)), some (vR x1_), none, none] [] h := cal_rn rfl rfl
theorem e97_0 (E : EV) (d : Nat) (t : Nat) (r1_ : Option Nat) (o2_ : Option AV) (o3_ : Option AV) (h : AH) : rn E d 97 0 [some (vR (some t)), some (vR r1_), o2_, o3_] [] h =
    gd (h.kd t == 19) (hs (h.I t 97) fun x1 =>
    rn E d 97 7 [some (vR (some t)), some (vR r1_), some (vI x1), some (vI 0)] [] h) := rn_b (b := b97_0) rfl
theorem e97_7 (E : EV) (d : Nat) (t : Nat) (r1_ : Option Nat) (x2_ : Int32) (x3_ : Int32) (h : AH) : rn E d 97 7 [some (vR (some t)), some (vR r1_), some (vI x2_), some (vI x3_)] [] h =
    gd (h.kd t == 19) (gd (rcO 76 [vR (h.R t 96)] h) (cI (cal E d 268 [vR (h.R t 96)] h) th fun v1 h =>
    if v1 ≤ x3_ then rn E d 97 56 [some (vR (some t)), some (vR r1_), some (vI x2_), some (vI x3_)] [] h else
    gd (h.kd t == 19) (if x2_ = (h.I t 97) then
    gd (h.kd t == 19) (gd (rcO 82 [vR (h.R t 96), vI x3_] h) (cR (cal E d 264 [vR (h.R t 96), vI x3_] h) th fun r2 h =>
    gd (okC 52 h r2) (nn r2 fun a4 =>
    gd (anyK exk (h.kd a4)) (cI (cal E d (vt1 (h.kd a4)) [vR (some a4), vR r1_] h) th fun v3 h =>
    if v3 = 0 then rn E d 97 48 [some (vR (some t)), some (vR r1_), some (vI x2_), some (vI x3_)] [] h else
    rn E d 97 49 [some (vR (some t)), some (vR r1_), some (vI x2_), some (vI x3_)] [vI 1] h))))
    else rn E d 97 56 [some (vR (some t)), some (vR r1_), some (vI x2_), some (vI x3_)] [] h))) := rn_b (b := b97_7) rfl
theorem e97_48 (E : EV) (d : Nat) (t : Nat) (r1_ : Option Nat) (x2_ : Int32) (x3_ : Int32) (h : AH) : rn E d 97 48 [some (vR (some t)), some (vR r1_), some (vI x2_), some (vI x3_)] [] h =
    rn E d 97 49 [some (vR (some t)), some (vR r1_), some (vI x2_), some (vI x3_)] [vI 0] h := rn_b (b := b97_48) rfl
theorem e97_49 (E : EV) (d : Nat) (t : Nat) (r1_ : Option Nat) (x2_ : Int32) (x3_ : Int32) (s0_ : Int32) (h : AH) : rn E d 97 49 [some (vR (some t)), some (vR r1_), some (vI x2_), some (vI x3_)] [vI s0_] h =
    hs (x3_ + 1) fun x1 =>
    rn E d 97 7 [some (vR (some t)), some (vR r1_), some (vI s0_), some (vI x1)] [] h := rn_b (b := b97_49) rfl
theorem e97_56 (E : EV) (d : Nat) (t : Nat) (r1_ : Option Nat) (x2_ : Int32) (x3_ : Int32) (h : AH) : rn E d 97 56 [some (vR (some t)), some (vR r1_), some (vI x2_), some (vI x3_)] [] h =
    if x2_ = 0 then rn E d 97 64 [some (vR (some t)), some (vR r1_), some (vI x2_), some (vI x3_)] [] h else
    rn E d 97 65 [some (vR (some t)), some (vR r1_), some (vI x2_), some (vI x3_)] [vI 1] h := rn_b (b := b97_56) rfl
theorem e97_64 (E : EV) (d : Nat) (t : Nat) (r1_ : Option Nat) (x2_ : Int32) (x3_ : Int32) (h : AH) : rn E d 97 64 [some (vR (some t)), some (vR r1_), some (vI x2_), some (vI x3_)] [] h =
    rn E d 97 65 [some (vR (some t)), some (vR r1_), some (vI x2_), some (vI x3_)] [vI 0] h := rn_b (b := b97_64) rfl
theorem e97_65 (E : EV) (d : Nat) (t : Nat) (r1_ : Option Nat) (x2_ : Int32) (x3_ : Int32) (s0_ : Int32) (h : AH) : rn E d 97 65 [some (vR (some t)), some (vR r1_), some (vI x2_), some (vI x3_)] [vI s0_] h =
    some (Sum.inl (some (vI s0_)), h) := rn_b (b := b97_65) rfl
/-! 98 FastPlane$Fact.counts(I)Z -/
theorem c98 (E : EV) (d : Nat) (t : Nat) (x1_ : Int32) (h : AH) : cal E (d + 1) 98 [vR (some t), vI x1_] h = rn E d 98 0 [some (vR (some t)), some (vI x1_)] [] h := cal_rn rfl rfl
theorem e98_0 (E : EV) (d : Nat) (t : Nat) (x1_ : Int32) (h : AH) : rn E d 98 0 [some (vR (some t)), some (vI x1_)] [] h =
    gd (h.kd t == 20 || (h.kd t == 21 || h.kd t == 22)) (if x1_ < (h.I t 99) then rn E d 98 27 [some (vR (some t)), some (vI x1_)] [] h else
    gd (h.kd t == 20 || (h.kd t == 21 || h.kd t == 22)) (if (h.I t 100) < 0 then rn E d 98 23 [some (vR (some t)), some (vI x1_)] [] h else
    gd (h.kd t == 20 || (h.kd t == 21 || h.kd t == 22)) (if (h.I t 100) ≤ x1_ then rn E d 98 27 [some (vR (some t)), some (vI x1_)] [] h else
    rn E d 98 23 [some (vR (some t)), some (vI x1_)] [] h))) := rn_b (b := b98_0) rfl
theorem e98_23 (E : EV) (d : Nat) (t : Nat) (x1_ : Int32) (h : AH) : rn E d 98 23 [some (vR (some t)), some (vI x1_)] [] h =
    rn E d 98 28 [some (vR (some t)), some (vI x1_)] [vI 1] h := rn_b (b := b98_23) rfl
theorem e98_27 (E : EV) (d : Nat) (t : Nat) (x1_ : Int32) (h : AH) : rn E d 98 27 [some (vR (some t)), some (vI x1_)] [] h =
    rn E d 98 28 [some (vR (some t)), some (vI x1_)] [vI 0] h := rn_b (b := b98_27) rfl
theorem e98_28 (E : EV) (d : Nat) (t : Nat) (x1_ : Int32) (s0_ : Int32) (h : AH) : rn E d 98 28 [some (vR (some t)), some (vI x1_)] [vI s0_] h =
    gd (decide (s0_ = 0) || decide (s0_ = 1)) (some (Sum.inl (some (vI s0_)), h)) := rn_b (b := b98_28) rfl
/-! 99 FastPlane$Fact.<init>(II)V -/
theorem c99 (E : EV) (d : Nat) (t : Nat) (x1_ : Int32) (x2_ : Int32) (h : AH) : cal E (d + 1) 99 [vR (some t), vI x1_, vI x2_] h = rn E d 99 0 [some (vR (some t)), some (vI x1_), some (vI x2_)] [] h := cal_rn rfl rfl
theorem e99_0 (E : EV) (d : Nat) (t : Nat) (x1_ : Int32) (x2_ : Int32) (h : AH) : rn E d 99 0 [some (vR (some t)), some (vI x1_), some (vI x2_)] [] h =
    gd ((h.kd t == 20 || (h.kd t == 21 || h.kd t == 22)) && decide (E.bs ≤ t) && true) (hs (h.setI t 100 (-1)) fun h =>
    gd ((h.kd t == 20 || (h.kd t == 21 || h.kd t == 22)) && decide (E.bs ≤ t) && true) (hs (h.setI t 98 x1_) fun h =>
    gd ((h.kd t == 20 || (h.kd t == 21 || h.kd t == 22)) && decide (E.bs ≤ t) && true) (hs (h.setI t 99 x2_) fun h =>
    some (Sum.inl none, h)))) := rn_b (b := b99_0) rfl
/-! 100 FastPlane$Fact.untell(I)Z -/
theorem c100 (E : EV) (d : Nat) (t : Nat) (x1_ : Int32) (h : AH) : cal E (d + 1) 100 [vR (some t), vI x1_] h = rn E d 100 0 [some (vR (some t)), some (vI x1_)] [] h := cal_rn rfl rfl
theorem e100_0 (E : EV) (d : Nat) (t : Nat) (x1_ : Int32) (h : AH) : rn E d 100 0 [some (vR (some t)), some (vI x1_)] [] h =
    gd (h.kd t == 20 || (h.kd t == 21 || h.kd t == 22)) (if (h.I t 100) < 0 then rn E d 100 9 [some (vR (some t)), some (vI x1_)] [] h else
    some (Sum.inl (some (vI 0)), h)) := rn_b (b := b100_0) rfl
theorem e100_9 (E : EV) (d : Nat) (t : Nat) (x1_ : Int32) (h : AH) : rn E d 100 9 [some (vR (some t)), some (vI x1_)] [] h =
    gd ((h.kd t == 20 || (h.kd t == 21 || h.kd t == 22)) && decide (E.bs ≤ t) && true) (hs (h.setI t 100 x1_) fun h =>
    some (Sum.inl (some (vI 1)), h)) := rn_b (b := b100_9) rfl
/-! 101 FastPlane$Treaty.holds(IZ[I)Z -/
theorem c101 (E : EV) (d : Nat) (t : Nat) (x1_ : Int32) (x2_ : Int32) (x3_ : Option Nat) (h : AH) : cal E (d + 1) 101 [vR (some t), vI x1_, vI x2_, vR x3_] h = rn E d 101 0 [some (vR (some t)), some (vI x1_), some (vI x2_), some (vR x3_)] [] h := cal_rn rfl rfl
theorem e101_0 (E : EV) (d : Nat) (t : Nat) (x1_ : Int32) (x2_ : Int32) (r3_ : Option Nat) (h : AH) : rn E d 101 0 [some (vR (some t)), some (vI x1_), some (vI x2_), some (vR r3_)] [] h =
    gd (h.kd t == 4) (nn (h.R t 46) fun a1 =>
    gd (decide (105 ≤ h.kd a1) && inb x1_ (h.ln a1)) (if (h.R a1 x1_.toNatClampNeg) = none then
    rn E d 101 31 [some (vR (some t)), some (vI x1_), some (vI x2_), some (vR r3_)] [vI x2_] h
    else rn E d 101 13 [some (vR (some t)), some (vI x1_), some (vI x2_), some (vR r3_)] [] h)) := rn_b (b := b101_0) rfl
theorem e101_13 (E : EV) (d : Nat) (t : Nat) (x1_ : Int32) (x2_ : Int32) (r3_ : Option Nat) (h : AH) : rn E d 101 13 [some (vR (some t)), some (vI x1_), some (vI x2_), some (vR r3_)] [] h =
    gd (h.kd t == 4) (nn (h.R t 46) fun a1 =>
    gd (decide (105 ≤ h.kd a1) && inb x1_ (h.ln a1)) (nn (h.R a1 x1_.toNatClampNeg) fun a3 =>
    gd (anyK exk (h.kd a3)) (cI (cal E d (vt1 (h.kd a3)) [vR (some a3), vR r3_] h) th fun v2 h =>
    if v2 = 0 then rn E d 101 30 [some (vR (some t)), some (vI x1_), some (vI x2_), some (vR r3_)] [] h else
    rn E d 101 31 [some (vR (some t)), some (vI x1_), some (vI x2_), some (vR r3_)] [vI 1] h))) := rn_b (b := b101_13) rfl
theorem e101_30 (E : EV) (d : Nat) (t : Nat) (x1_ : Int32) (x2_ : Int32) (r3_ : Option Nat) (h : AH) : rn E d 101 30 [some (vR (some t)), some (vI x1_), some (vI x2_), some (vR r3_)] [] h =
    rn E d 101 31 [some (vR (some t)), some (vI x1_), some (vI x2_), some (vR r3_)] [vI 0] h := rn_b (b := b101_30) rfl
theorem e101_31 (E : EV) (d : Nat) (t : Nat) (x1_ : Int32) (x2_ : Int32) (r3_ : Option Nat) (s0_ : Int32) (h : AH) : rn E d 101 31 [some (vR (some t)), some (vI x1_), some (vI x2_), some (vR r3_)] [vI s0_] h =
    gd (decide (s0_ = 0) || decide (s0_ = 1)) (some (Sum.inl (some (vI s0_)), h)) := rn_b (b := b101_31) rfl
/-! 102 FastPlane$Treaty.<init>()V -/
theorem c102 (E : EV) (d : Nat) (t : Nat) (h : AH) : cal E (d + 1) 102 [vR (some t)] h = rn E d 102 0 [some (vR (some t))] [] h := cal_rn rfl rfl
theorem e102_0 (E : EV) (d : Nat) (t : Nat) (h : AH) : rn E d 102 0 [some (vR (some t))] [] h =
    gd (decide (0 ≤ (4 : Int32)) && decide ((4 : Int32).toNatClampNeg ≤ 1048576) && decide (h.nx + 1 ≤ E.lc) && decide (h.us + (4 : Int32).toNatClampNeg ≤ E.lu)) (hs h.nx fun n1 => hs (h.mk 106 (4 : Int32).toNatClampNeg (4 : Int32).toNatClampNeg) fun h =>
    gd ((h.kd t == 4) && decide (E.bs ≤ t)) (hs (h.setR t 46 (some n1)) fun h =>
    some (Sum.inl none, h))) := rn_b (b := b102_0) rfl
/-! 103 FastPlane$Treaty.share([I)I -/
theorem c103 (E : EV) (d : Nat) (t : Nat) (x1_ : Option Nat) (h : AH) : cal E (d + 1) 103 [vR (some t), vR x1_] h = rn E d 103 0 [some (vR (some t)), some (vR x1_)] [] h := cal_rn rfl rfl
theorem e103_0 (E : EV) (d : Nat) (t : Nat) (r1_ : Option Nat) (h : AH) : rn E d 103 0 [some (vR (some t)), some (vR r1_)] [] h =
    gd (h.kd t == 4) (nn (h.R t 46) fun a1 =>
    gd (decide (105 ≤ h.kd a1) && inb 0 (h.ln a1)) (if (h.R a1 (0 : Int32).toNatClampNeg) = none then
    rn E d 103 33 [some (vR (some t)), some (vR r1_)] [vI 50] h
    else rn E d 103 14 [some (vR (some t)), some (vR r1_)] [] h)) := rn_b (b := b103_0) rfl
theorem e103_14 (E : EV) (d : Nat) (t : Nat) (r1_ : Option Nat) (h : AH) : rn E d 103 14 [some (vR (some t)), some (vR r1_)] [] h =
    gd (h.kd t == 4) (nn (h.R t 46) fun a1 =>
    gd (decide (105 ≤ h.kd a1) && inb 0 (h.ln a1)) (nn (h.R a1 (0 : Int32).toNatClampNeg) fun a3 =>
    gd (anyK exk (h.kd a3)) (cI (cal E d (vt1 (h.kd a3)) [vR (some a3), vR r1_] h) th fun v2 h =>
    cI (cal E d 295 [vI 100, vI v2] h) th fun v4 h =>
    cI (cal E d 294 [vI 0, vI v4] h) th fun v5 h =>
    rn E d 103 33 [some (vR (some t)), some (vR r1_)] [vI v5] h))) := rn_b (b := b103_14) rfl
theorem e103_33 (E : EV) (d : Nat) (t : Nat) (r1_ : Option Nat) (s0_ : Int32) (h : AH) : rn E d 103 33 [some (vR (some t)), some (vR r1_)] [vI s0_] h =
    some (Sum.inl (some (vI s0_)), h) := rn_b (b := b103_33) rfl
/-! 104 FastPlane$Change.<init>(III)V -/
theorem c104 (E : EV) (d : Nat) (t : Nat) (x1_ : Int32) (x2_ : Int32) (x3_ : Int32) (h : AH) : cal E (d + 1) 104 [vR (some t), vI x1_, vI x2_, vI x3_] h = rn E d 104 0 [some (vR (some t)), some (vI x1_), some (vI x2_), some (vI x3_)] [] h := cal_rn rfl rfl
theorem e104_0 (E : EV) (d : Nat) (t : Nat) (x1_ : Int32) (x2_ : Int32) (x3_ : Int32) (h : AH) : rn E d 104 0 [some (vR (some t)), some (vI x1_), some (vI x2_), some (vI x3_)] [] h =
    cV (cal E d 99 [vR (some t), vI x2_, vI x3_] h) th fun h =>
    gd ((h.kd t == 20) && decide (E.bs ≤ t) && true) (hs (h.setI t 101 x1_) fun h =>
    some (Sum.inl none, h)) := rn_b (b := b104_0) rfl
/-! 105 FastPlane$Estimate.<init>(III)V -/
theorem c105 (E : EV) (d : Nat) (t : Nat) (x1_ : Int32) (x2_ : Int32) (x3_ : Int32) (h : AH) : cal E (d + 1) 105 [vR (some t), vI x1_, vI x2_, vI x3_] h = rn E d 105 0 [some (vR (some t)), some (vI x1_), some (vI x2_), some (vI x3_)] [] h := cal_rn rfl rfl
theorem e105_0 (E : EV) (d : Nat) (t : Nat) (x1_ : Int32) (x2_ : Int32) (x3_ : Int32) (h : AH) : rn E d 105 0 [some (vR (some t)), some (vI x1_), some (vI x2_), some (vI x3_)] [] h =
    cV (cal E d 99 [vR (some t), vI x1_, vI x3_] h) th fun h =>
    gd ((h.kd t == 21) && decide (E.bs ≤ t) && true) (hs (h.setI t 102 x2_) fun h =>
    some (Sum.inl none, h)) := rn_b (b := b105_0) rfl
/-! 106 FastPlane$Show.<init>(III)V -/
theorem c106 (E : EV) (d : Nat) (t : Nat) (x1_ : Int32) (x2_ : Int32) (x3_ : Int32) (h : AH) : cal E (d + 1) 106 [vR (some t), vI x1_, vI x2_, vI x3_] h = rn E d 106 0 [some (vR (some t)), some (vI x1_), some (vI x2_), some (vI x3_)] [] h := cal_rn rfl rfl
theorem e106_0 (E : EV) (d : Nat) (t : Nat) (x1_ : Int32) (x2_ : Int32) (x3_ : Int32) (h : AH) : rn E d 106 0 [some (vR (some t)), some (vI x1_), some (vI x2_), some (vI x3_)] [] h =
    cV (cal E d 99 [vR (some t), vI x1_, vI x3_] h) th fun h =>
    gd ((h.kd t == 22) && decide (E.bs ≤ t) && true) (hs (h.setI t 103 x2_) fun h =>
    some (Sum.inl none, h)) := rn_b (b := b106_0) rfl
/-! 218 FastPlane$Reader.here(I)I -/
theorem c218 (E : EV) (d : Nat) (t : Nat) (x1_ : Int32) (h : AH) : cal E (d + 1) 218 [vR (some t), vI x1_] h = rn E d 218 0 [some (vR (some t)), some (vI x1_)] [] h := cal_rn rfl rfl
theorem e218_0 (E : EV) (d : Nat) (t : Nat) (x1_ : Int32) (h : AH) : rn E d 218 0 [some (vR (some t)), some (vI x1_)] [] h =
    gd (h.kd t == 5 || h.kd t == 12) (gd (h.kd t == 5 || h.kd t == 12) (nn (h.R t 54) fun a1 =>
    gd (h.kd a1 == 1) (if (h.I a1 1) ≤ ((h.I t 48) + x1_) then rn E d 218 37 [some (vR (some t)), some (vI x1_)] [] h else
    gd (h.kd t == 5 || h.kd t == 12) (nn (h.R t 54) fun a2 =>
    gd (h.kd a2 == 1) (gd (h.kd t == 5 || h.kd t == 12) (nn (h.R a2 0) fun a3 =>
    gd ((h.kd a3 == 102 || h.kd a3 == 103) && inb ((h.I t 48) + x1_) (h.ln a3)) (rn E d 218 38 [some (vR (some t)), some (vI x1_)] [vI ((h.I a3 ((h.I t 48) + x1_).toNatClampNeg) &&& 255)] h))))))) := rn_b (b := b218_0) rfl
theorem e218_37 (E : EV) (d : Nat) (t : Nat) (x1_ : Int32) (h : AH) : rn E d 218 37 [some (vR (some t)), some (vI x1_)] [] h =
    rn E d 218 38 [some (vR (some t)), some (vI x1_)] [vI (-1)] h := rn_b (b := b218_37) rfl
theorem e218_38 (E : EV) (d : Nat) (t : Nat) (x1_ : Int32) (s0_ : Int32) (h : AH) : rn E d 218 38 [some (vR (some t)), some (vI x1_)] [vI s0_] h =
    some (Sum.inl (some (vI s0_)), h) := rn_b (b := b218_38) rfl
/-! 219 FastPlane$Reader.<init>(LFastPlane;)V -/
theorem c219 (E : EV) (d : Nat) (t : Nat) (x1_ : Option Nat) (h : AH) : cal E (d + 1) 219 [vR (some t), vR x1_] h = rn E d 219 0 [some (vR (some t)), some (vR x1_)] [] h := cal_rn rfl rfl
theorem e219_0 (E : EV) (d : Nat) (t : Nat) (r1_ : Option Nat) (h : AH) : rn E d 219 0 [some (vR (some t)), some (vR r1_)] [] h =
    gd ((h.kd t == 5 || h.kd t == 12) && decide (E.bs ≤ t)) (hs (h.setR t 54 r1_) fun h =>
    gd ((h.kd t == 5 || h.kd t == 12) && decide (E.bs ≤ t)) (hs (h.setR t 53 (some (E.sa 0))) fun h =>
    some (Sum.inl none, h))) := rn_b (b := b219_0) rfl
/-! 220 FastPlane$Reader.isDigit(I)Z -/
theorem c220 (E : EV) (d : Nat) (t : Nat) (x1_ : Int32) (h : AH) : cal E (d + 1) 220 [vR (some t), vI x1_] h = rn E d 220 0 [some (vR (some t)), some (vI x1_)] [] h := cal_rn rfl rfl
theorem e220_0 (E : EV) (d : Nat) (t : Nat) (x1_ : Int32) (h : AH) : rn E d 220 0 [some (vR (some t)), some (vI x1_)] [] h =
    gd (h.kd t == 5 || h.kd t == 12) (cI (cal E d 218 [vR (some t), vI x1_] h) th fun v1 h =>
    if v1 < 48 then rn E d 220 24 [some (vR (some t)), some (vI x1_)] [] h else
    gd (h.kd t == 5 || h.kd t == 12) (cI (cal E d 218 [vR (some t), vI x1_] h) th fun v2 h =>
    if 57 < v2 then rn E d 220 24 [some (vR (some t)), some (vI x1_)] [] h else
    rn E d 220 25 [some (vR (some t)), some (vI x1_)] [vI 1] h)) := rn_b (b := b220_0) rfl
theorem e220_24 (E : EV) (d : Nat) (t : Nat) (x1_ : Int32) (h : AH) : rn E d 220 24 [some (vR (some t)), some (vI x1_)] [] h =
    rn E d 220 25 [some (vR (some t)), some (vI x1_)] [vI 0] h := rn_b (b := b220_24) rfl
theorem e220_25 (E : EV) (d : Nat) (t : Nat) (x1_ : Int32) (s0_ : Int32) (h : AH) : rn E d 220 25 [some (vR (some t)), some (vI x1_)] [vI s0_] h =
    gd (decide (s0_ = 0) || decide (s0_ = 1)) (some (Sum.inl (some (vI s0_)), h)) := rn_b (b := b220_25) rfl
/-! 221 FastPlane$Reader.isLetter(I)Z -/
theorem c221 (E : EV) (d : Nat) (t : Nat) (x1_ : Int32) (h : AH) : cal E (d + 1) 221 [vR (some t), vI x1_] h = rn E d 221 0 [some (vR (some t)), some (vI x1_)] [] h := cal_rn rfl rfl
theorem e221_0 (E : EV) (d : Nat) (t : Nat) (x1_ : Int32) (h : AH) : rn E d 221 0 [some (vR (some t)), some (vI x1_)] [] h =
    gd (h.kd t == 5 || h.kd t == 12) (cI (cal E d 218 [vR (some t), vI x1_] h) th fun v1 h =>
    if v1 < 97 then rn E d 221 24 [some (vR (some t)), some (vI x1_)] [] h else
    gd (h.kd t == 5 || h.kd t == 12) (cI (cal E d 218 [vR (some t), vI x1_] h) th fun v2 h =>
    if 122 < v2 then rn E d 221 24 [some (vR (some t)), some (vI x1_)] [] h else
    rn E d 221 25 [some (vR (some t)), some (vI x1_)] [vI 1] h)) := rn_b (b := b221_0) rfl
theorem e221_24 (E : EV) (d : Nat) (t : Nat) (x1_ : Int32) (h : AH) : rn E d 221 24 [some (vR (some t)), some (vI x1_)] [] h =
    rn E d 221 25 [some (vR (some t)), some (vI x1_)] [vI 0] h := rn_b (b := b221_24) rfl
theorem e221_25 (E : EV) (d : Nat) (t : Nat) (x1_ : Int32) (s0_ : Int32) (h : AH) : rn E d 221 25 [some (vR (some t)), some (vI x1_)] [vI s0_] h =
    gd (decide (s0_ = 0) || decide (s0_ = 1)) (some (Sum.inl (some (vI s0_)), h)) := rn_b (b := b221_25) rfl
/-! 222 FastPlane$Reader.is(Ljava/lang/String;)Z -/
theorem c222 (E : EV) (d : Nat) (t : Nat) (x1_ : Option Nat) (h : AH) : cal E (d + 1) 222 [vR (some t), vR x1_] h = rn E d 222 0 [some (vR (some t)), some (vR x1_)] [] h := cal_rn rfl rfl
theorem e222_0 (E : EV) (d : Nat) (t : Nat) (r1_ : Option Nat) (h : AH) : rn E d 222 0 [some (vR (some t)), some (vR r1_)] [] h =
    gd (h.kd t == 5 || h.kd t == 12) (if (h.I t 49) = 1 then
    gd (h.kd t == 5 || h.kd t == 12) (gd (rcO 103 [vR (h.R t 53), vR r1_] h) (cI (cal E d 282 [vR (h.R t 53), vR r1_] h) th fun v1 h =>
    if v1 = 0 then rn E d 222 23 [some (vR (some t)), some (vR r1_)] [] h else
    rn E d 222 24 [some (vR (some t)), some (vR r1_)] [vI 1] h))
    else rn E d 222 23 [some (vR (some t)), some (vR r1_)] [] h) := rn_b (b := b222_0) rfl
theorem e222_23 (E : EV) (d : Nat) (t : Nat) (r1_ : Option Nat) (h : AH) : rn E d 222 23 [some (vR (some t)), some (vR r1_)] [] h =
    rn E d 222 24 [some (vR (some t)), some (vR r1_)] [vI 0] h := rn_b (b := b222_23) rfl
theorem e222_24 (E : EV) (d : Nat) (t : Nat) (r1_ : Option Nat) (s0_ : Int32) (h : AH) : rn E d 222 24 [some (vR (some t)), some (vR r1_)] [vI s0_] h =
    gd (decide (s0_ = 0) || decide (s0_ = 1)) (some (Sum.inl (some (vI s0_)), h)) := rn_b (b := b222_24) rfl
/-! 223 FastPlane$Reader.key(Ljava/lang/String;)V -/
theorem c223 (E : EV) (d : Nat) (t : Nat) (x1_ : Option Nat) (h : AH) : cal E (d + 1) 223 [vR (some t), vR x1_] h = rn E d 223 0 [some (vR (some t)), some (vR x1_)] [] h := cal_rn rfl rfl
theorem e223_0 (E : EV) (d : Nat) (t : Nat) (r1_ : Option Nat) (h : AH) : rn E d 223 0 [some (vR (some t)), some (vR r1_)] [] h =
    gd (h.kd t == 5 || h.kd t == 12) (cI (cal E d 222 [vR (some t), vR r1_] h) th fun v1 h =>
    if v1 = 0 then
    gd (h.kd t == 5 || h.kd t == 12) (cR (cal E d 229 [vR (some t)] h) th fun r2 h =>
    nn r2 fun a3 =>
    th a3 h)
    else rn E d 223 13 [some (vR (some t)), some (vR r1_)] [] h) := rn_b (b := b223_0) rfl
theorem e223_13 (E : EV) (d : Nat) (t : Nat) (r1_ : Option Nat) (h : AH) : rn E d 223 13 [some (vR (some t)), some (vR r1_)] [] h =
    gd (h.kd t == 5 || h.kd t == 12) (cV (cal E d 227 [vR (some t)] h) th fun h =>
    some (Sum.inl none, h)) := rn_b (b := b223_13) rfl
/-! 224 FastPlane$Reader.may(Ljava/lang/String;)Z -/
theorem c224 (E : EV) (d : Nat) (t : Nat) (x1_ : Option Nat) (h : AH) : cal E (d + 1) 224 [vR (some t), vR x1_] h = rn E d 224 0 [some (vR (some t)), some (vR x1_), none] [] h := cal_rn rfl rfl
theorem e224_0 (E : EV) (d : Nat) (t : Nat) (r1_ : Option Nat) (o2_ : Option AV) (h : AH) : rn E d 224 0 [some (vR (some t)), some (vR r1_), o2_] [] h =
    gd (h.kd t == 5 || h.kd t == 12) (cI (cal E d 222 [vR (some t), vR r1_] h) th fun v1 h =>
    if v1 = 0 then rn E d 224 14 [some (vR (some t)), some (vR r1_), some (vI v1)] [] h else
    gd (h.kd t == 5 || h.kd t == 12) (cV (cal E d 227 [vR (some t)] h) th fun h =>
    rn E d 224 14 [some (vR (some t)), some (vR r1_), some (vI v1)] [] h)) := rn_b (b := b224_0) rfl
theorem e224_14 (E : EV) (d : Nat) (t : Nat) (r1_ : Option Nat) (x2_ : Int32) (h : AH) : rn E d 224 14 [some (vR (some t)), some (vR r1_), some (vI x2_)] [] h =
    gd (decide (x2_ = 0) || decide (x2_ = 1)) (some (Sum.inl (some (vI x2_)), h)) := rn_b (b := b224_14) rfl
/-! 225 FastPlane$Reader.mustBeName()V -/
theorem c225 (E : EV) (d : Nat) (t : Nat) (h : AH) : cal E (d + 1) 225 [vR (some t)] h = rn E d 225 0 [some (vR (some t)), none, none] [] h := cal_rn rfl rfl
theorem e225_0 (E : EV) (d : Nat) (t : Nat) (o1_ : Option AV) (o2_ : Option AV) (h : AH) : rn E d 225 0 [some (vR (some t)), o1_, o2_] [] h =
    gd (h.kd t == 5 || h.kd t == 12) (if (h.I t 49) = 1 then
    gd (h.kd t == 5 || h.kd t == 12) (cI (cal E d 32 [vR (h.R t 53)] h) th fun v1 h =>
    if v1 < 0 then rn E d 225 23 [some (vR (some t)), o1_, o2_] [] h else
    rn E d 225 18 [some (vR (some t)), o1_, o2_] [] h)
    else rn E d 225 18 [some (vR (some t)), o1_, o2_] [] h) := rn_b (b := b225_0) rfl
theorem e225_18 (E : EV) (d : Nat) (t : Nat) (o1_ : Option AV) (o2_ : Option AV) (h : AH) : rn E d 225 18 [some (vR (some t)), o1_, o2_] [] h =
    gd (h.kd t == 5 || h.kd t == 12) (cR (cal E d 229 [vR (some t)] h) th fun r1 h =>
    nn r1 fun a2 =>
    th a2 h) := rn_b (b := b225_18) rfl
theorem e225_23 (E : EV) (d : Nat) (t : Nat) (o1_ : Option AV) (o2_ : Option AV) (h : AH) : rn E d 225 23 [some (vR (some t)), o1_, o2_] [] h =
    gd (h.kd t == 5 || h.kd t == 12) (hs (h.R t 53) fun r1 =>
    gd (rcO 102 [vR r1] h) (cI (cal E d 283 [vR r1] h) th fun v2 h =>
    if v2 = 3123 then rn E d 225 402 [some (vR (some t)), some (vR r1), some (vI (-1))] [] h else
    if v2 = 3159 then rn E d 225 242 [some (vR (some t)), some (vR r1), some (vI (-1))] [] h else
    if v2 = 3178 then rn E d 225 270 [some (vR (some t)), some (vR r1), some (vI (-1))] [] h else
    if v2 = 3555 then rn E d 225 537 [some (vR (some t)), some (vR r1), some (vI (-1))] [] h else
    if v2 = 96727 then rn E d 225 522 [some (vR (some t)), some (vR r1), some (vI (-1))] [] h else
    if v2 = 101491 then rn E d 225 477 [some (vR (some t)), some (vR r1), some (vI (-1))] [] h else
    if v2 = 102102 then rn E d 225 342 [some (vR (some t)), some (vR r1), some (vI (-1))] [] h else
    if v2 = 109267 then rn E d 225 552 [some (vR (some t)), some (vR r1), some (vI (-1))] [] h else
    if v2 = 113114 then rn E d 225 432 [some (vR (some t)), some (vR r1), some (vI (-1))] [] h else
    if v2 = 3236938 then rn E d 225 284 [some (vR (some t)), some (vR r1), some (vI (-1))] [] h else
    if v2 = 3267882 then rn E d 225 327 [some (vR (some t)), some (vR r1), some (vI (-1))] [] h else
    if v2 = 3287941 then rn E d 225 492 [some (vR (some t)), some (vR r1), some (vI (-1))] [] h else
    if v2 = 3327612 then rn E d 225 256 [some (vR (some t)), some (vR r1), some (vI (-1))] [] h else
    if v2 = 3433459 then rn E d 225 228 [some (vR (some t)), some (vR r1), some (vI (-1))] [] h else
    if v2 = 3552490 then rn E d 225 387 [some (vR (some t)), some (vR r1), some (vI (-1))] [] h else
    if v2 = 3648314 then rn E d 225 507 [some (vR (some t)), some (vR r1), some (vI (-1))] [] h else
    if v2 = 92734940 then rn E d 225 372 [some (vR (some t)), some (vR r1), some (vI (-1))] [] h else
    if v2 = 94849606 then rn E d 225 312 [some (vR (some t)), some (vR r1), some (vI (-1))] [] h else
    if v2 = 98629312 then rn E d 225 298 [some (vR (some t)), some (vR r1), some (vI (-1))] [] h else
    if v2 = 99459988 then rn E d 225 417 [some (vR (some t)), some (vR r1), some (vI (-1))] [] h else
    if v2 = 102846135 then rn E d 225 462 [some (vR (some t)), some (vR r1), some (vI (-1))] [] h else
    if v2 = 104087234 then rn E d 225 357 [some (vR (some t)), some (vR r1), some (vI (-1))] [] h else
    if v2 = 109400031 then rn E d 225 447 [some (vR (some t)), some (vR r1), some (vI (-1))] [] h else
    rn E d 225 564 [some (vR (some t)), some (vR r1), some (vI (-1))] [] h)) := rn_b (b := b225_23) rfl
theorem e225_228 (E : EV) (d : Nat) (t : Nat) (r1_ : Option Nat) (x2_ : Int32) (h : AH) : rn E d 225 228 [some (vR (some t)), some (vR r1_), some (vI x2_)] [] h =
    gd (rcO 103 [vR r1_, vR (some (E.sa 2))] h) (cI (cal E d 282 [vR r1_, vR (some (E.sa 2))] h) th fun v1 h =>
    if v1 = 0 then rn E d 225 564 [some (vR (some t)), some (vR r1_), some (vI x2_)] [] h else
    rn E d 225 564 [some (vR (some t)), some (vR r1_), some (vI 0)] [] h) := rn_b (b := b225_228) rfl
theorem e225_242 (E : EV) (d : Nat) (t : Nat) (r1_ : Option Nat) (x2_ : Int32) (h : AH) : rn E d 225 242 [some (vR (some t)), some (vR r1_), some (vI x2_)] [] h =
    gd (rcO 103 [vR r1_, vR (some (E.sa 14))] h) (cI (cal E d 282 [vR r1_, vR (some (E.sa 14))] h) th fun v1 h =>
    if v1 = 0 then rn E d 225 564 [some (vR (some t)), some (vR r1_), some (vI x2_)] [] h else
    rn E d 225 564 [some (vR (some t)), some (vR r1_), some (vI 1)] [] h) := rn_b (b := b225_242) rfl
theorem e225_256 (E : EV) (d : Nat) (t : Nat) (r1_ : Option Nat) (x2_ : Int32) (h : AH) : rn E d 225 256 [some (vR (some t)), some (vR r1_), some (vI x2_)] [] h =
    gd (rcO 103 [vR r1_, vR (some (E.sa 15))] h) (cI (cal E d 282 [vR r1_, vR (some (E.sa 15))] h) th fun v1 h =>
    if v1 = 0 then rn E d 225 564 [some (vR (some t)), some (vR r1_), some (vI x2_)] [] h else
    rn E d 225 564 [some (vR (some t)), some (vR r1_), some (vI 2)] [] h) := rn_b (b := b225_256) rfl
theorem e225_270 (E : EV) (d : Nat) (t : Nat) (r1_ : Option Nat) (x2_ : Int32) (h : AH) : rn E d 225 270 [some (vR (some t)), some (vR r1_), some (vI x2_)] [] h =
    gd (rcO 103 [vR r1_, vR (some (E.sa 16))] h) (cI (cal E d 282 [vR r1_, vR (some (E.sa 16))] h) th fun v1 h =>
    if v1 = 0 then rn E d 225 564 [some (vR (some t)), some (vR r1_), some (vI x2_)] [] h else
    rn E d 225 564 [some (vR (some t)), some (vR r1_), some (vI 3)] [] h) := rn_b (b := b225_270) rfl
theorem e225_284 (E : EV) (d : Nat) (t : Nat) (r1_ : Option Nat) (x2_ : Int32) (h : AH) : rn E d 225 284 [some (vR (some t)), some (vR r1_), some (vI x2_)] [] h =
    gd (rcO 103 [vR r1_, vR (some (E.sa 17))] h) (cI (cal E d 282 [vR r1_, vR (some (E.sa 17))] h) th fun v1 h =>
    if v1 = 0 then rn E d 225 564 [some (vR (some t)), some (vR r1_), some (vI x2_)] [] h else
    rn E d 225 564 [some (vR (some t)), some (vR r1_), some (vI 4)] [] h) := rn_b (b := b225_284) rfl
theorem e225_298 (E : EV) (d : Nat) (t : Nat) (r1_ : Option Nat) (x2_ : Int32) (h : AH) : rn E d 225 298 [some (vR (some t)), some (vR r1_), some (vI x2_)] [] h =
    gd (rcO 103 [vR r1_, vR (some (E.sa 18))] h) (cI (cal E d 282 [vR r1_, vR (some (E.sa 18))] h) th fun v1 h =>
    if v1 = 0 then rn E d 225 564 [some (vR (some t)), some (vR r1_), some (vI x2_)] [] h else
    rn E d 225 564 [some (vR (some t)), some (vR r1_), some (vI 5)] [] h) := rn_b (b := b225_298) rfl
theorem e225_312 (E : EV) (d : Nat) (t : Nat) (r1_ : Option Nat) (x2_ : Int32) (h : AH) : rn E d 225 312 [some (vR (some t)), some (vR r1_), some (vI x2_)] [] h =
    gd (rcO 103 [vR r1_, vR (some (E.sa 19))] h) (cI (cal E d 282 [vR r1_, vR (some (E.sa 19))] h) th fun v1 h =>
    if v1 = 0 then rn E d 225 564 [some (vR (some t)), some (vR r1_), some (vI x2_)] [] h else
    rn E d 225 564 [some (vR (some t)), some (vR r1_), some (vI 6)] [] h) := rn_b (b := b225_312) rfl
theorem e225_327 (E : EV) (d : Nat) (t : Nat) (r1_ : Option Nat) (x2_ : Int32) (h : AH) : rn E d 225 327 [some (vR (some t)), some (vR r1_), some (vI x2_)] [] h =
    gd (rcO 103 [vR r1_, vR (some (E.sa 20))] h) (cI (cal E d 282 [vR r1_, vR (some (E.sa 20))] h) th fun v1 h =>
    if v1 = 0 then rn E d 225 564 [some (vR (some t)), some (vR r1_), some (vI x2_)] [] h else
    rn E d 225 564 [some (vR (some t)), some (vR r1_), some (vI 7)] [] h) := rn_b (b := b225_327) rfl
theorem e225_342 (E : EV) (d : Nat) (t : Nat) (r1_ : Option Nat) (x2_ : Int32) (h : AH) : rn E d 225 342 [some (vR (some t)), some (vR r1_), some (vI x2_)] [] h =
    gd (rcO 103 [vR r1_, vR (some (E.sa 21))] h) (cI (cal E d 282 [vR r1_, vR (some (E.sa 21))] h) th fun v1 h =>
    if v1 = 0 then rn E d 225 564 [some (vR (some t)), some (vR r1_), some (vI x2_)] [] h else
    rn E d 225 564 [some (vR (some t)), some (vR r1_), some (vI 8)] [] h) := rn_b (b := b225_342) rfl
theorem e225_357 (E : EV) (d : Nat) (t : Nat) (r1_ : Option Nat) (x2_ : Int32) (h : AH) : rn E d 225 357 [some (vR (some t)), some (vR r1_), some (vI x2_)] [] h =
    gd (rcO 103 [vR r1_, vR (some (E.sa 22))] h) (cI (cal E d 282 [vR r1_, vR (some (E.sa 22))] h) th fun v1 h =>
    if v1 = 0 then rn E d 225 564 [some (vR (some t)), some (vR r1_), some (vI x2_)] [] h else
    rn E d 225 564 [some (vR (some t)), some (vR r1_), some (vI 9)] [] h) := rn_b (b := b225_357) rfl
theorem e225_372 (E : EV) (d : Nat) (t : Nat) (r1_ : Option Nat) (x2_ : Int32) (h : AH) : rn E d 225 372 [some (vR (some t)), some (vR r1_), some (vI x2_)] [] h =
    gd (rcO 103 [vR r1_, vR (some (E.sa 23))] h) (cI (cal E d 282 [vR r1_, vR (some (E.sa 23))] h) th fun v1 h =>
    if v1 = 0 then rn E d 225 564 [some (vR (some t)), some (vR r1_), some (vI x2_)] [] h else
    rn E d 225 564 [some (vR (some t)), some (vR r1_), some (vI 10)] [] h) := rn_b (b := b225_372) rfl
theorem e225_387 (E : EV) (d : Nat) (t : Nat) (r1_ : Option Nat) (x2_ : Int32) (h : AH) : rn E d 225 387 [some (vR (some t)), some (vR r1_), some (vI x2_)] [] h =
    gd (rcO 103 [vR r1_, vR (some (E.sa 24))] h) (cI (cal E d 282 [vR r1_, vR (some (E.sa 24))] h) th fun v1 h =>
    if v1 = 0 then rn E d 225 564 [some (vR (some t)), some (vR r1_), some (vI x2_)] [] h else
    rn E d 225 564 [some (vR (some t)), some (vR r1_), some (vI 11)] [] h) := rn_b (b := b225_387) rfl
theorem e225_402 (E : EV) (d : Nat) (t : Nat) (r1_ : Option Nat) (x2_ : Int32) (h : AH) : rn E d 225 402 [some (vR (some t)), some (vR r1_), some (vI x2_)] [] h =
    gd (rcO 103 [vR r1_, vR (some (E.sa 25))] h) (cI (cal E d 282 [vR r1_, vR (some (E.sa 25))] h) th fun v1 h =>
    if v1 = 0 then rn E d 225 564 [some (vR (some t)), some (vR r1_), some (vI x2_)] [] h else
    rn E d 225 564 [some (vR (some t)), some (vR r1_), some (vI 12)] [] h) := rn_b (b := b225_402) rfl
theorem e225_417 (E : EV) (d : Nat) (t : Nat) (r1_ : Option Nat) (x2_ : Int32) (h : AH) : rn E d 225 417 [some (vR (some t)), some (vR r1_), some (vI x2_)] [] h =
    gd (rcO 103 [vR r1_, vR (some (E.sa 26))] h) (cI (cal E d 282 [vR r1_, vR (some (E.sa 26))] h) th fun v1 h =>
    if v1 = 0 then rn E d 225 564 [some (vR (some t)), some (vR r1_), some (vI x2_)] [] h else
    rn E d 225 564 [some (vR (some t)), some (vR r1_), some (vI 13)] [] h) := rn_b (b := b225_417) rfl
theorem e225_432 (E : EV) (d : Nat) (t : Nat) (r1_ : Option Nat) (x2_ : Int32) (h : AH) : rn E d 225 432 [some (vR (some t)), some (vR r1_), some (vI x2_)] [] h =
    gd (rcO 103 [vR r1_, vR (some (E.sa 27))] h) (cI (cal E d 282 [vR r1_, vR (some (E.sa 27))] h) th fun v1 h =>
    if v1 = 0 then rn E d 225 564 [some (vR (some t)), some (vR r1_), some (vI x2_)] [] h else
    rn E d 225 564 [some (vR (some t)), some (vR r1_), some (vI 14)] [] h) := rn_b (b := b225_432) rfl
theorem e225_447 (E : EV) (d : Nat) (t : Nat) (r1_ : Option Nat) (x2_ : Int32) (h : AH) : rn E d 225 447 [some (vR (some t)), some (vR r1_), some (vI x2_)] [] h =
    gd (rcO 103 [vR r1_, vR (some (E.sa 28))] h) (cI (cal E d 282 [vR r1_, vR (some (E.sa 28))] h) th fun v1 h =>
    if v1 = 0 then rn E d 225 564 [some (vR (some t)), some (vR r1_), some (vI x2_)] [] h else
    rn E d 225 564 [some (vR (some t)), some (vR r1_), some (vI 15)] [] h) := rn_b (b := b225_447) rfl
theorem e225_462 (E : EV) (d : Nat) (t : Nat) (r1_ : Option Nat) (x2_ : Int32) (h : AH) : rn E d 225 462 [some (vR (some t)), some (vR r1_), some (vI x2_)] [] h =
    gd (rcO 103 [vR r1_, vR (some (E.sa 29))] h) (cI (cal E d 282 [vR r1_, vR (some (E.sa 29))] h) th fun v1 h =>
    if v1 = 0 then rn E d 225 564 [some (vR (some t)), some (vR r1_), some (vI x2_)] [] h else
    rn E d 225 564 [some (vR (some t)), some (vR r1_), some (vI 16)] [] h) := rn_b (b := b225_462) rfl
theorem e225_477 (E : EV) (d : Nat) (t : Nat) (r1_ : Option Nat) (x2_ : Int32) (h : AH) : rn E d 225 477 [some (vR (some t)), some (vR r1_), some (vI x2_)] [] h =
    gd (rcO 103 [vR r1_, vR (some (E.sa 30))] h) (cI (cal E d 282 [vR r1_, vR (some (E.sa 30))] h) th fun v1 h =>
    if v1 = 0 then rn E d 225 564 [some (vR (some t)), some (vR r1_), some (vI x2_)] [] h else
    rn E d 225 564 [some (vR (some t)), some (vR r1_), some (vI 17)] [] h) := rn_b (b := b225_477) rfl
theorem e225_492 (E : EV) (d : Nat) (t : Nat) (r1_ : Option Nat) (x2_ : Int32) (h : AH) : rn E d 225 492 [some (vR (some t)), some (vR r1_), some (vI x2_)] [] h =
    gd (rcO 103 [vR r1_, vR (some (E.sa 31))] h) (cI (cal E d 282 [vR r1_, vR (some (E.sa 31))] h) th fun v1 h =>
    if v1 = 0 then rn E d 225 564 [some (vR (some t)), some (vR r1_), some (vI x2_)] [] h else
    rn E d 225 564 [some (vR (some t)), some (vR r1_), some (vI 18)] [] h) := rn_b (b := b225_492) rfl
theorem e225_507 (E : EV) (d : Nat) (t : Nat) (r1_ : Option Nat) (x2_ : Int32) (h : AH) : rn E d 225 507 [some (vR (some t)), some (vR r1_), some (vI x2_)] [] h =
    gd (rcO 103 [vR r1_, vR (some (E.sa 32))] h) (cI (cal E d 282 [vR r1_, vR (some (E.sa 32))] h) th fun v1 h =>
    if v1 = 0 then rn E d 225 564 [some (vR (some t)), some (vR r1_), some (vI x2_)] [] h else
    rn E d 225 564 [some (vR (some t)), some (vR r1_), some (vI 19)] [] h) := rn_b (b := b225_507) rfl
theorem e225_522 (E : EV) (d : Nat) (t : Nat) (r1_ : Option Nat) (x2_ : Int32) (h : AH) : rn E d 225 522 [some (vR (some t)), some (vR r1_), some (vI x2_)] [] h =
    gd (rcO 103 [vR r1_, vR (some (E.sa 33))] h) (cI (cal E d 282 [vR r1_, vR (some (E.sa 33))] h) th fun v1 h =>
    if v1 = 0 then rn E d 225 564 [some (vR (some t)), some (vR r1_), some (vI x2_)] [] h else
    rn E d 225 564 [some (vR (some t)), some (vR r1_), some (vI 20)] [] h) := rn_b (b := b225_522) rfl
theorem e225_537 (E : EV) (d : Nat) (t : Nat) (r1_ : Option Nat) (x2_ : Int32) (h : AH) : rn E d 225 537 [some (vR (some t)), some (vR r1_), some (vI x2_)] [] h =
    gd (rcO 103 [vR r1_, vR (some (E.sa 34))] h) (cI (cal E d 282 [vR r1_, vR (some (E.sa 34))] h) th fun v1 h =>
    if v1 = 0 then rn E d 225 564 [some (vR (some t)), some (vR r1_), some (vI x2_)] [] h else
    rn E d 225 564 [some (vR (some t)), some (vR r1_), some (vI 21)] [] h) := rn_b (b := b225_537) rfl
theorem e225_552 (E : EV) (d : Nat) (t : Nat) (r1_ : Option Nat) (x2_ : Int32) (h : AH) : rn E d 225 552 [some (vR (some t)), some (vR r1_), some (vI x2_)] [] h =
    gd (rcO 103 [vR r1_, vR (some (E.sa 35))] h) (cI (cal E d 282 [vR r1_, vR (some (E.sa 35))] h) th fun v1 h =>
    if v1 = 0 then rn E d 225 564 [some (vR (some t)), some (vR r1_), some (vI x2_)] [] h else
    rn E d 225 564 [some (vR (some t)), some (vR r1_), some (vI 22)] [] h) := rn_b (b := b225_552) rfl
theorem e225_564 (E : EV) (d : Nat) (t : Nat) (r1_ : Option Nat) (x2_ : Int32) (h : AH) : rn E d 225 564 [some (vR (some t)), some (vR r1_), some (vI x2_)] [] h =
    if x2_ = 0 then rn E d 225 672 [some (vR (some t)), some (vR r1_), some (vI x2_)] [] h else
    if x2_ = 1 then rn E d 225 672 [some (vR (some t)), some (vR r1_), some (vI x2_)] [] h else
    if x2_ = 2 then rn E d 225 672 [some (vR (some t)), some (vR r1_), some (vI x2_)] [] h else
    if x2_ = 3 then rn E d 225 672 [some (vR (some t)), some (vR r1_), some (vI x2_)] [] h else
    if x2_ = 4 then rn E d 225 672 [some (vR (some t)), some (vR r1_), some (vI x2_)] [] h else
    if x2_ = 5 then rn E d 225 672 [some (vR (some t)), some (vR r1_), some (vI x2_)] [] h else
    if x2_ = 6 then rn E d 225 672 [some (vR (some t)), some (vR r1_), some (vI x2_)] [] h else
    if x2_ = 7 then rn E d 225 672 [some (vR (some t)), some (vR r1_), some (vI x2_)] [] h else
    if x2_ = 8 then rn E d 225 672 [some (vR (some t)), some (vR r1_), some (vI x2_)] [] h else
    if x2_ = 9 then rn E d 225 672 [some (vR (some t)), some (vR r1_), some (vI x2_)] [] h else
    if x2_ = 10 then rn E d 225 672 [some (vR (some t)), some (vR r1_), some (vI x2_)] [] h else
    if x2_ = 11 then rn E d 225 672 [some (vR (some t)), some (vR r1_), some (vI x2_)] [] h else
    if x2_ = 12 then rn E d 225 672 [some (vR (some t)), some (vR r1_), some (vI x2_)] [] h else
    if x2_ = 13 then rn E d 225 672 [some (vR (some t)), some (vR r1_), some (vI x2_)] [] h else
    if x2_ = 14 then rn E d 225 672 [some (vR (some t)), some (vR r1_), some (vI x2_)] [] h else
    if x2_ = 15 then rn E d 225 672 [some (vR (some t)), some (vR r1_), some (vI x2_)] [] h else
    if x2_ = 16 then rn E d 225 672 [some (vR (some t)), some (vR r1_), some (vI x2_)] [] h else
    if x2_ = 17 then rn E d 225 672 [some (vR (some t)), some (vR r1_), some (vI x2_)] [] h else
    if x2_ = 18 then rn E d 225 672 [some (vR (some t)), some (vR r1_), some (vI x2_)] [] h else
    if x2_ = 19 then rn E d 225 672 [some (vR (some t)), some (vR r1_), some (vI x2_)] [] h else
    if x2_ = 20 then rn E d 225 672 [some (vR (some t)), some (vR r1_), some (vI x2_)] [] h else
    if x2_ = 21 then rn E d 225 672 [some (vR (some t)), some (vR r1_), some (vI x2_)] [] h else
    if x2_ = 22 then rn E d 225 672 [some (vR (some t)), some (vR r1_), some (vI x2_)] [] h else
    rn E d 225 677 [some (vR (some t)), some (vR r1_), some (vI x2_)] [] h := rn_b (b := b225_564) rfl
theorem e225_672 (E : EV) (d : Nat) (t : Nat) (r1_ : Option Nat) (x2_ : Int32) (h : AH) : rn E d 225 672 [some (vR (some t)), some (vR r1_), some (vI x2_)] [] h =
    gd (h.kd t == 5 || h.kd t == 12) (cR (cal E d 229 [vR (some t)] h) th fun r1 h =>
    nn r1 fun a2 =>
    th a2 h) := rn_b (b := b225_672) rfl
theorem e225_677 (E : EV) (d : Nat) (t : Nat) (r1_ : Option Nat) (x2_ : Int32) (h : AH) : rn E d 225 677 [some (vR (some t)), some (vR r1_), some (vI x2_)] [] h =
    some (Sum.inl none, h) := rn_b (b := b225_677) rfl
/-! 226 FastPlane$Reader.need(I)V -/
theorem c226 (E : EV) (d : Nat) (t : Nat) (x1_ : Int32) (h : AH) : cal E (d + 1) 226 [vR (some t), vI x1_] h = rn E d 226 0 [some (vR (some t)), some (vI x1_)] [] h := cal_rn rfl rfl
theorem e226_0 (E : EV) (d : Nat) (t : Nat) (x1_ : Int32) (h : AH) : rn E d 226 0 [some (vR (some t)), some (vI x1_)] [] h =
    gd (h.kd t == 5 || h.kd t == 12) (if (h.I t 49) = x1_ then rn E d 226 13 [some (vR (some t)), some (vI x1_)] [] h else
    gd (h.kd t == 5 || h.kd t == 12) (cR (cal E d 229 [vR (some t)] h) th fun r1 h =>
    nn r1 fun a2 =>
    th a2 h)) := rn_b (b := b226_0) rfl
theorem e226_13 (E : EV) (d : Nat) (t : Nat) (x1_ : Int32) (h : AH) : rn E d 226 13 [some (vR (some t)), some (vI x1_)] [] h =
    gd (h.kd t == 5 || h.kd t == 12) (cV (cal E d 227 [vR (some t)] h) th fun h =>
    some (Sum.inl none, h)) := rn_b (b := b226_13) rfl
/-! 227 FastPlane$Reader.next()V -/
theorem c227 (E : EV) (d : Nat) (t : Nat) (h : AH) : cal E (d + 1) 227 [vR (some t)] h = rn E d 227 0 [some (vR (some t)), none, none, none] [] h := cal_rn rfl rfl
theorem e227_0 (E : EV) (d : Nat) (t : Nat) (o1_ : Option AV) (o2_ : Option AV) (o3_ : Option AV) (h : AH) : rn E d 227 0 [some (vR (some t)), o1_, o2_, o3_] [] h =
    gd (h.kd t == 5 || h.kd t == 12) (cI (cal E d 218 [vR (some t), vI 0] h) th fun v1 h =>
    if v1 = 32 then rn E d 227 20 [some (vR (some t)), o1_, o2_, o3_] [] h else
    gd (h.kd t == 5 || h.kd t == 12) (cI (cal E d 218 [vR (some t), vI 0] h) th fun v2 h =>
    if v2 = 10 then
    rn E d 227 20 [some (vR (some t)), o1_, o2_, o3_] [] h
    else rn E d 227 33 [some (vR (some t)), o1_, o2_, o3_] [] h)) := rn_b (b := b227_0) rfl
theorem e227_20 (E : EV) (d : Nat) (t : Nat) (o1_ : Option AV) (o2_ : Option AV) (o3_ : Option AV) (h : AH) : rn E d 227 20 [some (vR (some t)), o1_, o2_, o3_] [] h =
    gd (h.kd t == 5 || h.kd t == 12) (gd ((h.kd t == 5 || h.kd t == 12) && decide (E.bs ≤ t) && true) (hs (h.setI t 48 ((h.I t 48) + 1)) fun h =>
    rn E d 227 0 [some (vR (some t)), o1_, o2_, o3_] [] h)) := rn_b (b := b227_20) rfl
theorem e227_33 (E : EV) (d : Nat) (t : Nat) (o1_ : Option AV) (o2_ : Option AV) (o3_ : Option AV) (h : AH) : rn E d 227 33 [some (vR (some t)), o1_, o2_, o3_] [] h =
    gd (h.kd t == 5 || h.kd t == 12) (gd ((h.kd t == 5 || h.kd t == 12) && decide (E.bs ≤ t) && true) (hs (h.setI t 50 (h.I t 48)) fun h =>
    gd (h.kd t == 5 || h.kd t == 12) (cI (cal E d 218 [vR (some t), vI 0] h) th fun v1 h =>
    gd ((h.kd t == 5 || h.kd t == 12) && decide (E.bs ≤ t) && true) (hs (h.setI t 49 3) fun h =>
    if 0 ≤ v1 then rn E d 227 66 [some (vR (some t)), some (vI v1), some (vI 0), o3_] [] h else
    gd ((h.kd t == 5 || h.kd t == 12) && decide (E.bs ≤ t) && true) (hs (h.setI t 49 0) fun h =>
    rn E d 227 228 [some (vR (some t)), some (vI v1), some (vI 0), o3_] [] h))))) := rn_b (b := b227_33) rfl
theorem e227_66 (E : EV) (d : Nat) (t : Nat) (x1_ : Int32) (x2_ : Int32) (o3_ : Option AV) (h : AH) : rn E d 227 66 [some (vR (some t)), some (vI x1_), some (vI x2_), o3_] [] h =
    gd (h.kd t == 5 || h.kd t == 12) (cI (cal E d 221 [vR (some t), vI 0] h) th fun v1 h =>
    if v1 = 0 then rn E d 227 138 [some (vR (some t)), some (vI x1_), some (vI x2_), o3_] [] h else
    gd (decide (h.nx + 1 ≤ E.lc) && decide (h.us + 4 ≤ E.lu)) (hs h.nx fun n2 => hs (h.mk 6 0 4) fun h =>
    cV (cal E d 276 [vR (some n2), vI 8] h) th fun h =>
    rn E d 227 84 [some (vR (some t)), some (vI x1_), some (vI x2_), some (vR (some n2))] [] h)) := rn_b (b := b227_66) rfl
theorem e227_84 (E : EV) (d : Nat) (t : Nat) (x1_ : Int32) (x2_ : Int32) (r3_ : Option Nat) (h : AH) : rn E d 227 84 [some (vR (some t)), some (vI x1_), some (vI x2_), some (vR r3_)] [] h =
    gd (h.kd t == 5 || h.kd t == 12) (cI (cal E d 221 [vR (some t), vI x2_] h) th fun v1 h =>
    if v1 = 0 then rn E d 227 115 [some (vR (some t)), some (vI x1_), some (vI x2_), some (vR r3_)] [] h else
    if 8 ≤ x2_ then rn E d 227 109 [some (vR (some t)), some (vI x1_), some (vI x2_), some (vR r3_)] [] h else
    gd (h.kd t == 5 || h.kd t == 12) (cI (cal E d 218 [vR (some t), vI x2_] h) th fun v2 h =>
    gd (rcO 242 [vR r3_, vI ((v2.toUInt32 % 65536).toInt32)] h) (cR (cal E d 275 [vR r3_, vI ((v2.toUInt32 % 65536).toInt32)] h) th fun r3 h =>
    rn E d 227 109 [some (vR (some t)), some (vI x1_), some (vI x2_), some (vR r3_)] [] h))) := rn_b (b := b227_84) rfl
theorem e227_109 (E : EV) (d : Nat) (t : Nat) (x1_ : Int32) (x2_ : Int32) (r3_ : Option Nat) (h : AH) : rn E d 227 109 [some (vR (some t)), some (vI x1_), some (vI x2_), some (vR r3_)] [] h =
    hs (x2_ + 1) fun x1 =>
    rn E d 227 84 [some (vR (some t)), some (vI x1_), some (vI x1), some (vR r3_)] [] h := rn_b (b := b227_109) rfl
theorem e227_115 (E : EV) (d : Nat) (t : Nat) (x1_ : Int32) (x2_ : Int32) (r3_ : Option Nat) (h : AH) : rn E d 227 115 [some (vR (some t)), some (vI x1_), some (vI x2_), some (vR r3_)] [] h =
    if x2_ ≤ 8 then rn E d 227 122 [some (vR (some t)), some (vI x1_), some (vI x2_), some (vR r3_)] [] h else
    some (Sum.inl none, h) := rn_b (b := b227_115) rfl
theorem e227_122 (E : EV) (d : Nat) (t : Nat) (x1_ : Int32) (x2_ : Int32) (r3_ : Option Nat) (h : AH) : rn E d 227 122 [some (vR (some t)), some (vI x1_), some (vI x2_), some (vR r3_)] [] h =
    gd (rcO 243 [vR r3_] h) (cR (cal E d 278 [vR r3_] h) th fun r1 h =>
    gd ((h.kd t == 5 || h.kd t == 12) && decide (E.bs ≤ t)) (hs (h.setR t 53 r1) fun h =>
    gd ((h.kd t == 5 || h.kd t == 12) && decide (E.bs ≤ t) && true) (hs (h.setI t 49 1) fun h =>
    rn E d 227 228 [some (vR (some t)), some (vI x1_), some (vI x2_), some (vR r3_)] [] h))) := rn_b (b := b227_122) rfl
theorem e227_138 (E : EV) (d : Nat) (t : Nat) (x1_ : Int32) (x2_ : Int32) (o3_ : Option AV) (h : AH) : rn E d 227 138 [some (vR (some t)), some (vI x1_), some (vI x2_), o3_] [] h =
    gd (h.kd t == 5 || h.kd t == 12) (cI (cal E d 220 [vR (some t), vI 0] h) th fun v1 h =>
    if v1 = 0 then rn E d 227 212 [some (vR (some t)), some (vI x1_), some (vI x2_), o3_] [] h else
    gd ((h.kd t == 5 || h.kd t == 12) && decide (E.bs ≤ t) && true) (hs (h.setI t 51 0) fun h =>
    rn E d 227 151 [some (vR (some t)), some (vI x1_), some (vI x2_), o3_] [] h)) := rn_b (b := b227_138) rfl
theorem e227_151 (E : EV) (d : Nat) (t : Nat) (x1_ : Int32) (x2_ : Int32) (o3_ : Option AV) (h : AH) : rn E d 227 151 [some (vR (some t)), some (vI x1_), some (vI x2_), o3_] [] h =
    gd (h.kd t == 5 || h.kd t == 12) (cI (cal E d 220 [vR (some t), vI x2_] h) th fun v1 h =>
    if v1 = 0 then rn E d 227 190 [some (vR (some t)), some (vI x1_), some (vI x2_), o3_] [] h else
    if 4 ≤ x2_ then rn E d 227 184 [some (vR (some t)), some (vI x1_), some (vI x2_), o3_] [] h else
    gd (h.kd t == 5 || h.kd t == 12) (gd (h.kd t == 5 || h.kd t == 12) (hs (10 * (h.I t 51)) fun y3 =>
    cI (cal E d 218 [vR (some t), vI x2_] h) th fun v2 h =>
    gd ((h.kd t == 5 || h.kd t == 12) && decide (E.bs ≤ t) && true) (hs (h.setI t 51 ((y3 + v2) - 48)) fun h =>
    rn E d 227 184 [some (vR (some t)), some (vI x1_), some (vI x2_), o3_] [] h)))) := rn_b (b := b227_151) rfl
theorem e227_184 (E : EV) (d : Nat) (t : Nat) (x1_ : Int32) (x2_ : Int32) (o3_ : Option AV) (h : AH) : rn E d 227 184 [some (vR (some t)), some (vI x1_), some (vI x2_), o3_] [] h =
    hs (x2_ + 1) fun x1 =>
    rn E d 227 151 [some (vR (some t)), some (vI x1_), some (vI x1), o3_] [] h := rn_b (b := b227_184) rfl
theorem e227_190 (E : EV) (d : Nat) (t : Nat) (x1_ : Int32) (x2_ : Int32) (o3_ : Option AV) (h : AH) : rn E d 227 190 [some (vR (some t)), some (vI x1_), some (vI x2_), o3_] [] h =
    if 4 < x2_ then rn E d 227 203 [some (vR (some t)), some (vI x1_), some (vI x2_), o3_] [] h else
    gd (h.kd t == 5 || h.kd t == 12) (cI (cal E d 221 [vR (some t), vI x2_] h) th fun v1 h =>
    if v1 = 0 then rn E d 227 204 [some (vR (some t)), some (vI x1_), some (vI x2_), o3_] [] h else
    rn E d 227 203 [some (vR (some t)), some (vI x1_), some (vI x2_), o3_] [] h) := rn_b (b := b227_190) rfl
theorem e227_203 (E : EV) (d : Nat) (t : Nat) (x1_ : Int32) (x2_ : Int32) (o3_ : Option AV) (h : AH) : rn E d 227 203 [some (vR (some t)), some (vI x1_), some (vI x2_), o3_] [] h =
    some (Sum.inl none, h) := rn_b (b := b227_203) rfl
theorem e227_204 (E : EV) (d : Nat) (t : Nat) (x1_ : Int32) (x2_ : Int32) (o3_ : Option AV) (h : AH) : rn E d 227 204 [some (vR (some t)), some (vI x1_), some (vI x2_), o3_] [] h =
    gd ((h.kd t == 5 || h.kd t == 12) && decide (E.bs ≤ t) && true) (hs (h.setI t 49 2) fun h =>
    rn E d 227 228 [some (vR (some t)), some (vI x1_), some (vI x2_), o3_] [] h) := rn_b (b := b227_204) rfl
theorem e227_212 (E : EV) (d : Nat) (t : Nat) (x1_ : Int32) (x2_ : Int32) (o3_ : Option AV) (h : AH) : rn E d 227 212 [some (vR (some t)), some (vI x1_), some (vI x2_), o3_] [] h =
    gd (h.kd (E.sa 1) == 7) (cI (cal E d 284 [vR (some (E.sa 1)), vI x1_] h) th fun v1 h =>
    if v1 < 0 then rn E d 227 228 [some (vR (some t)), some (vI x1_), some (vI x2_), o3_] [] h else
    gd ((h.kd t == 5 || h.kd t == 12) && decide (E.bs ≤ t) && true) (hs (h.setI t 49 x1_) fun h =>
    rn E d 227 228 [some (vR (some t)), some (vI x1_), some (vI 1), o3_] [] h)) := rn_b (b := b227_212) rfl
theorem e227_228 (E : EV) (d : Nat) (t : Nat) (x1_ : Int32) (x2_ : Int32) (o3_ : Option AV) (h : AH) : rn E d 227 228 [some (vR (some t)), some (vI x1_), some (vI x2_), o3_] [] h =
    gd (h.kd t == 5 || h.kd t == 12) (gd ((h.kd t == 5 || h.kd t == 12) && decide (E.bs ≤ t) && true) (hs (h.setI t 48 ((h.I t 48) + x2_)) fun h =>
    some (Sum.inl none, h))) := rn_b (b := b227_228) rfl
/-! 228 FastPlane$Reader.number(II)I -/
theorem c228 (E : EV) (d : Nat) (t : Nat) (x1_ : Int32) (x2_ : Int32) (h : AH) : cal E (d + 1) 228 [vR (some t), vI x1_, vI x2_] h = rn E d 228 0 [some (vR (some t)), some (vI x1_), some (vI x2_), none] [] h := cal_rn rfl rfl
theorem e228_0 (E : EV) (d : Nat) (t : Nat) (x1_ : Int32) (x2_ : Int32) (o3_ : Option AV) (h : AH) : rn E d 228 0 [some (vR (some t)), some (vI x1_), some (vI x2_), o3_] [] h =
    gd (h.kd t == 5 || h.kd t == 12) (if (h.I t 49) = 2 then rn E d 228 13 [some (vR (some t)), some (vI x1_), some (vI x2_), o3_] [] h else
    gd (h.kd t == 5 || h.kd t == 12) (cR (cal E d 229 [vR (some t)] h) th fun r1 h =>
    nn r1 fun a2 =>
    th a2 h)) := rn_b (b := b228_0) rfl
theorem e228_13 (E : EV) (d : Nat) (t : Nat) (x1_ : Int32) (x2_ : Int32) (o3_ : Option AV) (h : AH) : rn E d 228 13 [some (vR (some t)), some (vI x1_), some (vI x2_), o3_] [] h =
    gd (h.kd t == 5 || h.kd t == 12) (if (h.I t 51) < x1_ then rn E d 228 29 [some (vR (some t)), some (vI x1_), some (vI x2_), o3_] [] h else
    gd (h.kd t == 5 || h.kd t == 12) (if (h.I t 51) ≤ x2_ then rn E d 228 42 [some (vR (some t)), some (vI x1_), some (vI x2_), o3_] [] h else
    rn E d 228 29 [some (vR (some t)), some (vI x1_), some (vI x2_), o3_] [] h)) := rn_b (b := b228_13) rfl
theorem e228_29 (E : EV) (d : Nat) (t : Nat) (x1_ : Int32) (x2_ : Int32) (o3_ : Option AV) (h : AH) : rn E d 228 29 [some (vR (some t)), some (vI x1_), some (vI x2_), o3_] [] h =
    gd (decide (h.nx + 1 ≤ E.lc) && decide (h.us + 8 ≤ E.lu)) (hs h.nx fun n1 => hs (h.mk 8 0 8) fun h =>
    gd (h.kd t == 5 || h.kd t == 12) (cV (cal E d 237 [vR (some n1), vI 4, vI (h.I t 50)] h) th fun h =>
    th n1 h)) := rn_b (b := b228_29) rfl
theorem e228_42 (E : EV) (d : Nat) (t : Nat) (x1_ : Int32) (x2_ : Int32) (o3_ : Option AV) (h : AH) : rn E d 228 42 [some (vR (some t)), some (vI x1_), some (vI x2_), o3_] [] h =
    gd (h.kd t == 5 || h.kd t == 12) (hs (h.I t 51) fun x1 =>
    gd (h.kd t == 5 || h.kd t == 12) (gd ((h.kd t == 5 || h.kd t == 12) && decide (E.bs ≤ t) && true) (hs (h.setI t 52 (h.I t 50)) fun h =>
    gd (h.kd t == 5 || h.kd t == 12) (cV (cal E d 227 [vR (some t)] h) th fun h =>
    some (Sum.inl (some (vI x1)), h))))) := rn_b (b := b228_42) rfl
/-! 229 FastPlane$Reader.wrong()LFastPlane$Wrong; -/
theorem c229 (E : EV) (d : Nat) (t : Nat) (h : AH) : cal E (d + 1) 229 [vR (some t)] h = rn E d 229 0 [some (vR (some t))] [] h := cal_rn rfl rfl
theorem e229_0 (E : EV) (d : Nat) (t : Nat) (h : AH) : rn E d 229 0 [some (vR (some t))] [] h =
    gd (decide (h.nx + 1 ≤ E.lc) && decide (h.us + 8 ≤ E.lu)) (hs h.nx fun n1 => hs (h.mk 8 0 8) fun h =>
    gd (h.kd t == 5 || h.kd t == 12) (if (h.I t 49) = 3 then
    rn E d 229 17 [some (vR (some t))] [vI 1, vR (some n1), vR (some n1)] h
    else rn E d 229 16 [some (vR (some t))] [vR (some n1), vR (some n1)] h)) := rn_b (b := b229_0) rfl
theorem e229_16 (E : EV) (d : Nat) (t : Nat) (s0_ : Option Nat) (s1_ : Option Nat) (h : AH) : rn E d 229 16 [some (vR (some t))] [vR s1_, vR s0_] h =
    rn E d 229 17 [some (vR (some t))] [vI 2, vR s1_, vR s0_] h := rn_b (b := b229_16) rfl
theorem e229_17 (E : EV) (d : Nat) (t : Nat) (s0_ : Option Nat) (s1_ : Option Nat) (s2_ : Int32) (h : AH) : rn E d 229 17 [some (vR (some t))] [vI s2_, vR s1_, vR s0_] h =
    gd (h.kd t == 5 || h.kd t == 12) (gd (rcO 155 [vR s1_, vI s2_, vI (h.I t 50)] h) (cV (cal E d 237 [vR s1_, vI s2_, vI (h.I t 50)] h) th fun h =>
    some (Sum.inl (some (vR s0_)), h))) := rn_b (b := b229_17) rfl
/-! 230 FastPlane$MachineReader.<init>(LFastPlane;)V -/
theorem c230 (E : EV) (d : Nat) (t : Nat) (x1_ : Option Nat) (h : AH) : cal E (d + 1) 230 [vR (some t), vR x1_] h = rn E d 230 0 [some (vR (some t)), some (vR x1_)] [] h := cal_rn rfl rfl
theorem e230_0 (E : EV) (d : Nat) (t : Nat) (r1_ : Option Nat) (h : AH) : rn E d 230 0 [some (vR (some t)), some (vR r1_)] [] h =
    gd ((h.kd t == 5) && decide (E.bs ≤ t)) (hs (h.setR t 56 r1_) fun h =>
    cV (cal E d 219 [vR (some t), vR r1_] h) th fun h =>
    gd (decide (h.nx + 1 ≤ E.lc) && decide (h.us + 9 ≤ E.lu)) (hs h.nx fun n1 => hs (h.mk 2 0 9) fun h =>
    cV (cal E d 70 [vR (some n1)] h) th fun h =>
    gd ((h.kd t == 5) && decide (E.bs ≤ t)) (hs (h.setR t 55 (some n1)) fun h =>
    some (Sum.inl none, h)))) := rn_b (b := b230_0) rfl
/-! 231 FastPlane$MachineReader.link(Ljava/util/ArrayList;Ljava/lang/String;I)V -/
theorem c231 (E : EV) (d : Nat) (t : Nat) (x1_ : Option Nat) (x2_ : Option Nat) (x3_ : Int32) (h : AH) : cal E (d + 1) 231 [vR (some t), vR x1_, vR x2_, vI x3_] h = rn E d 231 0 [some (vR (some t)), some (vR x1_), some (vR x2_), some (vI x3_), none, none] [] h := cal_rn rfl rfl
theorem e231_0 (E : EV) (d : Nat) (t : Nat) (r1_ : Option Nat) (r2_ : Option Nat) (x3_ : Int32) (o4_ : Option AV) (o5_ : Option AV) (h : AH) : rn E d 231 0 [some (vR (some t)), some (vR r1_), some (vR r2_), some (vI x3_), o4_, o5_] [] h =
    gd (h.kd t == 5) (cV (cal E d 227 [vR (some t)] h) th fun h =>
    gd (h.kd t == 5) (cR (cal E d 232 [vR (some t), vR none] h) th fun r1 h =>
    gd (h.kd t == 5) (cR (cal E d 232 [vR (some t), vR r1] h) th fun r2 h =>
    gd (h.kd t == 5) (cV (cal E d 223 [vR (some t), vR r2_] h) th fun h =>
    gd (decide (h.nx + 1 ≤ E.lc) && decide (h.us + 3 ≤ E.lu)) (hs h.nx fun n3 => hs (h.mk 11 0 3) fun h =>
    gd (h.kd t == 5) (cI (cal E d 228 [vR (some t), vI 0, vI x3_] h) th fun v4 h =>
    cV (cal E d 73 [vR (some n3), vR r1, vR r2, vI v4] h) th fun h =>
    gd (rcO 129 [vR r1_, vR (some n3)] h) (cI (cal E d 260 [vR r1_, vR (some n3)] h) th fun v5 h =>
    some (Sum.inl none, h)))))))) := rn_b (b := b231_0) rfl
/-! 232 FastPlane$MachineReader.named(LFastPlane$Part;)LFastPlane$Part; -/
theorem c232 (E : EV) (d : Nat) (t : Nat) (x1_ : Option Nat) (h : AH) : cal E (d + 1) 232 [vR (some t), vR x1_] h = rn E d 232 0 [some (vR (some t)), some (vR x1_), none] [] h := cal_rn rfl rfl
theorem e232_0 (E : EV) (d : Nat) (t : Nat) (r1_ : Option Nat) (o2_ : Option AV) (h : AH) : rn E d 232 0 [some (vR (some t)), some (vR r1_), o2_] [] h =
    gd (h.kd t == 5) (cV (cal E d 225 [vR (some t)] h) th fun h =>
    gd (h.kd t == 5) (gd (h.kd t == 5 || h.kd t == 12) (gd (rcO 252 [vR (h.R t 55), vR (h.R t 53)] h) (cR (cal E d 71 [vR (h.R t 55), vR (h.R t 53)] h) th fun r1 h =>
    if r1 = none then
    gd (decide (h.nx + 1 ≤ E.lc) && decide (h.us + 8 ≤ E.lu)) (hs h.nx fun n2 => hs (h.mk 8 0 8) fun h =>
    gd (h.kd t == 5 || h.kd t == 12) (cV (cal E d 237 [vR (some n2), vI 5, vI (h.I t 50)] h) th fun h =>
    th n2 h))
    else rn E d 232 33 [some (vR (some t)), some (vR r1_), some (vR r1)] [] h)))) := rn_b (b := b232_0) rfl
theorem e232_33 (E : EV) (d : Nat) (t : Nat) (r1_ : Option Nat) (r2_ : Option Nat) (h : AH) : rn E d 232 33 [some (vR (some t)), some (vR r1_), some (vR r2_)] [] h =
    if r2_ = r1_ then
    gd (decide (h.nx + 1 ≤ E.lc) && decide (h.us + 8 ≤ E.lu)) (hs h.nx fun n1 => hs (h.mk 8 0 8) fun h =>
    gd (h.kd t == 5 || h.kd t == 12) (cV (cal E d 237 [vR (some n1), vI 6, vI (h.I t 50)] h) th fun h =>
    th n1 h))
    else rn E d 232 52 [some (vR (some t)), some (vR r1_), some (vR r2_)] [] h := rn_b (b := b232_33) rfl
theorem e232_52 (E : EV) (d : Nat) (t : Nat) (r1_ : Option Nat) (r2_ : Option Nat) (h : AH) : rn E d 232 52 [some (vR (some t)), some (vR r1_), some (vR r2_)] [] h =
    gd (h.kd t == 5) (cV (cal E d 227 [vR (some t)] h) th fun h =>
    some (Sum.inl (some (vR r2_)), h)) := rn_b (b := b232_52) rfl
/-! 233 FastPlane$MachineReader.part()V -/
theorem c233 (E : EV) (d : Nat) (t : Nat) (h : AH) : cal E (d + 1) 233 [vR (some t)] h = rn E d 233 0 [some (vR (some t)), none, none, none, none, none, none, none] [] h := cal_rn rfl rfl
theorem e233_0 (E : EV) (d : Nat) (t : Nat) (o1_ : Option AV) (o2_ : Option AV) (o3_ : Option AV) (o4_ : Option AV) (o5_ : Option AV) (o6_ : Option AV) (o7_ : Option AV) (h : AH) : rn E d 233 0 [some (vR (some t)), o1_, o2_, o3_, o4_, o5_, o6_, o7_] [] h =
    gd (h.kd t == 5) (cV (cal E d 227 [vR (some t)] h) th fun h =>
    gd (h.kd t == 5) (cV (cal E d 225 [vR (some t)] h) th fun h =>
    gd (h.kd t == 5) (gd (h.kd t == 5 || h.kd t == 12) (gd (rcO 252 [vR (h.R t 55), vR (h.R t 53)] h) (cR (cal E d 71 [vR (h.R t 55), vR (h.R t 53)] h) th fun r1 h =>
    if r1 = none then rn E d 233 35 [some (vR (some t)), o1_, o2_, o3_, o4_, o5_, o6_, o7_] [] h else
    gd (decide (h.nx + 1 ≤ E.lc) && decide (h.us + 8 ≤ E.lu)) (hs h.nx fun n2 => hs (h.mk 8 0 8) fun h =>
    gd (h.kd t == 5 || h.kd t == 12) (cV (cal E d 237 [vR (some n2), vI 3, vI (h.I t 50)] h) th fun h =>
    th n2 h))))))) := rn_b (b := b233_0) rfl
theorem e233_35 (E : EV) (d : Nat) (t : Nat) (o1_ : Option AV) (o2_ : Option AV) (o3_ : Option AV) (o4_ : Option AV) (o5_ : Option AV) (o6_ : Option AV) (o7_ : Option AV) (h : AH) : rn E d 233 35 [some (vR (some t)), o1_, o2_, o3_, o4_, o5_, o6_, o7_] [] h =
    gd (h.kd t == 5 || h.kd t == 12) (hs (h.R t 53) fun r1 =>
    gd (h.kd t == 5) (cV (cal E d 227 [vR (some t)] h) th fun h =>
    gd (h.kd t == 5) (cV (cal E d 223 [vR (some t), vR (some (E.sa 14))] h) th fun h =>
    gd (h.kd t == 5) (cI (cal E d 228 [vR (some t), vI 0, vI 1] h) th fun v2 h =>
    gd (h.kd t == 5) (cV (cal E d 223 [vR (some t), vR (some (E.sa 15))] h) th fun h =>
    gd (h.kd t == 5) (cI (cal E d 228 [vR (some t), vI 1, vI 999] h) th fun v3 h =>
    gd (h.kd t == 5) (cI (cal E d 222 [vR (some t), vR (some (E.sa 17))] h) th fun v4 h =>
    if v4 = 0 then
    gd (h.kd t == 5) (cI (cal E d 222 [vR (some t), vR (some (E.sa 16))] h) th fun v5 h =>
    if v5 = 0 then
    gd (h.kd t == 5) (cR (cal E d 229 [vR (some t)] h) th fun r6 h =>
    nn r6 fun a7 =>
    th a7 h)
    else rn E d 233 99 [some (vR (some t)), some (vR r1), some (vI v2), some (vI v3), some (vI v4), o5_, o6_, o7_] [] h)
    else rn E d 233 99 [some (vR (some t)), some (vR r1), some (vI v2), some (vI v3), some (vI v4), o5_, o6_, o7_] [] h))))))) := rn_b (b := b233_35) rfl
theorem e233_99 (E : EV) (d : Nat) (t : Nat) (r1_ : Option Nat) (x2_ : Int32) (x3_ : Int32) (x4_ : Int32) (o5_ : Option AV) (o6_ : Option AV) (o7_ : Option AV) (h : AH) : rn E d 233 99 [some (vR (some t)), some (vR r1_), some (vI x2_), some (vI x3_), some (vI x4_), o5_, o6_, o7_] [] h =
    gd (h.kd t == 5) (cV (cal E d 227 [vR (some t)] h) th fun h =>
    gd (h.kd t == 5) (cV (cal E d 223 [vR (some t), vR (some (E.sa 18))] h) th fun h =>
    gd (h.kd t == 5) (cI (cal E d 228 [vR (some t), vI 0, vI 99] h) th fun v1 h =>
    gd (h.kd t == 5) (cV (cal E d 223 [vR (some t), vR (some (E.sa 19))] h) th fun h =>
    gd (h.kd t == 5) (cI (cal E d 228 [vR (some t), vI 0, vI 999] h) th fun v2 h =>
    gd (h.kd t == 5) (nn (h.R t 55) fun a3 =>
    gd (h.kd a3 == 2) (gd (rcO 76 [vR (h.R a3 34)] h) (cI (cal E d 268 [vR (h.R a3 34)] h) th fun v4 h =>
    gd (h.kd t == 5) (nn (h.R t 55) fun a5 =>
    gd (h.kd a5 == 2) (if x4_ = 0 then rn E d 233 177 [some (vR (some t)), some (vR r1_), some (vI x2_), some (vI x3_), some (vI x4_), some (vI v1), some (vI v2), some (vI v4)] [vR (h.R a5 34)] h else
    gd (decide (h.nx + 1 ≤ E.lc) && decide (h.us + 6 ≤ E.lu)) (hs h.nx fun n6 => hs (h.R a5 34) fun q7 =>
    hs (h.mk 9 0 6) fun h =>
    cV (cal E d 240 [vR (some n6), vR r1_, vI v4, vI x2_, vI x3_, vI v1, vI v2] h) th fun h =>
    rn E d 233 193 [some (vR (some t)), some (vR r1_), some (vI x2_), some (vI x3_), some (vI x4_), some (vI v1), some (vI v2), some (vI v4)] [vR (some n6), vR q7] h))))))))))) := rn_b (b := b233_99) rfl
theorem e233_177 (E : EV) (d : Nat) (t : Nat) (r1_ : Option Nat) (x2_ : Int32) (x3_ : Int32) (x4_ : Int32) (x5_ : Int32) (x6_ : Int32) (x7_ : Int32) (s0_ : Option Nat) (h : AH) : rn E d 233 177 [some (vR (some t)), some (vR r1_), some (vI x2_), some (vI x3_), some (vI x4_), some (vI x5_), some (vI x6_), some (vI x7_)] [vR s0_] h =
    gd (decide (h.nx + 1 ≤ E.lc) && decide (h.us + 6 ≤ E.lu)) (hs h.nx fun n1 => hs (h.mk 10 0 6) fun h =>
    cV (cal E d 242 [vR (some n1), vR r1_, vI x7_, vI x2_, vI x3_, vI x5_, vI x6_] h) th fun h =>
    rn E d 233 193 [some (vR (some t)), some (vR r1_), some (vI x2_), some (vI x3_), some (vI x4_), some (vI x5_), some (vI x6_), some (vI x7_)] [vR (some n1), vR s0_] h) := rn_b (b := b233_177) rfl
theorem e233_193 (E : EV) (d : Nat) (t : Nat) (r1_ : Option Nat) (x2_ : Int32) (x3_ : Int32) (x4_ : Int32) (x5_ : Int32) (x6_ : Int32) (x7_ : Int32) (s0_ : Option Nat) (s1_ : Option Nat) (h : AH) : rn E d 233 193 [some (vR (some t)), some (vR r1_), some (vI x2_), some (vI x3_), some (vI x4_), some (vI x5_), some (vI x6_), some (vI x7_)] [vR s1_, vR s0_] h =
    gd (rcO 129 [vR s0_, vR s1_] h) (cI (cal E d 260 [vR s0_, vR s1_] h) th fun v1 h =>
    some (Sum.inl none, h)) := rn_b (b := b233_193) rfl
/-! 234 FastPlane$MachineReader.row()V -/
theorem c234 (E : EV) (d : Nat) (t : Nat) (h : AH) : cal E (d + 1) 234 [vR (some t)] h = rn E d 234 0 [some (vR (some t)), none, none, none] [] h := cal_rn rfl rfl
theorem e234_0 (E : EV) (d : Nat) (t : Nat) (o1_ : Option AV) (o2_ : Option AV) (o3_ : Option AV) (h : AH) : rn E d 234 0 [some (vR (some t)), o1_, o2_, o3_] [] h =
    gd (h.kd t == 5) (cV (cal E d 227 [vR (some t)] h) th fun h =>
    gd (h.kd t == 5) (cI (cal E d 228 [vR (some t), vI 0, vI 7] h) th fun v1 h =>
    gd (h.kd t == 5) (nn (h.R t 55) fun a2 =>
    gd (h.kd a2 == 2) (nn (h.R a2 40) fun a3 =>
    gd ((h.kd a3 == 102 || h.kd a3 == 103) && inb v1 (h.ln a3)) (if (h.I a3 v1.toNatClampNeg) = 0 then rn E d 234 37 [some (vR (some t)), some (vI v1), o2_, o3_] [] h else
    gd (decide (h.nx + 1 ≤ E.lc) && decide (h.us + 8 ≤ E.lu)) (hs h.nx fun n4 => hs (h.mk 8 0 8) fun h =>
    gd (h.kd t == 5 || h.kd t == 12) (cV (cal E d 237 [vR (some n4), vI 3, vI (h.I t 52)] h) th fun h =>
    th n4 h))))))) := rn_b (b := b234_0) rfl
theorem e234_37 (E : EV) (d : Nat) (t : Nat) (x1_ : Int32) (o2_ : Option AV) (o3_ : Option AV) (h : AH) : rn E d 234 37 [some (vR (some t)), some (vI x1_), o2_, o3_] [] h =
    gd (h.kd t == 5 || h.kd t == 12) (if (h.I t 49) = 1 then rn E d 234 50 [some (vR (some t)), some (vI x1_), o2_, o3_] [] h else
    gd (h.kd t == 5) (cR (cal E d 229 [vR (some t)] h) th fun r1 h =>
    nn r1 fun a2 =>
    th a2 h)) := rn_b (b := b234_37) rfl
theorem e234_50 (E : EV) (d : Nat) (t : Nat) (x1_ : Int32) (o2_ : Option AV) (o3_ : Option AV) (h : AH) : rn E d 234 50 [some (vR (some t)), some (vI x1_), o2_, o3_] [] h =
    gd (h.kd t == 5 || h.kd t == 12) (gd (rcO 257 [vR (h.R t 53)] h) (cI (cal E d 289 [vR (h.R t 53)] h) th fun v1 h =>
    if v1 = 8 then
    rn E d 234 67 [some (vR (some t)), some (vI x1_), o2_, o3_] [vI 1] h
    else rn E d 234 66 [some (vR (some t)), some (vI x1_), o2_, o3_] [] h)) := rn_b (b := b234_50) rfl
theorem e234_66 (E : EV) (d : Nat) (t : Nat) (x1_ : Int32) (o2_ : Option AV) (o3_ : Option AV) (h : AH) : rn E d 234 66 [some (vR (some t)), some (vI x1_), o2_, o3_] [] h =
    rn E d 234 67 [some (vR (some t)), some (vI x1_), o2_, o3_] [vI 0] h := rn_b (b := b234_66) rfl
theorem e234_67 (E : EV) (d : Nat) (t : Nat) (x1_ : Int32) (o2_ : Option AV) (o3_ : Option AV) (s0_ : Int32) (h : AH) : rn E d 234 67 [some (vR (some t)), some (vI x1_), o2_, o3_] [vI s0_] h =
    rn E d 234 70 [some (vR (some t)), some (vI x1_), some (vI s0_), some (vI 0)] [] h := rn_b (b := b234_67) rfl
theorem e234_70 (E : EV) (d : Nat) (t : Nat) (x1_ : Int32) (x2_ : Int32) (x3_ : Int32) (h : AH) : rn E d 234 70 [some (vR (some t)), some (vI x1_), some (vI x2_), some (vI x3_)] [] h =
    gd (h.kd t == 5 || h.kd t == 12) (gd (rcO 257 [vR (h.R t 53)] h) (cI (cal E d 289 [vR (h.R t 53)] h) th fun v1 h =>
    if v1 ≤ x3_ then rn E d 234 110 [some (vR (some t)), some (vI x1_), some (vI x2_), some (vI x3_)] [] h else
    if x2_ = 0 then rn E d 234 110 [some (vR (some t)), some (vI x1_), some (vI x2_), some (vI x3_)] [] h else
    gd (h.kd t == 5 || h.kd t == 12) (gd (rcO 258 [vR (h.R t 53), vI x3_] h) (cI (cal E d 279 [vR (h.R t 53), vI x3_] h) th fun v2 h =>
    if 104 < v2 then rn E d 234 102 [some (vR (some t)), some (vI x1_), some (vI x2_), some (vI x3_)] [] h else
    rn E d 234 103 [some (vR (some t)), some (vI x1_), some (vI x2_), some (vI x3_)] [vI 1] h)))) := rn_b (b := b234_70) rfl
theorem e234_102 (E : EV) (d : Nat) (t : Nat) (x1_ : Int32) (x2_ : Int32) (x3_ : Int32) (h : AH) : rn E d 234 102 [some (vR (some t)), some (vI x1_), some (vI x2_), some (vI x3_)] [] h =
    rn E d 234 103 [some (vR (some t)), some (vI x1_), some (vI x2_), some (vI x3_)] [vI 0] h := rn_b (b := b234_102) rfl
theorem e234_103 (E : EV) (d : Nat) (t : Nat) (x1_ : Int32) (x2_ : Int32) (x3_ : Int32) (s0_ : Int32) (h : AH) : rn E d 234 103 [some (vR (some t)), some (vI x1_), some (vI x2_), some (vI x3_)] [vI s0_] h =
    hs (x3_ + 1) fun x1 =>
    rn E d 234 70 [some (vR (some t)), some (vI x1_), some (vI s0_), some (vI x1)] [] h := rn_b (b := b234_103) rfl
theorem e234_110 (E : EV) (d : Nat) (t : Nat) (x1_ : Int32) (x2_ : Int32) (x3_ : Int32) (h : AH) : rn E d 234 110 [some (vR (some t)), some (vI x1_), some (vI x2_), some (vI x3_)] [] h =
    if x2_ = 0 then
    gd (decide (h.nx + 1 ≤ E.lc) && decide (h.us + 8 ≤ E.lu)) (hs h.nx fun n1 => hs (h.mk 8 0 8) fun h =>
    gd (h.kd t == 5 || h.kd t == 12) (cV (cal E d 237 [vR (some n1), vI 4, vI (h.I t 50)] h) th fun h =>
    th n1 h))
    else rn E d 234 127 [some (vR (some t)), some (vI x1_), some (vI x2_), some (vI x3_)] [] h := rn_b (b := b234_110) rfl
theorem e234_127 (E : EV) (d : Nat) (t : Nat) (x1_ : Int32) (x2_ : Int32) (x3_ : Int32) (h : AH) : rn E d 234 127 [some (vR (some t)), some (vI x1_), some (vI x2_), some (vI x3_)] [] h =
    rn E d 234 129 [some (vR (some t)), some (vI x1_), some (vI x2_), some (vI 0)] [] h := rn_b (b := b234_127) rfl
theorem e234_129 (E : EV) (d : Nat) (t : Nat) (x1_ : Int32) (x2_ : Int32) (x3_ : Int32) (h : AH) : rn E d 234 129 [some (vR (some t)), some (vI x1_), some (vI x2_), some (vI x3_)] [] h =
    if 8 ≤ x3_ then rn E d 234 166 [some (vR (some t)), some (vI x1_), some (vI x2_), some (vI x3_)] [] h else
    gd (h.kd t == 5) (nn (h.R t 55) fun a1 =>
    gd (h.kd a1 == 2) (gd (h.kd t == 5 || h.kd t == 12) (gd (rcO 258 [vR (h.R t 53), vI x3_] h) (hs (h.R a1 39) fun q3 =>
    cI (cal E d 279 [vR (h.R t 53), vI x3_] h) th fun v2 h =>
    nn q3 fun a4 =>
    gd (h.kd a4 == 101 && inb ((8 * x1_) + x3_) (h.ln a4) && decide (E.bs ≤ a4)) (hs (h.setI a4 ((8 * x1_) + x3_).toNatClampNeg (v2 - 97)) fun h =>
    hs (x3_ + 1) fun x5 =>
    rn E d 234 129 [some (vR (some t)), some (vI x1_), some (vI x2_), some (vI x5)] [] h))))) := rn_b (b := b234_129) rfl
theorem e234_166 (E : EV) (d : Nat) (t : Nat) (x1_ : Int32) (x2_ : Int32) (x3_ : Int32) (h : AH) : rn E d 234 166 [some (vR (some t)), some (vI x1_), some (vI x2_), some (vI x3_)] [] h =
    gd (h.kd t == 5) (nn (h.R t 55) fun a1 =>
    gd (h.kd a1 == 2) (nn (h.R a1 40) fun a2 =>
    gd ((h.kd a2 == 102 || h.kd a2 == 103) && inb x1_ (h.ln a2) && decide (E.bs ≤ a2)) (hs (h.setI a2 x1_.toNatClampNeg (if h.kd a2 = 102 then (1 : Int32).toInt8.toInt32 else (1 : Int32) &&& 1)) fun h =>
    gd (h.kd t == 5) (cV (cal E d 227 [vR (some t)] h) th fun h =>
    some (Sum.inl none, h))))) := rn_b (b := b234_166) rfl
/-! 235 FastPlane$MachineReader.tank()V -/
theorem c235 (E : EV) (d : Nat) (t : Nat) (h : AH) : cal E (d + 1) 235 [vR (some t)] h = rn E d 235 0 [some (vR (some t))] [] h := cal_rn rfl rfl
theorem e235_0 (E : EV) (d : Nat) (t : Nat) (h : AH) : rn E d 235 0 [some (vR (some t))] [] h =
    gd (h.kd t == 5) (cV (cal E d 227 [vR (some t)] h) th fun h =>
    gd (h.kd t == 5) (cV (cal E d 223 [vR (some t), vR (some (E.sa 25))] h) th fun h =>
    gd (h.kd t == 5) (nn (h.R t 55) fun a1 =>
    gd (h.kd a1 == 2) (gd (h.kd t == 5) (nn (h.R t 55) fun a2 =>
    gd (h.kd a2 == 2) (gd (h.kd t == 5) (hs (h.R a1 37) fun q4 =>
    hs (h.I a2 41) fun y5 =>
    cI (cal E d 228 [vR (some t), vI 0, vI 99] h) th fun v3 h =>
    nn q4 fun a6 =>
    gd (h.kd a6 == 101 && inb y5 (h.ln a6) && decide (E.bs ≤ a6)) (hs (h.setI a6 y5.toNatClampNeg v3) fun h =>
    gd (h.kd t == 5) (cV (cal E d 223 [vR (some t), vR (some (E.sa 26))] h) th fun h =>
    gd (h.kd t == 5) (nn (h.R t 55) fun a7 =>
    gd (h.kd a7 == 2) (gd (h.kd t == 5) (nn (h.R t 55) fun a8 =>
    gd (h.kd a8 == 2) (gd (h.kd t == 5) (hs (h.R a7 38) fun q10 =>
    hs (h.I a8 41) fun y11 =>
    cI (cal E d 228 [vR (some t), vI 1, vI 15] h) th fun v9 h =>
    nn q10 fun a12 =>
    gd (h.kd a12 == 101 && inb y11 (h.ln a12) && decide (E.bs ≤ a12)) (hs (h.setI a12 y11.toNatClampNeg v9) fun h =>
    gd (h.kd t == 5) (nn (h.R t 55) fun a13 =>
    gd (h.kd a13 == 2) (nn (h.R t 55) fun a14 =>
    gd ((h.kd a14 == 2) && decide (E.bs ≤ a14) && true) (hs (h.setI a14 41 ((h.I a13 41) + 1)) fun h =>
    some (Sum.inl none, h))))))))))))))))))) := rn_b (b := b235_0) rfl
/-! 236 FastPlane$MachineReader.text()LFastPlane$Machine; -/
theorem c236 (E : EV) (d : Nat) (t : Nat) (h : AH) : cal E (d + 1) 236 [vR (some t)] h = rn E d 236 0 [some (vR (some t))] [] h := cal_rn rfl rfl
theorem e236_0 (E : EV) (d : Nat) (t : Nat) (h : AH) : rn E d 236 0 [some (vR (some t))] [] h =
    gd (h.kd t == 5) (cV (cal E d 227 [vR (some t)] h) th fun h =>
    rn E d 236 4 [some (vR (some t))] [] h) := rn_b (b := b236_0) rfl
theorem e236_4 (E : EV) (d : Nat) (t : Nat) (h : AH) : rn E d 236 4 [some (vR (some t))] [] h =
    gd (h.kd t == 5 || h.kd t == 12) (if (h.I t 49) = 0 then rn E d 236 196 [some (vR (some t))] [] h else
    gd (h.kd t == 5) (cI (cal E d 222 [vR (some t), vR (some (E.sa 2))] h) th fun v1 h =>
    if v1 = 0 then rn E d 236 42 [some (vR (some t))] [] h else
    gd (h.kd t == 5) (nn (h.R t 55) fun a2 =>
    gd (h.kd a2 == 2) (gd (rcO 76 [vR (h.R a2 34)] h) (cI (cal E d 268 [vR (h.R a2 34)] h) th fun v3 h =>
    if 12 ≤ v3 then rn E d 236 42 [some (vR (some t))] [] h else
    gd (h.kd t == 5) (cV (cal E d 233 [vR (some t)] h) th fun h =>
    rn E d 236 174 [some (vR (some t))] [] h)))))) := rn_b (b := b236_4) rfl
theorem e236_42 (E : EV) (d : Nat) (t : Nat) (h : AH) : rn E d 236 42 [some (vR (some t))] [] h =
    gd (h.kd t == 5) (cI (cal E d 222 [vR (some t), vR (some (E.sa 20))] h) th fun v1 h =>
    if v1 = 0 then rn E d 236 84 [some (vR (some t))] [] h else
    gd (h.kd t == 5) (nn (h.R t 55) fun a2 =>
    gd (h.kd a2 == 2) (gd (rcO 76 [vR (h.R a2 35)] h) (cI (cal E d 268 [vR (h.R a2 35)] h) th fun v3 h =>
    if 16 ≤ v3 then rn E d 236 84 [some (vR (some t))] [] h else
    gd (h.kd t == 5) (nn (h.R t 55) fun a4 =>
    gd (h.kd a4 == 2) (gd (h.kd t == 5) (cV (cal E d 231 [vR (some t), vR (h.R a4 35), vR (some (E.sa 21)), vI 99] h) th fun h =>
    rn E d 236 174 [some (vR (some t))] [] h))))))) := rn_b (b := b236_42) rfl
theorem e236_84 (E : EV) (d : Nat) (t : Nat) (h : AH) : rn E d 236 84 [some (vR (some t))] [] h =
    gd (h.kd t == 5) (cI (cal E d 222 [vR (some t), vR (some (E.sa 22))] h) th fun v1 h =>
    if v1 = 0 then rn E d 236 126 [some (vR (some t))] [] h else
    gd (h.kd t == 5) (nn (h.R t 55) fun a2 =>
    gd (h.kd a2 == 2) (gd (rcO 76 [vR (h.R a2 36)] h) (cI (cal E d 268 [vR (h.R a2 36)] h) th fun v3 h =>
    if 16 ≤ v3 then rn E d 236 126 [some (vR (some t))] [] h else
    gd (h.kd t == 5) (nn (h.R t 55) fun a4 =>
    gd (h.kd a4 == 2) (gd (h.kd t == 5) (cV (cal E d 231 [vR (some t), vR (h.R a4 36), vR (some (E.sa 23)), vI 24] h) th fun h =>
    rn E d 236 174 [some (vR (some t))] [] h))))))) := rn_b (b := b236_84) rfl
theorem e236_126 (E : EV) (d : Nat) (t : Nat) (h : AH) : rn E d 236 126 [some (vR (some t))] [] h =
    gd (h.kd t == 5) (cI (cal E d 222 [vR (some t), vR (some (E.sa 24))] h) th fun v1 h =>
    if v1 = 0 then rn E d 236 153 [some (vR (some t))] [] h else
    gd (h.kd t == 5) (nn (h.R t 55) fun a2 =>
    gd (h.kd a2 == 2) (if 3 ≤ (h.I a2 41) then rn E d 236 153 [some (vR (some t))] [] h else
    gd (h.kd t == 5) (cV (cal E d 235 [vR (some t)] h) th fun h =>
    rn E d 236 174 [some (vR (some t))] [] h)))) := rn_b (b := b236_126) rfl
theorem e236_153 (E : EV) (d : Nat) (t : Nat) (h : AH) : rn E d 236 153 [some (vR (some t))] [] h =
    gd (h.kd t == 5) (cI (cal E d 222 [vR (some t), vR (some (E.sa 27))] h) th fun v1 h =>
    if v1 = 0 then rn E d 236 169 [some (vR (some t))] [] h else
    gd (h.kd t == 5) (cV (cal E d 234 [vR (some t)] h) th fun h =>
    rn E d 236 174 [some (vR (some t))] [] h)) := rn_b (b := b236_153) rfl
theorem e236_169 (E : EV) (d : Nat) (t : Nat) (h : AH) : rn E d 236 169 [some (vR (some t))] [] h =
    gd (h.kd t == 5) (cR (cal E d 229 [vR (some t)] h) th fun r1 h =>
    nn r1 fun a2 =>
    th a2 h) := rn_b (b := b236_169) rfl
theorem e236_174 (E : EV) (d : Nat) (t : Nat) (h : AH) : rn E d 236 174 [some (vR (some t))] [] h =
    gd (h.kd t == 5) (cV (cal E d 226 [vR (some t), vI 59] h) th fun h =>
    gd (h.kd t == 5) (nn (h.R t 55) fun a1 =>
    gd (h.kd a1 == 2) (nn (h.R t 55) fun a2 =>
    gd ((h.kd a2 == 2) && decide (E.bs ≤ a2) && true) (hs (h.setI a2 42 ((h.I a1 42) + 1)) fun h =>
    rn E d 236 4 [some (vR (some t))] [] h)))) := rn_b (b := b236_174) rfl
theorem e236_196 (E : EV) (d : Nat) (t : Nat) (h : AH) : rn E d 236 196 [some (vR (some t))] [] h =
    gd (h.kd t == 5) (some (Sum.inl (some (vR (h.R t 55))), h)) := rn_b (b := b236_196) rfl
/-! 237 FastPlane$Wrong.<init>(II)V -/
theorem c237 (E : EV) (d : Nat) (t : Nat) (x1_ : Int32) (x2_ : Int32) (h : AH) : cal E (d + 1) 237 [vR (some t), vI x1_, vI x2_] h = rn E d 237 0 [some (vR (some t)), some (vI x1_), some (vI x2_)] [] h := cal_rn rfl rfl
theorem e237_0 (E : EV) (d : Nat) (t : Nat) (x1_ : Int32) (x2_ : Int32) (h : AH) : rn E d 237 0 [some (vR (some t)), some (vI x1_), some (vI x2_)] [] h =
    cV (cal E d 255 [vR (some t), vR none, vR none, vI 0, vI 0] h) th fun h =>
    gd ((h.kd t == 8) && decide (E.bs ≤ t) && true) (hs (h.setI t 71 x1_) fun h =>
    gd ((h.kd t == 8) && decide (E.bs ≤ t) && true) (hs (h.setI t 72 x2_) fun h =>
    some (Sum.inl none, h))) := rn_b (b := b237_0) rfl
/-! 238 FastPlane$Part.at(I)I -/
theorem c238 (E : EV) (d : Nat) (t : Nat) (x1_ : Int32) (h : AH) : cal E (d + 1) 238 [vR (some t), vI x1_] h = rn E d 238 0 [some (vR (some t)), some (vI x1_), none, none] [] h := cal_rn rfl rfl
theorem e238_0 (E : EV) (d : Nat) (t : Nat) (x1_ : Int32) (o2_ : Option AV) (o3_ : Option AV) (h : AH) : rn E d 238 0 [some (vR (some t)), some (vI x1_), o2_, o3_] [] h =
    gd (h.kd t == 9 || h.kd t == 10) (cI (cal E d (if h.kd t = 9 then vt0_9 else vt0_10) [vR (some t)] h) th fun v1 h =>
    hs v1.toInt64 fun l2 =>
    gd (h.kd t == 9 || h.kd t == 10) (gd (!decide ((100000 : Int64) = 0)) (some (Sum.inl (some (vI ((l2 + ((((l2 * ((h.I t 77).toInt64)) * x1_.toInt64) * x1_.toInt64) / 100000)).toInt32))), h)))) := rn_b (b := b238_0) rfl
/-! 239 FastPlane$Part.<init>(Ljava/lang/String;IIIII)V -/
theorem c239 (E : EV) (d : Nat) (t : Nat) (x1_ : Option Nat) (x2_ : Int32) (x3_ : Int32) (x4_ : Int32) (x5_ : Int32) (x6_ : Int32) (h : AH) : cal E (d + 1) 239 [vR (some t), vR x1_, vI x2_, vI x3_, vI x4_, vI x5_, vI x6_] h = rn E d 239 0 [some (vR (some t)), some (vR x1_), some (vI x2_), some (vI x3_), some (vI x4_), some (vI x5_), some (vI x6_)] [] h := cal_rn rfl rfl
theorem e239_0 (E : EV) (d : Nat) (t : Nat) (r1_ : Option Nat) (x2_ : Int32) (x3_ : Int32) (x4_ : Int32) (x5_ : Int32) (x6_ : Int32) (h : AH) : rn E d 239 0 [some (vR (some t)), some (vR r1_), some (vI x2_), some (vI x3_), some (vI x4_), some (vI x5_), some (vI x6_)] [] h =
    gd ((h.kd t == 9 || h.kd t == 10) && decide (E.bs ≤ t)) (hs (h.setR t 73 r1_) fun h =>
    gd ((h.kd t == 9 || h.kd t == 10) && decide (E.bs ≤ t) && true) (hs (h.setI t 74 x2_) fun h =>
    gd ((h.kd t == 9 || h.kd t == 10) && decide (E.bs ≤ t) && true) (hs (h.setI t 75 x3_) fun h =>
    gd ((h.kd t == 9 || h.kd t == 10) && decide (E.bs ≤ t) && true) (hs (h.setI t 76 x4_) fun h =>
    gd ((h.kd t == 9 || h.kd t == 10) && decide (E.bs ≤ t) && true) (hs (h.setI t 77 x5_) fun h =>
    gd ((h.kd t == 9 || h.kd t == 10) && decide (E.bs ≤ t) && true) (hs (h.setI t 78 x6_) fun h =>
    some (Sum.inl none, h))))))) := rn_b (b := b239_0) rfl
/-! 240 FastPlane$Imperial.<init>(Ljava/lang/String;IIIII)V -/
theorem c240 (E : EV) (d : Nat) (t : Nat) (x1_ : Option Nat) (x2_ : Int32) (x3_ : Int32) (x4_ : Int32) (x5_ : Int32) (x6_ : Int32) (h : AH) : cal E (d + 1) 240 [vR (some t), vR x1_, vI x2_, vI x3_, vI x4_, vI x5_, vI x6_] h = rn E d 240 0 [some (vR (some t)), some (vR x1_), some (vI x2_), some (vI x3_), some (vI x4_), some (vI x5_), some (vI x6_)] [] h := cal_rn rfl rfl
theorem e240_0 (E : EV) (d : Nat) (t : Nat) (r1_ : Option Nat) (x2_ : Int32) (x3_ : Int32) (x4_ : Int32) (x5_ : Int32) (x6_ : Int32) (h : AH) : rn E d 240 0 [some (vR (some t)), some (vR r1_), some (vI x2_), some (vI x3_), some (vI x4_), some (vI x5_), some (vI x6_)] [] h =
    cV (cal E d 239 [vR (some t), vR r1_, vI x2_, vI x3_, vI x4_, vI x5_, vI x6_] h) th fun h =>
    some (Sum.inl none, h) := rn_b (b := b240_0) rfl
/-! 241 FastPlane$Imperial.millimetres()I -/
theorem c241 (E : EV) (d : Nat) (t : Nat) (h : AH) : cal E (d + 1) 241 [vR (some t)] h = rn E d 241 0 [some (vR (some t))] [] h := cal_rn rfl rfl
theorem e241_0 (E : EV) (d : Nat) (t : Nat) (h : AH) : rn E d 241 0 [some (vR (some t))] [] h =
    gd (h.kd t == 9 || h.kd t == 10) (gd (!decide ((10 : Int32) = 0)) (some (Sum.inl (some (vI (((h.I t 76) * 254) / 10))), h))) := rn_b (b := b241_0) rfl
/-! 242 FastPlane$Metric.<init>(Ljava/lang/String;IIIII)V -/
theorem c242 (E : EV) (d : Nat) (t : Nat) (x1_ : Option Nat) (x2_ : Int32) (x3_ : Int32) (x4_ : Int32) (x5_ : Int32) (x6_ : Int32) (h : AH) : cal E (d + 1) 242 [vR (some t), vR x1_, vI x2_, vI x3_, vI x4_, vI x5_, vI x6_] h = rn E d 242 0 [some (vR (some t)), some (vR x1_), some (vI x2_), some (vI x3_), some (vI x4_), some (vI x5_), some (vI x6_)] [] h := cal_rn rfl rfl
theorem e242_0 (E : EV) (d : Nat) (t : Nat) (r1_ : Option Nat) (x2_ : Int32) (x3_ : Int32) (x4_ : Int32) (x5_ : Int32) (x6_ : Int32) (h : AH) : rn E d 242 0 [some (vR (some t)), some (vR r1_), some (vI x2_), some (vI x3_), some (vI x4_), some (vI x5_), some (vI x6_)] [] h =
    cV (cal E d 239 [vR (some t), vR r1_, vI x2_, vI x3_, vI x4_, vI x5_, vI x6_] h) th fun h =>
    some (Sum.inl none, h) := rn_b (b := b242_0) rfl
/-! 243 FastPlane$Metric.millimetres()I -/
theorem c243 (E : EV) (d : Nat) (t : Nat) (h : AH) : cal E (d + 1) 243 [vR (some t)] h = rn E d 243 0 [some (vR (some t))] [] h := cal_rn rfl rfl
theorem e243_0 (E : EV) (d : Nat) (t : Nat) (h : AH) : rn E d 243 0 [some (vR (some t))] [] h =
    gd (h.kd t == 9 || h.kd t == 10) (some (Sum.inl (some (vI ((h.I t 76) * 10))), h)) := rn_b (b := b243_0) rfl
