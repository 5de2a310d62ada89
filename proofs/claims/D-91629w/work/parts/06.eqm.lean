/-! block equations, by alleqs.py out of the tables -/
set_option maxRecDepth 100000
/-! 107 FastPlaneModel.about(I)I -/
theorem c107 (E : EV) (d : Nat) (t : Nat) (x1_ : Int32) (h : AH) : cal E (d + 1) 107 [vR (some t), vI x1_] h = rn E d 107 0 [some (vR (some t)), some (vI x1_)] [] h := cal_rn rfl rfl
theorem e107_0 (E : EV) (d : Nat) (t : Nat) (x1_ : Int32) (h : AH) : rn E d 107 0 [some (vR (some t)), some (vI x1_)] [] h =
    if x1_ = 0 then rn E d 107 56 [some (vR (some t)), some (vI x1_)] [] h else
    if x1_ = 1 then rn E d 107 61 [some (vR (some t)), some (vI x1_)] [] h else
    if x1_ = 2 then rn E d 107 66 [some (vR (some t)), some (vI x1_)] [] h else
    if x1_ = 3 then rn E d 107 76 [some (vR (some t)), some (vI x1_)] [] h else
    if x1_ = 4 then rn E d 107 81 [some (vR (some t)), some (vI x1_)] [] h else
    if x1_ = 5 then rn E d 107 86 [some (vR (some t)), some (vI x1_)] [] h else
    if x1_ = 6 then rn E d 107 91 [some (vR (some t)), some (vI x1_)] [] h else
    if x1_ = 7 then rn E d 107 96 [some (vR (some t)), some (vI x1_)] [] h else
    if x1_ = 8 then rn E d 107 101 [some (vR (some t)), some (vI x1_)] [] h else
    if x1_ = 9 then rn E d 107 106 [some (vR (some t)), some (vI x1_)] [] h else
    rn E d 107 111 [some (vR (some t)), some (vI x1_)] [] h := rn_b (b := b107_0) rfl
theorem e107_56 (E : EV) (d : Nat) (t : Nat) (x1_ : Int32) (h : AH) : rn E d 107 56 [some (vR (some t)), some (vI x1_)] [] h =
    gd (h.kd t == 23) (cI (cal E d 176 [vR (some t)] h) th fun v1 h =>
    some (Sum.inl (some (vI v1)), h)) := rn_b (b := b107_56) rfl
theorem e107_61 (E : EV) (d : Nat) (t : Nat) (x1_ : Int32) (h : AH) : rn E d 107 61 [some (vR (some t)), some (vI x1_)] [] h =
    gd (h.kd t == 23) (cI (cal E d 154 [vR (some t)] h) th fun v1 h =>
    some (Sum.inl (some (vI v1)), h)) := rn_b (b := b107_61) rfl
theorem e107_66 (E : EV) (d : Nat) (t : Nat) (x1_ : Int32) (h : AH) : rn E d 107 66 [some (vR (some t)), some (vI x1_)] [] h =
    gd (h.kd t == 23) (gd (h.kd t == 23) (nn (h.R t 118) fun a1 =>
    gd (h.kd a1 == 101 && inb (h.I t 135) (h.ln a1)) (some (Sum.inl (some (vI (h.I a1 (h.I t 135).toNatClampNeg))), h)))) := rn_b (b := b107_66) rfl
theorem e107_76 (E : EV) (d : Nat) (t : Nat) (x1_ : Int32) (h : AH) : rn E d 107 76 [some (vR (some t)), some (vI x1_)] [] h =
    gd (h.kd t == 23) (cI (cal E d 204 [vR (some t)] h) th fun v1 h =>
    some (Sum.inl (some (vI v1)), h)) := rn_b (b := b107_76) rfl
theorem e107_81 (E : EV) (d : Nat) (t : Nat) (x1_ : Int32) (h : AH) : rn E d 107 81 [some (vR (some t)), some (vI x1_)] [] h =
    gd (h.kd t == 23) (some (Sum.inl (some (vI (h.I t 171))), h)) := rn_b (b := b107_81) rfl
theorem e107_86 (E : EV) (d : Nat) (t : Nat) (x1_ : Int32) (h : AH) : rn E d 107 86 [some (vR (some t)), some (vI x1_)] [] h =
    gd (h.kd t == 23) (some (Sum.inl (some (vI (h.I t 177))), h)) := rn_b (b := b107_86) rfl
theorem e107_91 (E : EV) (d : Nat) (t : Nat) (x1_ : Int32) (h : AH) : rn E d 107 91 [some (vR (some t)), some (vI x1_)] [] h =
    gd (h.kd t == 23) (some (Sum.inl (some (vI (h.I t 185))), h)) := rn_b (b := b107_91) rfl
theorem e107_96 (E : EV) (d : Nat) (t : Nat) (x1_ : Int32) (h : AH) : rn E d 107 96 [some (vR (some t)), some (vI x1_)] [] h =
    gd (h.kd t == 23) (some (Sum.inl (some (vI (h.I t 172))), h)) := rn_b (b := b107_96) rfl
theorem e107_101 (E : EV) (d : Nat) (t : Nat) (x1_ : Int32) (h : AH) : rn E d 107 101 [some (vR (some t)), some (vI x1_)] [] h =
    gd (h.kd t == 23) (some (Sum.inl (some (vI (h.I t 106))), h)) := rn_b (b := b107_101) rfl
theorem e107_106 (E : EV) (d : Nat) (t : Nat) (x1_ : Int32) (h : AH) : rn E d 107 106 [some (vR (some t)), some (vI x1_)] [] h =
    gd (h.kd t == 23) (some (Sum.inl (some (vI (h.I t 195))), h)) := rn_b (b := b107_106) rfl
theorem e107_111 (E : EV) (d : Nat) (t : Nat) (x1_ : Int32) (h : AH) : rn E d 107 111 [some (vR (some t)), some (vI x1_)] [] h =
    if x1_ < 10 then rn E d 107 135 [some (vR (some t)), some (vI x1_)] [] h else
    if 13 ≤ x1_ then rn E d 107 135 [some (vR (some t)), some (vI x1_)] [] h else
    gd (h.kd t == 23) (nn (h.R t 140) fun a1 =>
    gd (h.kd a1 == 101 && inb (x1_ - 10) (h.ln a1)) (rn E d 107 136 [some (vR (some t)), some (vI x1_)] [vI (h.I a1 (x1_ - 10).toNatClampNeg)] h)) := rn_b (b := b107_111) rfl
theorem e107_135 (E : EV) (d : Nat) (t : Nat) (x1_ : Int32) (h : AH) : rn E d 107 135 [some (vR (some t)), some (vI x1_)] [] h =
    rn E d 107 136 [some (vR (some t)), some (vI x1_)] [vI (-1)] h := rn_b (b := b107_135) rfl
theorem e107_136 (E : EV) (d : Nat) (t : Nat) (x1_ : Int32) (s0_ : Int32) (h : AH) : rn E d 107 136 [some (vR (some t)), some (vI x1_)] [vI s0_] h =
    some (Sum.inl (some (vI s0_)), h) := rn_b (b := b107_136) rfl
/-! 108 FastPlaneModel.airline(II)I -/
theorem c108 (E : EV) (d : Nat) (t : Nat) (x1_ : Int32) (x2_ : Int32) (h : AH) : cal E (d + 1) 108 [vR (some t), vI x1_, vI x2_] h = rn E d 108 0 [some (vR (some t)), some (vI x1_), some (vI x2_)] [] h := cal_rn rfl rfl
theorem e108_0 (E : EV) (d : Nat) (t : Nat) (x1_ : Int32) (x2_ : Int32) (h : AH) : rn E d 108 0 [some (vR (some t)), some (vI x1_), some (vI x2_)] [] h =
    cI (cal E d 144 [vI x1_, vI 0, vI 999] h) th fun v1 h =>
    if v1 = 0 then rn E d 108 27 [some (vR (some t)), some (vI x1_), some (vI x2_)] [] h else
    cI (cal E d 148 [vI x2_] h) th fun v2 h =>
    if v2 = 0 then rn E d 108 27 [some (vR (some t)), some (vI x1_), some (vI x2_)] [] h else
    gd (h.kd t == 23) (if (h.I t 185) = 10 then
    rn E d 108 27 [some (vR (some t)), some (vI x1_), some (vI x2_)] [] h
    else rn E d 108 29 [some (vR (some t)), some (vI x1_), some (vI x2_)] [] h) := rn_b (b := b108_0) rfl
theorem e108_27 (E : EV) (d : Nat) (t : Nat) (x1_ : Int32) (x2_ : Int32) (h : AH) : rn E d 108 27 [some (vR (some t)), some (vI x1_), some (vI x2_)] [] h =
    some (Sum.inl (some (vI (-1))), h) := rn_b (b := b108_27) rfl
theorem e108_29 (E : EV) (d : Nat) (t : Nat) (x1_ : Int32) (x2_ : Int32) (h : AH) : rn E d 108 29 [some (vR (some t)), some (vI x1_), some (vI x2_)] [] h =
    gd (h.kd t == 23) (gd (h.kd t == 23) (nn (h.R t 182) fun a1 =>
    gd (h.kd a1 == 101 && inb (h.I t 185) (h.ln a1) && decide (E.bs ≤ a1)) (hs (h.setI a1 (h.I t 185).toNatClampNeg x1_) fun h =>
    gd (h.kd t == 23) (gd (h.kd t == 23) (nn (h.R t 183) fun a2 =>
    gd (h.kd a2 == 101 && inb (h.I t 185) (h.ln a2) && decide (E.bs ≤ a2)) (hs (h.setI a2 (h.I t 185).toNatClampNeg x2_) fun h =>
    gd (h.kd t == 23) (gd ((h.kd t == 23) && decide (E.bs ≤ t) && true) (hs (h.setI t 185 ((h.I t 185) + 1)) fun h =>
    gd (h.kd t == 23) (some (Sum.inl (some (vI ((h.I t 185) - 1))), h)))))))))) := rn_b (b := b108_29) rfl
/-! 109 FastPlaneModel.bears(II)I -/
theorem c109 (E : EV) (d : Nat) (t : Nat) (x1_ : Int32) (x2_ : Int32) (h : AH) : cal E (d + 1) 109 [vR (some t), vI x1_, vI x2_] h = rn E d 109 0 [some (vR (some t)), some (vI x1_), some (vI x2_), none] [] h := cal_rn rfl rfl
theorem e109_0 (E : EV) (d : Nat) (t : Nat) (x1_ : Int32) (x2_ : Int32) (o3_ : Option AV) (h : AH) : rn E d 109 0 [some (vR (some t)), some (vI x1_), some (vI x2_), o3_] [] h =
    cI (cal E d 147 [vI x1_, vI x2_] h) th fun v1 h =>
    if v1 = 0 then
    some (Sum.inl (some (vI (-1))), h)
    else rn E d 109 10 [some (vR (some t)), some (vI x1_), some (vI x2_), o3_] [] h := rn_b (b := b109_0) rfl
theorem e109_10 (E : EV) (d : Nat) (t : Nat) (x1_ : Int32) (x2_ : Int32) (o3_ : Option AV) (h : AH) : rn E d 109 10 [some (vR (some t)), some (vI x1_), some (vI x2_), o3_] [] h =
    gd (h.kd t == 23) (cV (cal E d 158 [vR (some t)] h) th fun h =>
    rn E d 109 17 [some (vR (some t)), some (vI x1_), some (vI x2_), some (vI 6)] [] h) := rn_b (b := b109_10) rfl
theorem e109_17 (E : EV) (d : Nat) (t : Nat) (x1_ : Int32) (x2_ : Int32) (x3_ : Int32) (h : AH) : rn E d 109 17 [some (vR (some t)), some (vI x1_), some (vI x2_), some (vI x3_)] [] h =
    if x3_ < 0 then rn E d 109 54 [some (vR (some t)), some (vI x1_), some (vI x2_), some (vI x3_)] [] h else
    gd (h.kd t == 23) (gd (h.kd t == 23) (if 0 ≤ x3_ then rn E d 109 38 [some (vR (some t)), some (vI x1_), some (vI x2_), some (vI x3_)] [vI (h.I t 197), vI 0, vR (h.R t 194)] h else
    rn E d 109 39 [some (vR (some t)), some (vI x1_), some (vI x2_), some (vI x3_)] [vI 0, vI (h.I t 197), vI 0, vR (h.R t 194)] h)) := rn_b (b := b109_17) rfl
theorem e109_38 (E : EV) (d : Nat) (t : Nat) (x1_ : Int32) (x2_ : Int32) (x3_ : Int32) (s0_ : Option Nat) (s1_ : Int32) (s2_ : Int32) (h : AH) : rn E d 109 38 [some (vR (some t)), some (vI x1_), some (vI x2_), some (vI x3_)] [vI s2_, vI s1_, vR s0_] h =
    rn E d 109 39 [some (vR (some t)), some (vI x1_), some (vI x2_), some (vI x3_)] [vI x3_, vI s2_, vI s1_, vR s0_] h := rn_b (b := b109_38) rfl
theorem e109_39 (E : EV) (d : Nat) (t : Nat) (x1_ : Int32) (x2_ : Int32) (x3_ : Int32) (s0_ : Option Nat) (s1_ : Int32) (s2_ : Int32) (s3_ : Int32) (h : AH) : rn E d 109 39 [some (vR (some t)), some (vI x1_), some (vI x2_), some (vI x3_)] [vI s3_, vI s2_, vI s1_, vR s0_] h =
    cI (cal E d 201 [vI s1_, vI s2_, vI s3_, vI x1_, vI x2_] h) th fun v1 h =>
    nn s0_ fun a2 =>
    gd ((h.kd a2 == 102 || h.kd a2 == 103) && inb v1 (h.ln a2)) (if (h.I a2 v1.toNatClampNeg) = 0 then
    hs (x3_ + (-1)) fun x3 =>
    rn E d 109 17 [some (vR (some t)), some (vI x1_), some (vI x2_), some (vI x3)] [] h
    else rn E d 109 54 [some (vR (some t)), some (vI x1_), some (vI x2_), some (vI x3_)] [] h) := rn_b (b := b109_39) rfl
theorem e109_54 (E : EV) (d : Nat) (t : Nat) (x1_ : Int32) (x2_ : Int32) (x3_ : Int32) (h : AH) : rn E d 109 54 [some (vR (some t)), some (vI x1_), some (vI x2_), some (vI x3_)] [] h =
    some (Sum.inl (some (vI x3_)), h) := rn_b (b := b109_54) rfl
/-! 110 FastPlaneModel.behind()Z -/
theorem c110 (E : EV) (d : Nat) (t : Nat) (h : AH) : cal E (d + 1) 110 [vR (some t)] h = rn E d 110 0 [some (vR (some t)), none] [] h := cal_rn rfl rfl
theorem e110_0 (E : EV) (d : Nat) (t : Nat) (o1_ : Option AV) (h : AH) : rn E d 110 0 [some (vR (some t)), o1_] [] h =
    gd (h.kd t == 23) (cI (cal E d 182 [vR (some t)] h) th fun v1 h =>
    if v1 = 4 then
    gd (h.kd t == 23) (cI (cal E d 139 [vR (some t)] h) th fun v2 h =>
    if v2 = 0 then rn E d 110 23 [some (vR (some t)), some (vI v1)] [] h else
    gd (h.kd t == 23) (cV (cal E d 217 [vR (some t)] h) th fun h =>
    some (Sum.inl (some (vI 1)), h)))
    else rn E d 110 23 [some (vR (some t)), some (vI v1)] [] h) := rn_b (b := b110_0) rfl
theorem e110_23 (E : EV) (d : Nat) (t : Nat) (x1_ : Int32) (h : AH) : rn E d 110 23 [some (vR (some t)), some (vI x1_)] [] h =
    gd (h.kd t == 23) (gd (h.kd t == 23) (nn (h.R t 145) fun a1 =>
    gd (h.kd a1 == 101 && inb ((h.I t 152) - 1) (h.ln a1)) (if 6 < (h.I a1 ((h.I t 152) - 1).toNatClampNeg) then rn E d 110 104 [some (vR (some t)), some (vI x1_)] [] h else
    gd (h.kd t == 23) (gd (h.kd t == 23) (nn (h.R t 145) fun a2 =>
    gd (h.kd a2 == 101 && inb ((h.I t 152) - 1) (h.ln a2)) (if (h.I a2 ((h.I t 152) - 1).toNatClampNeg) < x1_ then rn E d 110 104 [some (vR (some t)), some (vI x1_)] [] h else
    gd (h.kd t == 23) (gd ((h.kd t == 23) && decide (E.bs ≤ t) && true) (hs (h.setI t 152 ((h.I t 152) - 1)) fun h =>
    gd (h.kd t == 23) (gd (h.kd t == 23) (nn (h.R t 145) fun a3 =>
    gd (h.kd a3 == 101 && inb (h.I t 152) (h.ln a3)) (if (h.I a3 (h.I t 152).toNatClampNeg) = 3 then
    gd (h.kd t == 23) (gd ((h.kd t == 23) && decide (E.bs ≤ t) && true) (hs (h.setI t 151 ((h.I t 151) - 1)) fun h =>
    rn E d 110 87 [some (vR (some t)), some (vI x1_)] [] h))
    else rn E d 110 87 [some (vR (some t)), some (vI x1_)] [] h))))))))))) := rn_b (b := b110_23) rfl
theorem e110_87 (E : EV) (d : Nat) (t : Nat) (x1_ : Int32) (h : AH) : rn E d 110 87 [some (vR (some t)), some (vI x1_)] [] h =
    gd (h.kd t == 23) (gd (h.kd t == 23) (nn (h.R t 146) fun a1 =>
    gd (h.kd a1 == 101 && inb (h.I t 152) (h.ln a1)) (gd (h.kd t == 23) (cV (cal E d 202 [vR (some t), vI (h.I a1 (h.I t 152).toNatClampNeg), vI 0] h) th fun h =>
    rn E d 110 23 [some (vR (some t)), some (vI x1_)] [] h)))) := rn_b (b := b110_87) rfl
theorem e110_104 (E : EV) (d : Nat) (t : Nat) (x1_ : Int32) (h : AH) : rn E d 110 104 [some (vR (some t)), some (vI x1_)] [] h =
    if x1_ ≤ 0 then rn E d 110 147 [some (vR (some t)), some (vI x1_)] [] h else
    if x1_ = 2 then
    rn E d 110 138 [some (vR (some t)), some (vI x1_)] [vI 38, vI x1_, vR (some t)] h
    else rn E d 110 120 [some (vR (some t)), some (vI x1_)] [vI x1_, vR (some t)] h := rn_b (b := b110_104) rfl
theorem e110_120 (E : EV) (d : Nat) (t : Nat) (x1_ : Int32) (s0_ : Option Nat) (s1_ : Int32) (h : AH) : rn E d 110 120 [some (vR (some t)), some (vI x1_)] [vI s1_, vR s0_] h =
    if x1_ = 1 then
    rn E d 110 138 [some (vR (some t)), some (vI x1_)] [vI 124, vI s1_, vR s0_] h
    else rn E d 110 130 [some (vR (some t)), some (vI x1_)] [vI s1_, vR s0_] h := rn_b (b := b110_120) rfl
theorem e110_130 (E : EV) (d : Nat) (t : Nat) (x1_ : Int32) (s0_ : Option Nat) (s1_ : Int32) (h : AH) : rn E d 110 130 [some (vR (some t)), some (vI x1_)] [vI s1_, vR s0_] h =
    gd (h.kd t == 23) (gd (h.kd t == 23) (cI (cal E d 197 [vR (some t), vI (h.I t 110)] h) th fun v1 h =>
    rn E d 110 138 [some (vR (some t)), some (vI x1_)] [vI v1, vI s1_, vR s0_] h)) := rn_b (b := b110_130) rfl
theorem e110_138 (E : EV) (d : Nat) (t : Nat) (x1_ : Int32) (s0_ : Option Nat) (s1_ : Int32) (s2_ : Int32) (h : AH) : rn E d 110 138 [some (vR (some t)), some (vI x1_)] [vI s2_, vI s1_, vR s0_] h =
    gd (rcO 176 [vR s0_, vI s1_, vI s2_] h) (cV (cal E d 181 [vR s0_, vI s1_, vI s2_] h) th fun h =>
    gd (h.kd t == 23) (cV (cal E d 170 [vR (some t)] h) th fun h =>
    some (Sum.inl (some (vI 1)), h))) := rn_b (b := b110_138) rfl
theorem e110_147 (E : EV) (d : Nat) (t : Nat) (x1_ : Int32) (h : AH) : rn E d 110 147 [some (vR (some t)), some (vI x1_)] [] h =
    gd (h.kd t == 23) (gd ((h.kd t == 23) && decide (E.bs ≤ t) && true) (hs (h.setI t 152 ((h.I t 152) - 1)) fun h =>
    gd (h.kd t == 23) (gd (h.kd t == 23) (nn (h.R t 145) fun a1 =>
    gd (h.kd a1 == 101 && inb (h.I t 152) (h.ln a1)) (if (h.I a1 (h.I t 152).toNatClampNeg) = 7 then
    gd (h.kd t == 23) (gd ((h.kd t == 23) && decide (E.bs ≤ t) && true) (hs (h.setI t 151 ((h.I t 151) - 1)) fun h =>
    gd (h.kd t == 23) (cI (cal E d 153 [vR (some t), vI 41] h) th fun v2 h =>
    gd (h.kd t == 23) (cV (cal E d 169 [vR (some t), vI v2] h) th fun h =>
    rn E d 110 191 [some (vR (some t)), some (vI x1_)] [] h))))
    else rn E d 110 191 [some (vR (some t)), some (vI x1_)] [] h))))) := rn_b (b := b110_147) rfl
theorem e110_191 (E : EV) (d : Nat) (t : Nat) (x1_ : Int32) (h : AH) : rn E d 110 191 [some (vR (some t)), some (vI x1_)] [] h =
    some (Sum.inl (some (vI 0)), h) := rn_b (b := b110_191) rfl
/-! 111 FastPlaneModel.bestMove(II)I -/
theorem c111 (E : EV) (d : Nat) (t : Nat) (x1_ : Int32) (x2_ : Int32) (h : AH) : cal E (d + 1) 111 [vR (some t), vI x1_, vI x2_] h = rn E d 111 0 [some (vR (some t)), some (vI x1_), some (vI x2_), none, none, none, none, none, none] [] h := cal_rn rfl rfl
theorem e111_0 (E : EV) (d : Nat) (t : Nat) (x1_ : Int32) (x2_ : Int32) (o3_ : Option AV) (o4_ : Option AV) (o5_ : Option AV) (o6_ : Option AV) (o7_ : Option AV) (o8_ : Option AV) (h : AH) : rn E d 111 0 [some (vR (some t)), some (vI x1_), some (vI x2_), o3_, o4_, o5_, o6_, o7_, o8_] [] h =
    gd ((h.kd t == 23) && decide (E.bs ≤ t) && true) (hs (h.setI t 179 (-1)) fun h =>
    rn E d 111 12 [some (vR (some t)), some (vI x1_), some (vI x2_), some (vI 1000000), some (vI 0), o5_, o6_, o7_, o8_] [] h) := rn_b (b := b111_0) rfl
theorem e111_12 (E : EV) (d : Nat) (t : Nat) (x1_ : Int32) (x2_ : Int32) (x3_ : Int32) (x4_ : Int32) (o5_ : Option AV) (o6_ : Option AV) (o7_ : Option AV) (o8_ : Option AV) (h : AH) : rn E d 111 12 [some (vR (some t)), some (vI x1_), some (vI x2_), some (vI x3_), some (vI x4_), o5_, o6_, o7_, o8_] [] h =
    gd (h.kd t == 23) (cI (cal E d 204 [vR (some t)] h) th fun v1 h =>
    if v1 ≤ x4_ then rn E d 111 169 [some (vR (some t)), some (vI x1_), some (vI x2_), some (vI x3_), some (vI x4_), o5_, o6_, o7_, o8_] [] h else
    rn E d 111 24 [some (vR (some t)), some (vI x1_), some (vI x2_), some (vI x3_), some (vI x4_), some (vI 0), o6_, o7_, o8_] [] h) := rn_b (b := b111_12) rfl
theorem e111_24 (E : EV) (d : Nat) (t : Nat) (x1_ : Int32) (x2_ : Int32) (x3_ : Int32) (x4_ : Int32) (x5_ : Int32) (o6_ : Option AV) (o7_ : Option AV) (o8_ : Option AV) (h : AH) : rn E d 111 24 [some (vR (some t)), some (vI x1_), some (vI x2_), some (vI x3_), some (vI x4_), some (vI x5_), o6_, o7_, o8_] [] h =
    gd (h.kd t == 23) (if (h.I t 178) < x5_ then rn E d 111 163 [some (vR (some t)), some (vI x1_), some (vI x2_), some (vI x3_), some (vI x4_), some (vI x5_), o6_, o7_, o8_] [] h else
    rn E d 111 36 [some (vR (some t)), some (vI x1_), some (vI x2_), some (vI x3_), some (vI x4_), some (vI x5_), some (vI 0), o7_, o8_] [] h) := rn_b (b := b111_24) rfl
theorem e111_36 (E : EV) (d : Nat) (t : Nat) (x1_ : Int32) (x2_ : Int32) (x3_ : Int32) (x4_ : Int32) (x5_ : Int32) (x6_ : Int32) (o7_ : Option AV) (o8_ : Option AV) (h : AH) : rn E d 111 36 [some (vR (some t)), some (vI x1_), some (vI x2_), some (vI x3_), some (vI x4_), some (vI x5_), some (vI x6_), o7_, o8_] [] h =
    gd (h.kd t == 23) (cI (cal E d 204 [vR (some t)] h) th fun v1 h =>
    if v1 ≤ x6_ then rn E d 111 157 [some (vR (some t)), some (vI x1_), some (vI x2_), some (vI x3_), some (vI x4_), some (vI x5_), some (vI x6_), o7_, o8_] [] h else
    if x6_ = 0 then rn E d 111 55 [some (vR (some t)), some (vI x1_), some (vI x2_), some (vI x3_), some (vI x4_), some (vI x5_), some (vI x6_), o7_, o8_] [] h else
    if x5_ ≤ 0 then rn E d 111 157 [some (vR (some t)), some (vI x1_), some (vI x2_), some (vI x3_), some (vI x4_), some (vI x5_), some (vI x6_), o7_, o8_] [] h else
    rn E d 111 55 [some (vR (some t)), some (vI x1_), some (vI x2_), some (vI x3_), some (vI x4_), some (vI x5_), some (vI x6_), o7_, o8_] [] h) := rn_b (b := b111_36) rfl
theorem e111_55 (E : EV) (d : Nat) (t : Nat) (x1_ : Int32) (x2_ : Int32) (x3_ : Int32) (x4_ : Int32) (x5_ : Int32) (x6_ : Int32) (o7_ : Option AV) (o8_ : Option AV) (h : AH) : rn E d 111 55 [some (vR (some t)), some (vI x1_), some (vI x2_), some (vI x3_), some (vI x4_), some (vI x5_), some (vI x6_), o7_, o8_] [] h =
    rn E d 111 58 [some (vR (some t)), some (vI x1_), some (vI x2_), some (vI x3_), some (vI x4_), some (vI x5_), some (vI x6_), some (vI 0), o8_] [] h := rn_b (b := b111_55) rfl
theorem e111_58 (E : EV) (d : Nat) (t : Nat) (x1_ : Int32) (x2_ : Int32) (x3_ : Int32) (x4_ : Int32) (x5_ : Int32) (x6_ : Int32) (x7_ : Int32) (o8_ : Option AV) (h : AH) : rn E d 111 58 [some (vR (some t)), some (vI x1_), some (vI x2_), some (vI x3_), some (vI x4_), some (vI x5_), some (vI x6_), some (vI x7_), o8_] [] h =
    gd (h.kd t == 23) (cI (cal E d 204 [vR (some t)] h) th fun v1 h =>
    if v1 ≤ x7_ then rn E d 111 151 [some (vR (some t)), some (vI x1_), some (vI x2_), some (vI x3_), some (vI x4_), some (vI x5_), some (vI x6_), some (vI x7_), o8_] [] h else
    if x7_ = 0 then rn E d 111 77 [some (vR (some t)), some (vI x1_), some (vI x2_), some (vI x3_), some (vI x4_), some (vI x5_), some (vI x6_), some (vI x7_), o8_] [] h else
    if x5_ ≤ 0 then rn E d 111 151 [some (vR (some t)), some (vI x1_), some (vI x2_), some (vI x3_), some (vI x4_), some (vI x5_), some (vI x6_), some (vI x7_), o8_] [] h else
    rn E d 111 77 [some (vR (some t)), some (vI x1_), some (vI x2_), some (vI x3_), some (vI x4_), some (vI x5_), some (vI x6_), some (vI x7_), o8_] [] h) := rn_b (b := b111_58) rfl
theorem e111_77 (E : EV) (d : Nat) (t : Nat) (x1_ : Int32) (x2_ : Int32) (x3_ : Int32) (x4_ : Int32) (x5_ : Int32) (x6_ : Int32) (x7_ : Int32) (o8_ : Option AV) (h : AH) : rn E d 111 77 [some (vR (some t)), some (vI x1_), some (vI x2_), some (vI x3_), some (vI x4_), some (vI x5_), some (vI x6_), some (vI x7_), o8_] [] h =
    gd (h.kd t == 23) (cI (cal E d 208 [vR (some t), vI x1_, vI x2_, vI x5_, vI x6_, vI x7_, vI x4_] h) th fun v1 h =>
    if v1 < x3_ then rn E d 111 102 [some (vR (some t)), some (vI x1_), some (vI x2_), some (vI x3_), some (vI x4_), some (vI x5_), some (vI x6_), some (vI x7_), some (vI v1)] [] h else
    rn E d 111 145 [some (vR (some t)), some (vI x1_), some (vI x2_), some (vI x3_), some (vI x4_), some (vI x5_), some (vI x6_), some (vI x7_), some (vI v1)] [] h) := rn_b (b := b111_77) rfl
theorem e111_102 (E : EV) (d : Nat) (t : Nat) (x1_ : Int32) (x2_ : Int32) (x3_ : Int32) (x4_ : Int32) (x5_ : Int32) (x6_ : Int32) (x7_ : Int32) (x8_ : Int32) (h : AH) : rn E d 111 102 [some (vR (some t)), some (vI x1_), some (vI x2_), some (vI x3_), some (vI x4_), some (vI x5_), some (vI x6_), some (vI x7_), some (vI x8_)] [] h =
    if x5_ = 0 then
    rn E d 111 133 [some (vR (some t)), some (vI x1_), some (vI x2_), some (vI x8_), some (vI x4_), some (vI x5_), some (vI x6_), some (vI x7_), some (vI x8_)] [vI 0, vI (100 * x4_), vR (some t)] h
    else rn E d 111 120 [some (vR (some t)), some (vI x1_), some (vI x2_), some (vI x8_), some (vI x4_), some (vI x5_), some (vI x6_), some (vI x7_), some (vI x8_)] [vI (100 * x4_), vR (some t)] h := rn_b (b := b111_102) rfl
theorem e111_120 (E : EV) (d : Nat) (t : Nat) (x1_ : Int32) (x2_ : Int32) (x3_ : Int32) (x4_ : Int32) (x5_ : Int32) (x6_ : Int32) (x7_ : Int32) (x8_ : Int32) (s0_ : Option Nat) (s1_ : Int32) (h : AH) : rn E d 111 120 [some (vR (some t)), some (vI x1_), some (vI x2_), some (vI x3_), some (vI x4_), some (vI x5_), some (vI x6_), some (vI x7_), some (vI x8_)] [vI s1_, vR s0_] h =
    rn E d 111 133 [some (vR (some t)), some (vI x1_), some (vI x2_), some (vI x3_), some (vI x4_), some (vI x5_), some (vI x6_), some (vI x7_), some (vI x8_)] [vI (((9 * x5_) + (3 * x6_)) + x7_), vI s1_, vR s0_] h := rn_b (b := b111_120) rfl
theorem e111_133 (E : EV) (d : Nat) (t : Nat) (x1_ : Int32) (x2_ : Int32) (x3_ : Int32) (x4_ : Int32) (x5_ : Int32) (x6_ : Int32) (x7_ : Int32) (x8_ : Int32) (s0_ : Option Nat) (s1_ : Int32) (s2_ : Int32) (h : AH) : rn E d 111 133 [some (vR (some t)), some (vI x1_), some (vI x2_), some (vI x3_), some (vI x4_), some (vI x5_), some (vI x6_), some (vI x7_), some (vI x8_)] [vI s2_, vI s1_, vR s0_] h =
    nn s0_ fun a1 =>
    gd ((h.kd a1 == 23) && decide (E.bs ≤ a1) && true) (hs (h.setI a1 179 (s1_ + s2_)) fun h =>
    gd (h.kd t == 23) (cI (cal E d 200 [vR (some t)] h) th fun v2 h =>
    gd ((h.kd t == 23) && decide (E.bs ≤ t) && true) (hs (h.setI t 180 v2) fun h =>
    rn E d 111 145 [some (vR (some t)), some (vI x1_), some (vI x2_), some (vI x3_), some (vI x4_), some (vI x5_), some (vI x6_), some (vI x7_), some (vI x8_)] [] h))) := rn_b (b := b111_133) rfl
theorem e111_145 (E : EV) (d : Nat) (t : Nat) (x1_ : Int32) (x2_ : Int32) (x3_ : Int32) (x4_ : Int32) (x5_ : Int32) (x6_ : Int32) (x7_ : Int32) (x8_ : Int32) (h : AH) : rn E d 111 145 [some (vR (some t)), some (vI x1_), some (vI x2_), some (vI x3_), some (vI x4_), some (vI x5_), some (vI x6_), some (vI x7_), some (vI x8_)] [] h =
    hs (x7_ + 1) fun x1 =>
    rn E d 111 58 [some (vR (some t)), some (vI x1_), some (vI x2_), some (vI x3_), some (vI x4_), some (vI x5_), some (vI x6_), some (vI x1), some (vI x8_)] [] h := rn_b (b := b111_145) rfl
theorem e111_151 (E : EV) (d : Nat) (t : Nat) (x1_ : Int32) (x2_ : Int32) (x3_ : Int32) (x4_ : Int32) (x5_ : Int32) (x6_ : Int32) (x7_ : Int32) (o8_ : Option AV) (h : AH) : rn E d 111 151 [some (vR (some t)), some (vI x1_), some (vI x2_), some (vI x3_), some (vI x4_), some (vI x5_), some (vI x6_), some (vI x7_), o8_] [] h =
    hs (x6_ + 1) fun x1 =>
    rn E d 111 36 [some (vR (some t)), some (vI x1_), some (vI x2_), some (vI x3_), some (vI x4_), some (vI x5_), some (vI x1), some (vI x7_), o8_] [] h := rn_b (b := b111_151) rfl
theorem e111_157 (E : EV) (d : Nat) (t : Nat) (x1_ : Int32) (x2_ : Int32) (x3_ : Int32) (x4_ : Int32) (x5_ : Int32) (x6_ : Int32) (o7_ : Option AV) (o8_ : Option AV) (h : AH) : rn E d 111 157 [some (vR (some t)), some (vI x1_), some (vI x2_), some (vI x3_), some (vI x4_), some (vI x5_), some (vI x6_), o7_, o8_] [] h =
    hs (x5_ + 1) fun x1 =>
    rn E d 111 24 [some (vR (some t)), some (vI x1_), some (vI x2_), some (vI x3_), some (vI x4_), some (vI x1), some (vI x6_), o7_, o8_] [] h := rn_b (b := b111_157) rfl
theorem e111_163 (E : EV) (d : Nat) (t : Nat) (x1_ : Int32) (x2_ : Int32) (x3_ : Int32) (x4_ : Int32) (x5_ : Int32) (o6_ : Option AV) (o7_ : Option AV) (o8_ : Option AV) (h : AH) : rn E d 111 163 [some (vR (some t)), some (vI x1_), some (vI x2_), some (vI x3_), some (vI x4_), some (vI x5_), o6_, o7_, o8_] [] h =
    hs (x4_ + 1) fun x1 =>
    rn E d 111 12 [some (vR (some t)), some (vI x1_), some (vI x2_), some (vI x3_), some (vI x1), some (vI x5_), o6_, o7_, o8_] [] h := rn_b (b := b111_163) rfl
theorem e111_169 (E : EV) (d : Nat) (t : Nat) (x1_ : Int32) (x2_ : Int32) (x3_ : Int32) (x4_ : Int32) (o5_ : Option AV) (o6_ : Option AV) (o7_ : Option AV) (o8_ : Option AV) (h : AH) : rn E d 111 169 [some (vR (some t)), some (vI x1_), some (vI x2_), some (vI x3_), some (vI x4_), o5_, o6_, o7_, o8_] [] h =
    some (Sum.inl (some (vI x3_)), h) := rn_b (b := b111_169) rfl
/-! 112 FastPlaneModel.bounds(II)I -/
theorem c112 (E : EV) (d : Nat) (t : Nat) (x1_ : Int32) (x2_ : Int32) (h : AH) : cal E (d + 1) 112 [vR (some t), vI x1_, vI x2_] h = rn E d 112 0 [some (vR (some t)), some (vI x1_), some (vI x2_)] [] h := cal_rn rfl rfl
theorem e112_0 (E : EV) (d : Nat) (t : Nat) (x1_ : Int32) (x2_ : Int32) (h : AH) : rn E d 112 0 [some (vR (some t)), some (vI x1_), some (vI x2_)] [] h =
    cI (cal E d 144 [vI x1_, vI 0, vI 99] h) th fun v1 h =>
    if v1 = 0 then rn E d 112 29 [some (vR (some t)), some (vI x1_), some (vI x2_)] [] h else
    cI (cal E d 144 [vI x2_, vI x1_, vI 99] h) th fun v2 h =>
    if v2 = 0 then rn E d 112 29 [some (vR (some t)), some (vI x1_), some (vI x2_)] [] h else
    gd (h.kd t == 23) (if (h.I t 177) = 12 then
    rn E d 112 29 [some (vR (some t)), some (vI x1_), some (vI x2_)] [] h
    else rn E d 112 31 [some (vR (some t)), some (vI x1_), some (vI x2_)] [] h) := rn_b (b := b112_0) rfl
theorem e112_29 (E : EV) (d : Nat) (t : Nat) (x1_ : Int32) (x2_ : Int32) (h : AH) : rn E d 112 29 [some (vR (some t)), some (vI x1_), some (vI x2_)] [] h =
    some (Sum.inl (some (vI (-1))), h) := rn_b (b := b112_29) rfl
theorem e112_31 (E : EV) (d : Nat) (t : Nat) (x1_ : Int32) (x2_ : Int32) (h : AH) : rn E d 112 31 [some (vR (some t)), some (vI x1_), some (vI x2_)] [] h =
    gd (h.kd t == 23) (gd (h.kd t == 23) (nn (h.R t 173) fun a1 =>
    gd (h.kd a1 == 101 && inb (h.I t 177) (h.ln a1) && decide (E.bs ≤ a1)) (hs (h.setI a1 (h.I t 177).toNatClampNeg x1_) fun h =>
    gd (h.kd t == 23) (gd (h.kd t == 23) (nn (h.R t 174) fun a2 =>
    gd (h.kd a2 == 101 && inb (h.I t 177) (h.ln a2) && decide (E.bs ≤ a2)) (hs (h.setI a2 (h.I t 177).toNatClampNeg x2_) fun h =>
    gd (h.kd t == 23) (gd ((h.kd t == 23) && decide (E.bs ≤ t) && true) (hs (h.setI t 177 ((h.I t 177) + 1)) fun h =>
    gd (h.kd t == 23) (some (Sum.inl (some (vI (h.I t 177))), h)))))))))) := rn_b (b := b112_31) rfl
/-! 113 FastPlaneModel.breaks(I)I -/
theorem c113 (E : EV) (d : Nat) (t : Nat) (x1_ : Int32) (h : AH) : cal E (d + 1) 113 [vR (some t), vI x1_] h = rn E d 113 0 [some (vR (some t)), some (vI x1_), none] [] h := cal_rn rfl rfl
theorem e113_0 (E : EV) (d : Nat) (t : Nat) (x1_ : Int32) (o2_ : Option AV) (h : AH) : rn E d 113 0 [some (vR (some t)), some (vI x1_), o2_] [] h =
    gd (h.kd t == 23) (cI (cal E d 154 [vR (some t)] h) th fun v1 h =>
    cI (cal E d 144 [vI x1_, vI 0, vI (v1 - 1)] h) th fun v2 h =>
    if v2 = 0 then
    some (Sum.inl (some (vI (-1))), h)
    else rn E d 113 16 [some (vR (some t)), some (vI x1_), o2_] [] h) := rn_b (b := b113_0) rfl
theorem e113_16 (E : EV) (d : Nat) (t : Nat) (x1_ : Int32) (o2_ : Option AV) (h : AH) : rn E d 113 16 [some (vR (some t)), some (vI x1_), o2_] [] h =
    rn E d 113 18 [some (vR (some t)), some (vI x1_), some (vI 0)] [] h := rn_b (b := b113_16) rfl
theorem e113_18 (E : EV) (d : Nat) (t : Nat) (x1_ : Int32) (x2_ : Int32) (h : AH) : rn E d 113 18 [some (vR (some t)), some (vI x1_), some (vI x2_)] [] h =
    if 31 ≤ x2_ then rn E d 113 41 [some (vR (some t)), some (vI x1_), some (vI x2_)] [] h else
    gd (h.kd t == 23) (cI (cal E d 132 [vR (some t), vI x1_, vI x2_] h) th fun v1 h =>
    if v1 = 0 then
    some (Sum.inl (some (vI x2_)), h)
    else rn E d 113 35 [some (vR (some t)), some (vI x1_), some (vI x2_)] [] h) := rn_b (b := b113_18) rfl
theorem e113_35 (E : EV) (d : Nat) (t : Nat) (x1_ : Int32) (x2_ : Int32) (h : AH) : rn E d 113 35 [some (vR (some t)), some (vI x1_), some (vI x2_)] [] h =
    hs (x2_ + 1) fun x1 =>
    rn E d 113 18 [some (vR (some t)), some (vI x1_), some (vI x1)] [] h := rn_b (b := b113_35) rfl
theorem e113_41 (E : EV) (d : Nat) (t : Nat) (x1_ : Int32) (x2_ : Int32) (h : AH) : rn E d 113 41 [some (vR (some t)), some (vI x1_), some (vI x2_)] [] h =
    some (Sum.inl (some (vI (-1))), h) := rn_b (b := b113_41) rfl
/-! 114 FastPlaneModel.capped(I)I -/
theorem c114 (E : EV) (d : Nat) (x0_ : Int32) (h : AH) : cal E (d + 1) 114 [vI x0_] h = rn E d 114 0 [some (vI x0_)] [] h := cal_rn rfl rfl
theorem e114_0 (E : EV) (d : Nat) (x0_ : Int32) (h : AH) : rn E d 114 0 [some (vI x0_)] [] h =
    if x0_ ≤ 30 then rn E d 114 11 [some (vI x0_)] [] h else
    rn E d 114 12 [some (vI x0_)] [vI 30] h := rn_b (b := b114_0) rfl
theorem e114_11 (E : EV) (d : Nat) (x0_ : Int32) (h : AH) : rn E d 114 11 [some (vI x0_)] [] h =
    rn E d 114 12 [some (vI x0_)] [vI x0_] h := rn_b (b := b114_11) rfl
theorem e114_12 (E : EV) (d : Nat) (x0_ : Int32) (s0_ : Int32) (h : AH) : rn E d 114 12 [some (vI x0_)] [vI s0_] h =
    some (Sum.inl (some (vI s0_)), h) := rn_b (b := b114_12) rfl
/-! 115 FastPlaneModel.change(II)I -/
theorem c115 (E : EV) (d : Nat) (t : Nat) (x1_ : Int32) (x2_ : Int32) (h : AH) : cal E (d + 1) 115 [vR (some t), vI x1_, vI x2_] h = rn E d 115 0 [some (vR (some t)), some (vI x1_), some (vI x2_)] [] h := cal_rn rfl rfl
theorem e115_0 (E : EV) (d : Nat) (t : Nat) (x1_ : Int32) (x2_ : Int32) (h : AH) : rn E d 115 0 [some (vR (some t)), some (vI x1_), some (vI x2_)] [] h =
    gd (h.kd t == 23) (cI (cal E d 149 [vR (some t), vI x1_] h) th fun v1 h =>
    if v1 = 0 then rn E d 115 25 [some (vR (some t)), some (vI x1_), some (vI x2_)] [] h else
    cI (cal E d 148 [vI x2_] h) th fun v2 h =>
    if v2 = 0 then rn E d 115 25 [some (vR (some t)), some (vI x1_), some (vI x2_)] [] h else
    gd (h.kd t == 23) (cI (cal E d 205 [vR (some t), vI 0, vI x1_, vI x2_] h) th fun v3 h =>
    rn E d 115 26 [some (vR (some t)), some (vI x1_), some (vI x2_)] [vI v3] h)) := rn_b (b := b115_0) rfl
theorem e115_25 (E : EV) (d : Nat) (t : Nat) (x1_ : Int32) (x2_ : Int32) (h : AH) : rn E d 115 25 [some (vR (some t)), some (vI x1_), some (vI x2_)] [] h =
    rn E d 115 26 [some (vR (some t)), some (vI x1_), some (vI x2_)] [vI (-1)] h := rn_b (b := b115_25) rfl
theorem e115_26 (E : EV) (d : Nat) (t : Nat) (x1_ : Int32) (x2_ : Int32) (s0_ : Int32) (h : AH) : rn E d 115 26 [some (vR (some t)), some (vI x1_), some (vI x2_)] [vI s0_] h =
    some (Sum.inl (some (vI s0_)), h) := rn_b (b := b115_26) rfl
/-! 116 FastPlaneModel.clash(I)I -/
theorem c116 (E : EV) (d : Nat) (t : Nat) (x1_ : Int32) (h : AH) : cal E (d + 1) 116 [vR (some t), vI x1_] h = rn E d 116 0 [some (vR (some t)), some (vI x1_), none, none] [] h := cal_rn rfl rfl
theorem e116_0 (E : EV) (d : Nat) (t : Nat) (x1_ : Int32) (o2_ : Option AV) (o3_ : Option AV) (h : AH) : rn E d 116 0 [some (vR (some t)), some (vI x1_), o2_, o3_] [] h =
    cI (cal E d 144 [vI x1_, vI 0, vI 30] h) th fun v1 h =>
    if v1 = 0 then
    some (Sum.inl (some (vI (-1))), h)
    else rn E d 116 12 [some (vR (some t)), some (vI x1_), o2_, o3_] [] h := rn_b (b := b116_0) rfl
theorem e116_12 (E : EV) (d : Nat) (t : Nat) (x1_ : Int32) (o2_ : Option AV) (o3_ : Option AV) (h : AH) : rn E d 116 12 [some (vR (some t)), some (vI x1_), o2_, o3_] [] h =
    rn E d 116 16 [some (vR (some t)), some (vI x1_), some (vI 0), some (vI 0)] [] h := rn_b (b := b116_12) rfl
theorem e116_16 (E : EV) (d : Nat) (t : Nat) (x1_ : Int32) (x2_ : Int32) (x3_ : Int32) (h : AH) : rn E d 116 16 [some (vR (some t)), some (vI x1_), some (vI x2_), some (vI x3_)] [] h =
    gd (h.kd t == 23) (cI (cal E d 154 [vR (some t)] h) th fun v1 h =>
    if v1 ≤ x3_ then rn E d 116 49 [some (vR (some t)), some (vI x1_), some (vI x2_), some (vI x3_)] [] h else
    gd (h.kd t == 23) (cI (cal E d 132 [vR (some t), vI x3_, vI x1_] h) th fun v2 h =>
    if v2 = 0 then rn E d 116 38 [some (vR (some t)), some (vI x1_), some (vI x2_), some (vI x3_)] [vI x2_] h else
    rn E d 116 41 [some (vR (some t)), some (vI x1_), some (vI x2_), some (vI x3_)] [vI 0, vI x2_] h)) := rn_b (b := b116_16) rfl
theorem e116_38 (E : EV) (d : Nat) (t : Nat) (x1_ : Int32) (x2_ : Int32) (x3_ : Int32) (s0_ : Int32) (h : AH) : rn E d 116 38 [some (vR (some t)), some (vI x1_), some (vI x2_), some (vI x3_)] [vI s0_] h =
    rn E d 116 41 [some (vR (some t)), some (vI x1_), some (vI x2_), some (vI x3_)] [vI (1 <<< (x3_ &&& 31)), vI s0_] h := rn_b (b := b116_38) rfl
theorem e116_41 (E : EV) (d : Nat) (t : Nat) (x1_ : Int32) (x2_ : Int32) (x3_ : Int32) (s0_ : Int32) (s1_ : Int32) (h : AH) : rn E d 116 41 [some (vR (some t)), some (vI x1_), some (vI x2_), some (vI x3_)] [vI s1_, vI s0_] h =
    hs (s0_ ||| s1_) fun x1 =>
    hs (x3_ + 1) fun x2 =>
    rn E d 116 16 [some (vR (some t)), some (vI x1_), some (vI x1), some (vI x2)] [] h := rn_b (b := b116_41) rfl
theorem e116_49 (E : EV) (d : Nat) (t : Nat) (x1_ : Int32) (x2_ : Int32) (x3_ : Int32) (h : AH) : rn E d 116 49 [some (vR (some t)), some (vI x1_), some (vI x2_), some (vI x3_)] [] h =
    some (Sum.inl (some (vI x2_)), h) := rn_b (b := b116_49) rfl
/-! 117 FastPlaneModel.cost(II)I -/
theorem c117 (E : EV) (d : Nat) (t : Nat) (x1_ : Int32) (x2_ : Int32) (h : AH) : cal E (d + 1) 117 [vR (some t), vI x1_, vI x2_] h = rn E d 117 0 [some (vR (some t)), some (vI x1_), some (vI x2_)] [] h := cal_rn rfl rfl
theorem e117_0 (E : EV) (d : Nat) (t : Nat) (x1_ : Int32) (x2_ : Int32) (h : AH) : rn E d 117 0 [some (vR (some t)), some (vI x1_), some (vI x2_)] [] h =
    cI (cal E d 144 [vI x1_, vI 0, vI 999] h) th fun v1 h =>
    if v1 = 0 then
    some (Sum.inl (some (vI (-1))), h)
    else rn E d 117 13 [some (vR (some t)), some (vI x1_), some (vI x2_)] [] h := rn_b (b := b117_0) rfl
theorem e117_13 (E : EV) (d : Nat) (t : Nat) (x1_ : Int32) (x2_ : Int32) (h : AH) : rn E d 117 13 [some (vR (some t)), some (vI x1_), some (vI x2_)] [] h =
    gd (h.kd t == 23) (cV (cal E d 129 [vR (some t), vI x2_] h) th fun h =>
    gd (h.kd t == 23) (cI (cal E d 118 [vR (some t), vI x1_, vI x1_] h) th fun v1 h =>
    some (Sum.inl (some (vI v1)), h))) := rn_b (b := b117_13) rfl
/-! 118 FastPlaneModel.costsOf(II)I -/
theorem c118 (E : EV) (d : Nat) (t : Nat) (x1_ : Int32) (x2_ : Int32) (h : AH) : cal E (d + 1) 118 [vR (some t), vI x1_, vI x2_] h = rn E d 118 0 [some (vR (some t)), some (vI x1_), some (vI x2_), none, none] [] h := cal_rn rfl rfl
theorem e118_0 (E : EV) (d : Nat) (t : Nat) (x1_ : Int32) (x2_ : Int32) (o3_ : Option AV) (o4_ : Option AV) (h : AH) : rn E d 118 0 [some (vR (some t)), some (vI x1_), some (vI x2_), o3_, o4_] [] h =
    rn E d 118 5 [some (vR (some t)), some (vI x1_), some (vI x2_), some (vI 0), some (vI 0)] [] h := rn_b (b := b118_0) rfl
theorem e118_5 (E : EV) (d : Nat) (t : Nat) (x1_ : Int32) (x2_ : Int32) (x3_ : Int32) (x4_ : Int32) (h : AH) : rn E d 118 5 [some (vR (some t)), some (vI x1_), some (vI x2_), some (vI x3_), some (vI x4_)] [] h =
    gd (h.kd t == 23) (cI (cal E d 176 [vR (some t)] h) th fun v1 h =>
    if v1 ≤ x4_ then rn E d 118 57 [some (vR (some t)), some (vI x1_), some (vI x2_), some (vI x3_), some (vI x4_)] [] h else
    gd (h.kd t == 23) (nn (h.R t 170) fun a2 =>
    gd (h.kd a2 == 101 && inb x4_ (h.ln a2)) (cI (cal E d 144 [vI (h.I a2 x4_.toNatClampNeg), vI x1_, vI x2_] h) th fun v3 h =>
    if v3 = 0 then rn E d 118 48 [some (vR (some t)), some (vI x1_), some (vI x2_), some (vI x3_), some (vI x4_)] [vI x3_] h else
    gd (h.kd t == 23) (gd (h.kd t == 23) (nn (h.R t 123) fun a4 =>
    gd (h.kd a4 == 101 && inb ((12 * (h.I t 135)) + x4_) (h.ln a4)) (rn E d 118 49 [some (vR (some t)), some (vI x1_), some (vI x2_), some (vI x3_), some (vI x4_)] [vI (h.I a4 ((12 * (h.I t 135)) + x4_).toNatClampNeg), vI x3_] h)))))) := rn_b (b := b118_5) rfl
theorem e118_48 (E : EV) (d : Nat) (t : Nat) (x1_ : Int32) (x2_ : Int32) (x3_ : Int32) (x4_ : Int32) (s0_ : Int32) (h : AH) : rn E d 118 48 [some (vR (some t)), some (vI x1_), some (vI x2_), some (vI x3_), some (vI x4_)] [vI s0_] h =
    rn E d 118 49 [some (vR (some t)), some (vI x1_), some (vI x2_), some (vI x3_), some (vI x4_)] [vI 0, vI s0_] h := rn_b (b := b118_48) rfl
theorem e118_49 (E : EV) (d : Nat) (t : Nat) (x1_ : Int32) (x2_ : Int32) (x3_ : Int32) (x4_ : Int32) (s0_ : Int32) (s1_ : Int32) (h : AH) : rn E d 118 49 [some (vR (some t)), some (vI x1_), some (vI x2_), some (vI x3_), some (vI x4_)] [vI s1_, vI s0_] h =
    hs (s0_ + s1_) fun x1 =>
    hs (x4_ + 1) fun x2 =>
    rn E d 118 5 [some (vR (some t)), some (vI x1_), some (vI x2_), some (vI x1), some (vI x2)] [] h := rn_b (b := b118_49) rfl
theorem e118_57 (E : EV) (d : Nat) (t : Nat) (x1_ : Int32) (x2_ : Int32) (x3_ : Int32) (x4_ : Int32) (h : AH) : rn E d 118 57 [some (vR (some t)), some (vI x1_), some (vI x2_), some (vI x3_), some (vI x4_)] [] h =
    some (Sum.inl (some (vI x3_)), h) := rn_b (b := b118_57) rfl
/-! 119 FastPlaneModel.counts(III)Z -/
theorem c119 (E : EV) (d : Nat) (t : Nat) (x1_ : Int32) (x2_ : Int32) (x3_ : Int32) (h : AH) : cal E (d + 1) 119 [vR (some t), vI x1_, vI x2_, vI x3_] h = rn E d 119 0 [some (vR (some t)), some (vI x1_), some (vI x2_), some (vI x3_)] [] h := cal_rn rfl rfl
theorem e119_0 (E : EV) (d : Nat) (t : Nat) (x1_ : Int32) (x2_ : Int32) (x3_ : Int32) (h : AH) : rn E d 119 0 [some (vR (some t)), some (vI x1_), some (vI x2_), some (vI x3_)] [] h =
    gd (h.kd t == 23) (nn (h.R t 165) fun a1 =>
    gd (h.kd a1 == 101 && inb x1_ (h.ln a1)) (if (h.I a1 x1_.toNatClampNeg) = x2_ then
    gd (h.kd t == 23) (nn (h.R t 168) fun a2 =>
    gd (h.kd a2 == 101 && inb x1_ (h.ln a2)) (if x3_ < (h.I a2 x1_.toNatClampNeg) then rn E d 119 43 [some (vR (some t)), some (vI x1_), some (vI x2_), some (vI x3_)] [] h else
    gd (h.kd t == 23) (nn (h.R t 169) fun a3 =>
    gd (h.kd a3 == 101 && inb x1_ (h.ln a3)) (if (h.I a3 x1_.toNatClampNeg) < 0 then rn E d 119 39 [some (vR (some t)), some (vI x1_), some (vI x2_), some (vI x3_)] [] h else
    gd (h.kd t == 23) (nn (h.R t 169) fun a4 =>
    gd (h.kd a4 == 101 && inb x1_ (h.ln a4)) (if (h.I a4 x1_.toNatClampNeg) ≤ x3_ then rn E d 119 43 [some (vR (some t)), some (vI x1_), some (vI x2_), some (vI x3_)] [] h else
    rn E d 119 39 [some (vR (some t)), some (vI x1_), some (vI x2_), some (vI x3_)] [] h))))))
    else rn E d 119 43 [some (vR (some t)), some (vI x1_), some (vI x2_), some (vI x3_)] [] h)) := rn_b (b := b119_0) rfl
theorem e119_39 (E : EV) (d : Nat) (t : Nat) (x1_ : Int32) (x2_ : Int32) (x3_ : Int32) (h : AH) : rn E d 119 39 [some (vR (some t)), some (vI x1_), some (vI x2_), some (vI x3_)] [] h =
    rn E d 119 44 [some (vR (some t)), some (vI x1_), some (vI x2_), some (vI x3_)] [vI 1] h := rn_b (b := b119_39) rfl
theorem e119_43 (E : EV) (d : Nat) (t : Nat) (x1_ : Int32) (x2_ : Int32) (x3_ : Int32) (h : AH) : rn E d 119 43 [some (vR (some t)), some (vI x1_), some (vI x2_), some (vI x3_)] [] h =
    rn E d 119 44 [some (vR (some t)), some (vI x1_), some (vI x2_), some (vI x3_)] [vI 0] h := rn_b (b := b119_43) rfl
theorem e119_44 (E : EV) (d : Nat) (t : Nat) (x1_ : Int32) (x2_ : Int32) (x3_ : Int32) (s0_ : Int32) (h : AH) : rn E d 119 44 [some (vR (some t)), some (vI x1_), some (vI x2_), some (vI x3_)] [vI s0_] h =
    gd (decide (s0_ = 0) || decide (s0_ = 1)) (some (Sum.inl (some (vI s0_)), h)) := rn_b (b := b119_44) rfl
/-! 120 FastPlaneModel.e()V -/
theorem c120 (E : EV) (d : Nat) (t : Nat) (h : AH) : cal E (d + 1) 120 [vR (some t)] h = rn E d 120 0 [some (vR (some t)), none] [] h := cal_rn rfl rfl
theorem e120_0 (E : EV) (d : Nat) (t : Nat) (o1_ : Option AV) (h : AH) : rn E d 120 0 [some (vR (some t)), o1_] [] h =
    gd ((h.kd t == 23) && decide (E.bs ≤ t) && true) (hs (h.setI t 152 0) fun h =>
    gd ((h.kd t == 23) && decide (E.bs ≤ t) && true) (hs (h.setI t 151 0) fun h =>
    gd (h.kd t == 23) (cV (cal E d 181 [vR (some t), vI 8, vI 0] h) th fun h =>
    rn E d 120 19 [some (vR (some t)), some (vI 1)] [] h))) := rn_b (b := b120_0) rfl
theorem e120_19 (E : EV) (d : Nat) (t : Nat) (x1_ : Int32) (h : AH) : rn E d 120 19 [some (vR (some t)), some (vI x1_)] [] h =
    gd (h.kd t == 23) (cI (cal E d 143 [vR (some t)] h) th fun v1 h =>
    if v1 = 0 then rn E d 120 52 [some (vR (some t)), some (vI x1_)] [] h else
    gd (h.kd t == 23) (if (h.I t 152) ≤ 0 then rn E d 120 52 [some (vR (some t)), some (vI x1_)] [] h else
    if x1_ = 0 then rn E d 120 44 [some (vR (some t)), some (vI x1_)] [] h else
    gd (h.kd t == 23) (cI (cal E d 210 [vR (some t)] h) th fun v2 h =>
    rn E d 120 48 [some (vR (some t)), some (vI x1_)] [vI v2] h))) := rn_b (b := b120_19) rfl
theorem e120_44 (E : EV) (d : Nat) (t : Nat) (x1_ : Int32) (h : AH) : rn E d 120 44 [some (vR (some t)), some (vI x1_)] [] h =
    gd (h.kd t == 23) (cI (cal E d 110 [vR (some t)] h) th fun v1 h =>
    rn E d 120 48 [some (vR (some t)), some (vI x1_)] [vI v1] h) := rn_b (b := b120_44) rfl
theorem e120_48 (E : EV) (d : Nat) (t : Nat) (x1_ : Int32) (s0_ : Int32) (h : AH) : rn E d 120 48 [some (vR (some t)), some (vI x1_)] [vI s0_] h =
    rn E d 120 19 [some (vR (some t)), some (vI s0_)] [] h := rn_b (b := b120_48) rfl
theorem e120_52 (E : EV) (d : Nat) (t : Nat) (x1_ : Int32) (h : AH) : rn E d 120 52 [some (vR (some t)), some (vI x1_)] [] h =
    some (Sum.inl none, h) := rn_b (b := b120_52) rfl
/-! 121 FastPlaneModel.end(I)I -/
theorem c121 (E : EV) (d : Nat) (t : Nat) (x1_ : Int32) (h : AH) : cal E (d + 1) 121 [vR (some t), vI x1_] h = rn E d 121 0 [some (vR (some t)), some (vI x1_)] [] h := cal_rn rfl rfl
theorem e121_0 (E : EV) (d : Nat) (t : Nat) (x1_ : Int32) (h : AH) : rn E d 121 0 [some (vR (some t)), some (vI x1_)] [] h =
    if x1_ < 0 then rn E d 121 12 [some (vR (some t)), some (vI x1_)] [] h else
    gd (h.kd t == 23) (if x1_ ≤ (h.I t 106) then rn E d 121 14 [some (vR (some t)), some (vI x1_)] [] h else
    rn E d 121 12 [some (vR (some t)), some (vI x1_)] [] h) := rn_b (b := b121_0) rfl
theorem e121_12 (E : EV) (d : Nat) (t : Nat) (x1_ : Int32) (h : AH) : rn E d 121 12 [some (vR (some t)), some (vI x1_)] [] h =
    some (Sum.inl (some (vI (-1))), h) := rn_b (b := b121_12) rfl
theorem e121_14 (E : EV) (d : Nat) (t : Nat) (x1_ : Int32) (h : AH) : rn E d 121 14 [some (vR (some t)), some (vI x1_)] [] h =
    gd ((h.kd t == 23) && decide (E.bs ≤ t) && true) (hs (h.setI t 106 x1_) fun h =>
    some (Sum.inl (some (vI x1_)), h)) := rn_b (b := b121_14) rfl
/-! 122 FastPlaneModel.enter(IIIIIII)V -/
theorem c122 (E : EV) (d : Nat) (t : Nat) (x1_ : Int32) (x2_ : Int32) (x3_ : Int32) (x4_ : Int32) (x5_ : Int32) (x6_ : Int32) (x7_ : Int32) (h : AH) : cal E (d + 1) 122 [vR (some t), vI x1_, vI x2_, vI x3_, vI x4_, vI x5_, vI x6_, vI x7_] h = rn E d 122 0 [some (vR (some t)), some (vI x1_), some (vI x2_), some (vI x3_), some (vI x4_), some (vI x5_), some (vI x6_), some (vI x7_), none, none, none] [] h := cal_rn rfl rfl
theorem e122_0 (E : EV) (d : Nat) (t : Nat) (x1_ : Int32) (x2_ : Int32) (x3_ : Int32) (x4_ : Int32) (x5_ : Int32) (x6_ : Int32) (x7_ : Int32) (o8_ : Option AV) (o9_ : Option AV) (o10_ : Option AV) (h : AH) : rn E d 122 0 [some (vR (some t)), some (vI x1_), some (vI x2_), some (vI x3_), some (vI x4_), some (vI x5_), some (vI x6_), some (vI x7_), o8_, o9_, o10_] [] h =
    gd (h.kd t == 23) (gd (h.kd t == 23) (nn (h.R t 132) fun a1 =>
    gd (h.kd a1 == 101 && inb ((64 * (h.I t 135)) + x1_) (h.ln a1)) (hs (h.I a1 ((64 * (h.I t 135)) + x1_).toNatClampNeg) fun x2 =>
    if ((x6_ >>> (x2 &&& 31)) &&& 1) = 0 then
    gd (h.kd t == 23) (cI (cal E d 133 [vR (some t), vI x4_, vI x2, vI x5_, vI 20] h) th fun v3 h =>
    if v3 = 0 then rn E d 122 45 [some (vR (some t)), some (vI x1_), some (vI x2_), some (vI x3_), some (vI x4_), some (vI x5_), some (vI x6_), some (vI x7_), some (vI x2), o9_, o10_] [] h else
    rn E d 122 46 [some (vR (some t)), some (vI x1_), some (vI x2_), some (vI x3_), some (vI x4_), some (vI x5_), some (vI x6_), some (vI x7_), some (vI x2), o9_, o10_] [vI 1] h)
    else rn E d 122 45 [some (vR (some t)), some (vI x1_), some (vI x2_), some (vI x3_), some (vI x4_), some (vI x5_), some (vI x6_), some (vI x7_), some (vI x2), o9_, o10_] [] h))) := rn_b (b := b122_0) rfl
theorem e122_45 (E : EV) (d : Nat) (t : Nat) (x1_ : Int32) (x2_ : Int32) (x3_ : Int32) (x4_ : Int32) (x5_ : Int32) (x6_ : Int32) (x7_ : Int32) (x8_ : Int32) (o9_ : Option AV) (o10_ : Option AV) (h : AH) : rn E d 122 45 [some (vR (some t)), some (vI x1_), some (vI x2_), some (vI x3_), some (vI x4_), some (vI x5_), some (vI x6_), some (vI x7_), some (vI x8_), o9_, o10_] [] h =
    rn E d 122 46 [some (vR (some t)), some (vI x1_), some (vI x2_), some (vI x3_), some (vI x4_), some (vI x5_), some (vI x6_), some (vI x7_), some (vI x8_), o9_, o10_] [vI 0] h := rn_b (b := b122_45) rfl
theorem e122_46 (E : EV) (d : Nat) (t : Nat) (x1_ : Int32) (x2_ : Int32) (x3_ : Int32) (x4_ : Int32) (x5_ : Int32) (x6_ : Int32) (x7_ : Int32) (x8_ : Int32) (o9_ : Option AV) (o10_ : Option AV) (s0_ : Int32) (h : AH) : rn E d 122 46 [some (vR (some t)), some (vI x1_), some (vI x2_), some (vI x3_), some (vI x4_), some (vI x5_), some (vI x6_), some (vI x7_), some (vI x8_), o9_, o10_] [vI s0_] h =
    gd (h.kd t == 23) (cI (cal E d 133 [vR (some t), vI x4_, vI x8_, vI x5_, vI 9] h) th fun v1 h =>
    if s0_ = 0 then rn E d 122 110 [some (vR (some t)), some (vI x1_), some (vI x2_), some (vI x3_), some (vI x4_), some (vI x5_), some (vI x6_), some (vI x7_), some (vI x8_), some (vI s0_), some (vI v1)] [] h else
    if x7_ < (x2_ + 3) then rn E d 122 110 [some (vR (some t)), some (vI x1_), some (vI x2_), some (vI x3_), some (vI x4_), some (vI x5_), some (vI x6_), some (vI x7_), some (vI x8_), some (vI s0_), some (vI v1)] [] h else
    gd (h.kd t == 23) (nn (h.R t 181) fun a2 =>
    gd (h.kd a2 == 101 && inb (((100 * x1_) + x2_) + 3) (h.ln a2)) (if (h.I a2 (((100 * x1_) + x2_) + 3).toNatClampNeg) ≤ (x3_ + 1) then rn E d 122 110 [some (vR (some t)), some (vI x1_), some (vI x2_), some (vI x3_), some (vI x4_), some (vI x5_), some (vI x6_), some (vI x7_), some (vI x8_), some (vI s0_), some (vI v1)] [] h else
    gd (h.kd t == 23) (nn (h.R t 181) fun a3 =>
    gd (h.kd a3 == 101 && inb (((100 * x1_) + x2_) + 3) (h.ln a3) && decide (E.bs ≤ a3)) (hs (h.setI a3 (((100 * x1_) + x2_) + 3).toNatClampNeg (x3_ + 1)) fun h =>
    rn E d 122 110 [some (vR (some t)), some (vI x1_), some (vI x2_), some (vI x3_), some (vI x4_), some (vI x5_), some (vI x6_), some (vI x7_), some (vI x8_), some (vI s0_), some (vI v1)] [] h))))) := rn_b (b := b122_46) rfl
theorem e122_110 (E : EV) (d : Nat) (t : Nat) (x1_ : Int32) (x2_ : Int32) (x3_ : Int32) (x4_ : Int32) (x5_ : Int32) (x6_ : Int32) (x7_ : Int32) (x8_ : Int32) (x9_ : Int32) (x10_ : Int32) (h : AH) : rn E d 122 110 [some (vR (some t)), some (vI x1_), some (vI x2_), some (vI x3_), some (vI x4_), some (vI x5_), some (vI x6_), some (vI x7_), some (vI x8_), some (vI x9_), some (vI x10_)] [] h =
    if x10_ = 0 then rn E d 122 158 [some (vR (some t)), some (vI x1_), some (vI x2_), some (vI x3_), some (vI x4_), some (vI x5_), some (vI x6_), some (vI x7_), some (vI x8_), some (vI x9_), some (vI x10_)] [] h else
    if x7_ < (x2_ + 2) then rn E d 122 158 [some (vR (some t)), some (vI x1_), some (vI x2_), some (vI x3_), some (vI x4_), some (vI x5_), some (vI x6_), some (vI x7_), some (vI x8_), some (vI x9_), some (vI x10_)] [] h else
    gd (h.kd t == 23) (nn (h.R t 181) fun a1 =>
    gd (h.kd a1 == 101 && inb (((100 * x1_) + x2_) + 2) (h.ln a1)) (if (h.I a1 (((100 * x1_) + x2_) + 2).toNatClampNeg) ≤ (x3_ + 3) then rn E d 122 158 [some (vR (some t)), some (vI x1_), some (vI x2_), some (vI x3_), some (vI x4_), some (vI x5_), some (vI x6_), some (vI x7_), some (vI x8_), some (vI x9_), some (vI x10_)] [] h else
    gd (h.kd t == 23) (nn (h.R t 181) fun a2 =>
    gd (h.kd a2 == 101 && inb (((100 * x1_) + x2_) + 2) (h.ln a2) && decide (E.bs ≤ a2)) (hs (h.setI a2 (((100 * x1_) + x2_) + 2).toNatClampNeg (x3_ + 3)) fun h =>
    rn E d 122 158 [some (vR (some t)), some (vI x1_), some (vI x2_), some (vI x3_), some (vI x4_), some (vI x5_), some (vI x6_), some (vI x7_), some (vI x8_), some (vI x9_), some (vI x10_)] [] h)))) := rn_b (b := b122_110) rfl
theorem e122_158 (E : EV) (d : Nat) (t : Nat) (x1_ : Int32) (x2_ : Int32) (x3_ : Int32) (x4_ : Int32) (x5_ : Int32) (x6_ : Int32) (x7_ : Int32) (x8_ : Int32) (x9_ : Int32) (x10_ : Int32) (h : AH) : rn E d 122 158 [some (vR (some t)), some (vI x1_), some (vI x2_), some (vI x3_), some (vI x4_), some (vI x5_), some (vI x6_), some (vI x7_), some (vI x8_), some (vI x9_), some (vI x10_)] [] h =
    some (Sum.inl none, h) := rn_b (b := b122_158) rfl
/-! 123 FastPlaneModel.estimate(II)I -/
theorem c123 (E : EV) (d : Nat) (t : Nat) (x1_ : Int32) (x2_ : Int32) (h : AH) : cal E (d + 1) 123 [vR (some t), vI x1_, vI x2_] h = rn E d 123 0 [some (vR (some t)), some (vI x1_), some (vI x2_)] [] h := cal_rn rfl rfl
theorem e123_0 (E : EV) (d : Nat) (t : Nat) (x1_ : Int32) (x2_ : Int32) (h : AH) : rn E d 123 0 [some (vR (some t)), some (vI x1_), some (vI x2_)] [] h =
    cI (cal E d 148 [vI x1_] h) th fun v1 h =>
    if v1 = 0 then rn E d 123 28 [some (vR (some t)), some (vI x1_), some (vI x2_)] [] h else
    cI (cal E d 144 [vI x2_, vI 0, vI 99999] h) th fun v2 h =>
    if v2 = 0 then rn E d 123 28 [some (vR (some t)), some (vI x1_), some (vI x2_)] [] h else
    gd (h.kd t == 23) (cI (cal E d 205 [vR (some t), vI 1, vI x1_, vI x2_] h) th fun v3 h =>
    rn E d 123 29 [some (vR (some t)), some (vI x1_), some (vI x2_)] [vI v3] h) := rn_b (b := b123_0) rfl
theorem e123_28 (E : EV) (d : Nat) (t : Nat) (x1_ : Int32) (x2_ : Int32) (h : AH) : rn E d 123 28 [some (vR (some t)), some (vI x1_), some (vI x2_)] [] h =
    rn E d 123 29 [some (vR (some t)), some (vI x1_), some (vI x2_)] [vI (-1)] h := rn_b (b := b123_28) rfl
theorem e123_29 (E : EV) (d : Nat) (t : Nat) (x1_ : Int32) (x2_ : Int32) (s0_ : Int32) (h : AH) : rn E d 123 29 [some (vR (some t)), some (vI x1_), some (vI x2_)] [vI s0_] h =
    some (Sum.inl (some (vI s0_)), h) := rn_b (b := b123_29) rfl
/-! 124 FastPlaneModel.fails(II)V -/
theorem c124 (E : EV) (d : Nat) (t : Nat) (x1_ : Int32) (x2_ : Int32) (h : AH) : cal E (d + 1) 124 [vR (some t), vI x1_, vI x2_] h = rn E d 124 0 [some (vR (some t)), some (vI x1_), some (vI x2_)] [] h := cal_rn rfl rfl
theorem e124_0 (E : EV) (d : Nat) (t : Nat) (x1_ : Int32) (x2_ : Int32) (h : AH) : rn E d 124 0 [some (vR (some t)), some (vI x1_), some (vI x2_)] [] h =
    gd (h.kd t == 23) (if (h.I t 108) ≤ 0 then rn E d 124 8 [some (vR (some t)), some (vI x1_), some (vI x2_)] [] h else
    some (Sum.inl none, h)) := rn_b (b := b124_0) rfl
theorem e124_8 (E : EV) (d : Nat) (t : Nat) (x1_ : Int32) (x2_ : Int32) (h : AH) : rn E d 124 8 [some (vR (some t)), some (vI x1_), some (vI x2_)] [] h =
    gd ((h.kd t == 23) && decide (E.bs ≤ t) && true) (hs (h.setI t 108 x1_) fun h =>
    gd ((h.kd t == 23) && decide (E.bs ≤ t) && true) (hs (h.setI t 109 x2_) fun h =>
    some (Sum.inl none, h))) := rn_b (b := b124_8) rfl
/-! 125 FastPlaneModel.fault(I)I -/
theorem c125 (E : EV) (d : Nat) (t : Nat) (x1_ : Int32) (h : AH) : cal E (d + 1) 125 [vR (some t), vI x1_] h = rn E d 125 0 [some (vR (some t)), some (vI x1_)] [] h := cal_rn rfl rfl
theorem e125_0 (E : EV) (d : Nat) (t : Nat) (x1_ : Int32) (h : AH) : rn E d 125 0 [some (vR (some t)), some (vI x1_)] [] h =
    if x1_ = 0 then
    gd (h.kd t == 23) (rn E d 125 24 [some (vR (some t)), some (vI x1_)] [vI (h.I t 108)] h)
    else rn E d 125 11 [some (vR (some t)), some (vI x1_)] [] h := rn_b (b := b125_0) rfl
theorem e125_11 (E : EV) (d : Nat) (t : Nat) (x1_ : Int32) (h : AH) : rn E d 125 11 [some (vR (some t)), some (vI x1_)] [] h =
    if x1_ = 1 then
    gd (h.kd t == 23) (rn E d 125 24 [some (vR (some t)), some (vI x1_)] [vI (h.I t 109)] h)
    else rn E d 125 23 [some (vR (some t)), some (vI x1_)] [] h := rn_b (b := b125_11) rfl
theorem e125_23 (E : EV) (d : Nat) (t : Nat) (x1_ : Int32) (h : AH) : rn E d 125 23 [some (vR (some t)), some (vI x1_)] [] h =
    rn E d 125 24 [some (vR (some t)), some (vI x1_)] [vI (-1)] h := rn_b (b := b125_23) rfl
theorem e125_24 (E : EV) (d : Nat) (t : Nat) (x1_ : Int32) (s0_ : Int32) (h : AH) : rn E d 125 24 [some (vR (some t)), some (vI x1_)] [vI s0_] h =
    some (Sum.inl (some (vI s0_)), h) := rn_b (b := b125_24) rfl
/-! 126 FastPlaneModel.feed(IIIII)I -/
theorem c126 (E : EV) (d : Nat) (t : Nat) (x1_ : Int32) (x2_ : Int32) (x3_ : Int32) (x4_ : Int32) (x5_ : Int32) (h : AH) : cal E (d + 1) 126 [vR (some t), vI x1_, vI x2_, vI x3_, vI x4_, vI x5_] h = rn E d 126 0 [some (vR (some t)), some (vI x1_), some (vI x2_), some (vI x3_), some (vI x4_), some (vI x5_), none, none] [] h := cal_rn rfl rfl
theorem e126_0 (E : EV) (d : Nat) (t : Nat) (x1_ : Int32) (x2_ : Int32) (x3_ : Int32) (x4_ : Int32) (x5_ : Int32) (o6_ : Option AV) (o7_ : Option AV) (h : AH) : rn E d 126 0 [some (vR (some t)), some (vI x1_), some (vI x2_), some (vI x3_), some (vI x4_), some (vI x5_), o6_, o7_] [] h =
    gd (h.kd t == 23) (if ((h.I t 106) + 20) ≤ 1300 then rn E d 126 15 [some (vR (some t)), some (vI x1_), some (vI x2_), some (vI x3_), some (vI x4_), some (vI x5_), o6_, o7_] [] h else
    some (Sum.inl (some (vI (-1))), h)) := rn_b (b := b126_0) rfl
theorem e126_15 (E : EV) (d : Nat) (t : Nat) (x1_ : Int32) (x2_ : Int32) (x3_ : Int32) (x4_ : Int32) (x5_ : Int32) (o6_ : Option AV) (o7_ : Option AV) (h : AH) : rn E d 126 15 [some (vR (some t)), some (vI x1_), some (vI x2_), some (vI x3_), some (vI x4_), some (vI x5_), o6_, o7_] [] h =
    rn E d 126 18 [some (vR (some t)), some (vI x1_), some (vI x2_), some (vI x3_), some (vI x4_), some (vI x5_), some (vI 0), o7_] [] h := rn_b (b := b126_15) rfl
theorem e126_18 (E : EV) (d : Nat) (t : Nat) (x1_ : Int32) (x2_ : Int32) (x3_ : Int32) (x4_ : Int32) (x5_ : Int32) (x6_ : Int32) (o7_ : Option AV) (h : AH) : rn E d 126 18 [some (vR (some t)), some (vI x1_), some (vI x2_), some (vI x3_), some (vI x4_), some (vI x5_), some (vI x6_), o7_] [] h =
    if 20 ≤ x6_ then rn E d 126 105 [some (vR (some t)), some (vI x1_), some (vI x2_), some (vI x3_), some (vI x4_), some (vI x5_), some (vI x6_), o7_] [] h else
    if 4 ≤ x6_ then rn E d 126 35 [some (vR (some t)), some (vI x1_), some (vI x2_), some (vI x3_), some (vI x4_), some (vI x5_), some (vI x6_), o7_] [] h else
    rn E d 126 71 [some (vR (some t)), some (vI x1_), some (vI x2_), some (vI x3_), some (vI x4_), some (vI x5_), some (vI x6_), o7_] [vI x1_] h := rn_b (b := b126_18) rfl
theorem e126_35 (E : EV) (d : Nat) (t : Nat) (x1_ : Int32) (x2_ : Int32) (x3_ : Int32) (x4_ : Int32) (x5_ : Int32) (x6_ : Int32) (o7_ : Option AV) (h : AH) : rn E d 126 35 [some (vR (some t)), some (vI x1_), some (vI x2_), some (vI x3_), some (vI x4_), some (vI x5_), some (vI x6_), o7_] [] h =
    if 8 ≤ x6_ then rn E d 126 46 [some (vR (some t)), some (vI x1_), some (vI x2_), some (vI x3_), some (vI x4_), some (vI x5_), some (vI x6_), o7_] [] h else
    rn E d 126 71 [some (vR (some t)), some (vI x1_), some (vI x2_), some (vI x3_), some (vI x4_), some (vI x5_), some (vI x6_), o7_] [vI x2_] h := rn_b (b := b126_35) rfl
theorem e126_46 (E : EV) (d : Nat) (t : Nat) (x1_ : Int32) (x2_ : Int32) (x3_ : Int32) (x4_ : Int32) (x5_ : Int32) (x6_ : Int32) (o7_ : Option AV) (h : AH) : rn E d 126 46 [some (vR (some t)), some (vI x1_), some (vI x2_), some (vI x3_), some (vI x4_), some (vI x5_), some (vI x6_), o7_] [] h =
    if 12 ≤ x6_ then rn E d 126 57 [some (vR (some t)), some (vI x1_), some (vI x2_), some (vI x3_), some (vI x4_), some (vI x5_), some (vI x6_), o7_] [] h else
    rn E d 126 71 [some (vR (some t)), some (vI x1_), some (vI x2_), some (vI x3_), some (vI x4_), some (vI x5_), some (vI x6_), o7_] [vI x3_] h := rn_b (b := b126_46) rfl
theorem e126_57 (E : EV) (d : Nat) (t : Nat) (x1_ : Int32) (x2_ : Int32) (x3_ : Int32) (x4_ : Int32) (x5_ : Int32) (x6_ : Int32) (o7_ : Option AV) (h : AH) : rn E d 126 57 [some (vR (some t)), some (vI x1_), some (vI x2_), some (vI x3_), some (vI x4_), some (vI x5_), some (vI x6_), o7_] [] h =
    if 16 ≤ x6_ then rn E d 126 69 [some (vR (some t)), some (vI x1_), some (vI x2_), some (vI x3_), some (vI x4_), some (vI x5_), some (vI x6_), o7_] [] h else
    rn E d 126 71 [some (vR (some t)), some (vI x1_), some (vI x2_), some (vI x3_), some (vI x4_), some (vI x5_), some (vI x6_), o7_] [vI x4_] h := rn_b (b := b126_57) rfl
theorem e126_69 (E : EV) (d : Nat) (t : Nat) (x1_ : Int32) (x2_ : Int32) (x3_ : Int32) (x4_ : Int32) (x5_ : Int32) (x6_ : Int32) (o7_ : Option AV) (h : AH) : rn E d 126 69 [some (vR (some t)), some (vI x1_), some (vI x2_), some (vI x3_), some (vI x4_), some (vI x5_), some (vI x6_), o7_] [] h =
    rn E d 126 71 [some (vR (some t)), some (vI x1_), some (vI x2_), some (vI x3_), some (vI x4_), some (vI x5_), some (vI x6_), o7_] [vI x5_] h := rn_b (b := b126_69) rfl
theorem e126_71 (E : EV) (d : Nat) (t : Nat) (x1_ : Int32) (x2_ : Int32) (x3_ : Int32) (x4_ : Int32) (x5_ : Int32) (x6_ : Int32) (o7_ : Option AV) (s0_ : Int32) (h : AH) : rn E d 126 71 [some (vR (some t)), some (vI x1_), some (vI x2_), some (vI x3_), some (vI x4_), some (vI x5_), some (vI x6_), o7_] [vI s0_] h =
    gd (h.kd t == 23) (gd (h.kd t == 23) (nn (h.R t 104) fun a1 =>
    gd ((h.kd a1 == 102 || h.kd a1 == 103) && inb ((h.I t 106) + x6_) (h.ln a1) && decide (E.bs ≤ a1)) (hs (h.setI a1 ((h.I t 106) + x6_).toNatClampNeg (if h.kd a1 = 102 then ((s0_ >>> ((24 - (8 * (x6_ &&& 3))) &&& 31)).toInt8.toInt32).toInt8.toInt32 else ((s0_ >>> ((24 - (8 * (x6_ &&& 3))) &&& 31)).toInt8.toInt32) &&& 1)) fun h =>
    hs (x6_ + 1) fun x2 =>
    rn E d 126 18 [some (vR (some t)), some (vI x1_), some (vI x2_), some (vI x3_), some (vI x4_), some (vI x5_), some (vI x2), some (vI s0_)] [] h))) := rn_b (b := b126_71) rfl
theorem e126_105 (E : EV) (d : Nat) (t : Nat) (x1_ : Int32) (x2_ : Int32) (x3_ : Int32) (x4_ : Int32) (x5_ : Int32) (x6_ : Int32) (o7_ : Option AV) (h : AH) : rn E d 126 105 [some (vR (some t)), some (vI x1_), some (vI x2_), some (vI x3_), some (vI x4_), some (vI x5_), some (vI x6_), o7_] [] h =
    gd (h.kd t == 23) (gd ((h.kd t == 23) && decide (E.bs ≤ t) && true) (hs (h.setI t 106 ((h.I t 106) + 20)) fun h =>
    gd (h.kd t == 23) (some (Sum.inl (some (vI (h.I t 106))), h)))) := rn_b (b := b126_105) rfl
/-! 127 FastPlaneModel.fillPlan()V -/
theorem c127 (E : EV) (d : Nat) (t : Nat) (h : AH) : cal E (d + 1) 127 [vR (some t)] h = rn E d 127 0 [some (vR (some t)), none, none, none, none] [] h := cal_rn rfl rfl
theorem e127_0 (E : EV) (d : Nat) (t : Nat) (o1_ : Option AV) (o2_ : Option AV) (o3_ : Option AV) (o4_ : Option AV) (h : AH) : rn E d 127 0 [some (vR (some t)), o1_, o2_, o3_, o4_] [] h =
    rn E d 127 2 [some (vR (some t)), some (vI 0), o2_, o3_, o4_] [] h := rn_b (b := b127_0) rfl
theorem e127_2 (E : EV) (d : Nat) (t : Nat) (x1_ : Int32) (o2_ : Option AV) (o3_ : Option AV) (o4_ : Option AV) (h : AH) : rn E d 127 2 [some (vR (some t)), some (vI x1_), o2_, o3_, o4_] [] h =
    if 4096 ≤ x1_ then rn E d 127 31 [some (vR (some t)), some (vI x1_), o2_, o3_, o4_] [] h else
    gd (h.kd t == 23) (gd (h.kd t == 23) (nn (h.R t 175) fun a1 =>
    gd (h.kd a1 == 101 && inb ((4096 * (h.I t 177)) + x1_) (h.ln a1) && decide (E.bs ≤ a1)) (hs (h.setI a1 ((4096 * (h.I t 177)) + x1_).toNatClampNeg 0) fun h =>
    hs (x1_ + 1) fun x2 =>
    rn E d 127 2 [some (vR (some t)), some (vI x2), o2_, o3_, o4_] [] h))) := rn_b (b := b127_2) rfl
theorem e127_31 (E : EV) (d : Nat) (t : Nat) (x1_ : Int32) (o2_ : Option AV) (o3_ : Option AV) (o4_ : Option AV) (h : AH) : rn E d 127 31 [some (vR (some t)), some (vI x1_), o2_, o3_, o4_] [] h =
    gd (h.kd t == 23) (hs ((h.I t 177) - 1) fun x1 =>
    rn E d 127 38 [some (vR (some t)), some (vI x1), o2_, o3_, o4_] [] h) := rn_b (b := b127_31) rfl
theorem e127_38 (E : EV) (d : Nat) (t : Nat) (x1_ : Int32) (o2_ : Option AV) (o3_ : Option AV) (o4_ : Option AV) (h : AH) : rn E d 127 38 [some (vR (some t)), some (vI x1_), o2_, o3_, o4_] [] h =
    if x1_ < 0 then rn E d 127 169 [some (vR (some t)), some (vI x1_), o2_, o3_, o4_] [] h else
    rn E d 127 44 [some (vR (some t)), some (vI x1_), some (vI 0), o3_, o4_] [] h := rn_b (b := b127_38) rfl
theorem e127_44 (E : EV) (d : Nat) (t : Nat) (x1_ : Int32) (x2_ : Int32) (o3_ : Option AV) (o4_ : Option AV) (h : AH) : rn E d 127 44 [some (vR (some t)), some (vI x1_), some (vI x2_), o3_, o4_] [] h =
    if 4096 ≤ x2_ then rn E d 127 163 [some (vR (some t)), some (vI x1_), some (vI x2_), o3_, o4_] [] h else
    gd (h.kd t == 23) (cV (cal E d 128 [vR (some t), vI x2_] h) th fun h =>
    rn E d 127 61 [some (vR (some t)), some (vI x1_), some (vI x2_), some (vI 1), some (vI 0)] [] h) := rn_b (b := b127_44) rfl
theorem e127_61 (E : EV) (d : Nat) (t : Nat) (x1_ : Int32) (x2_ : Int32) (x3_ : Int32) (x4_ : Int32) (h : AH) : rn E d 127 61 [some (vR (some t)), some (vI x1_), some (vI x2_), some (vI x3_), some (vI x4_)] [] h =
    if 3 ≤ x4_ then rn E d 127 129 [some (vR (some t)), some (vI x1_), some (vI x2_), some (vI x3_), some (vI x4_)] [] h else
    if x3_ = 0 then rn E d 127 121 [some (vR (some t)), some (vI x1_), some (vI x2_), some (vI x3_), some (vI x4_)] [] h else
    gd (h.kd t == 23) (cI (cal E d 204 [vR (some t)] h) th fun v1 h =>
    if v1 ≤ x4_ then rn E d 127 107 [some (vR (some t)), some (vI x1_), some (vI x2_), some (vI x3_), some (vI x4_)] [] h else
    gd (h.kd t == 23) (nn (h.R t 176) fun a2 =>
    gd (h.kd a2 == 101 && inb x4_ (h.ln a2)) (gd (h.kd t == 23) (gd (h.kd t == 23) (nn (h.R t 131) fun a3 =>
    gd (h.kd a3 == 101 && inb ((3 * (h.I t 135)) + x4_) (h.ln a3)) (if (h.I a3 ((3 * (h.I t 135)) + x4_).toNatClampNeg) < (h.I a2 x4_.toNatClampNeg) then rn E d 127 121 [some (vR (some t)), some (vI x1_), some (vI x2_), some (vI x3_), some (vI x4_)] [] h else
    rn E d 127 117 [some (vR (some t)), some (vI x1_), some (vI x2_), some (vI x3_), some (vI x4_)] [] h)))))) := rn_b (b := b127_61) rfl
theorem e127_107 (E : EV) (d : Nat) (t : Nat) (x1_ : Int32) (x2_ : Int32) (x3_ : Int32) (x4_ : Int32) (h : AH) : rn E d 127 107 [some (vR (some t)), some (vI x1_), some (vI x2_), some (vI x3_), some (vI x4_)] [] h =
    gd (h.kd t == 23) (nn (h.R t 176) fun a1 =>
    gd (h.kd a1 == 101 && inb x4_ (h.ln a1)) (if (h.I a1 x4_.toNatClampNeg) = 0 then
    rn E d 127 117 [some (vR (some t)), some (vI x1_), some (vI x2_), some (vI x3_), some (vI x4_)] [] h
    else rn E d 127 121 [some (vR (some t)), some (vI x1_), some (vI x2_), some (vI x3_), some (vI x4_)] [] h)) := rn_b (b := b127_107) rfl
theorem e127_117 (E : EV) (d : Nat) (t : Nat) (x1_ : Int32) (x2_ : Int32) (x3_ : Int32) (x4_ : Int32) (h : AH) : rn E d 127 117 [some (vR (some t)), some (vI x1_), some (vI x2_), some (vI x3_), some (vI x4_)] [] h =
    rn E d 127 122 [some (vR (some t)), some (vI x1_), some (vI x2_), some (vI x3_), some (vI x4_)] [vI 1] h := rn_b (b := b127_117) rfl
theorem e127_121 (E : EV) (d : Nat) (t : Nat) (x1_ : Int32) (x2_ : Int32) (x3_ : Int32) (x4_ : Int32) (h : AH) : rn E d 127 121 [some (vR (some t)), some (vI x1_), some (vI x2_), some (vI x3_), some (vI x4_)] [] h =
    rn E d 127 122 [some (vR (some t)), some (vI x1_), some (vI x2_), some (vI x3_), some (vI x4_)] [vI 0] h := rn_b (b := b127_121) rfl
theorem e127_122 (E : EV) (d : Nat) (t : Nat) (x1_ : Int32) (x2_ : Int32) (x3_ : Int32) (x4_ : Int32) (s0_ : Int32) (h : AH) : rn E d 127 122 [some (vR (some t)), some (vI x1_), some (vI x2_), some (vI x3_), some (vI x4_)] [vI s0_] h =
    hs (x4_ + 1) fun x1 =>
    rn E d 127 61 [some (vR (some t)), some (vI x1_), some (vI x2_), some (vI s0_), some (vI x1)] [] h := rn_b (b := b127_122) rfl
theorem e127_129 (E : EV) (d : Nat) (t : Nat) (x1_ : Int32) (x2_ : Int32) (x3_ : Int32) (x4_ : Int32) (h : AH) : rn E d 127 129 [some (vR (some t)), some (vI x1_), some (vI x2_), some (vI x3_), some (vI x4_)] [] h =
    gd (h.kd t == 23) (if x3_ = 0 then rn E d 127 153 [some (vR (some t)), some (vI x1_), some (vI x2_), some (vI x3_), some (vI x4_)] [vI ((4096 * x1_) + x2_), vR (h.R t 175)] h else
    gd (h.kd t == 23) (hs (h.R t 175) fun q2 =>
    cI (cal E d 111 [vR (some t), vI x1_, vI x2_] h) th fun v1 h =>
    rn E d 127 156 [some (vR (some t)), some (vI x1_), some (vI x2_), some (vI x3_), some (vI x4_)] [vI v1, vI ((4096 * x1_) + x2_), vR q2] h)) := rn_b (b := b127_129) rfl
theorem e127_153 (E : EV) (d : Nat) (t : Nat) (x1_ : Int32) (x2_ : Int32) (x3_ : Int32) (x4_ : Int32) (s0_ : Option Nat) (s1_ : Int32) (h : AH) : rn E d 127 153 [some (vR (some t)), some (vI x1_), some (vI x2_), some (vI x3_), some (vI x4_)] [vI s1_, vR s0_] h =
    rn E d 127 156 [some (vR (some t)), some (vI x1_), some (vI x2_), some (vI x3_), some (vI x4_)] [vI 1000000, vI s1_, vR s0_] h := rn_b (b := b127_153) rfl
theorem e127_156 (E : EV) (d : Nat) (t : Nat) (x1_ : Int32) (x2_ : Int32) (x3_ : Int32) (x4_ : Int32) (s0_ : Option Nat) (s1_ : Int32) (s2_ : Int32) (h : AH) : rn E d 127 156 [some (vR (some t)), some (vI x1_), some (vI x2_), some (vI x3_), some (vI x4_)] [vI s2_, vI s1_, vR s0_] h =
    nn s0_ fun a1 =>
    gd (h.kd a1 == 101 && inb s1_ (h.ln a1) && decide (E.bs ≤ a1)) (hs (h.setI a1 s1_.toNatClampNeg s2_) fun h =>
    hs (x2_ + 1) fun x2 =>
    rn E d 127 44 [some (vR (some t)), some (vI x1_), some (vI x2), some (vI x3_), some (vI x4_)] [] h) := rn_b (b := b127_156) rfl
theorem e127_163 (E : EV) (d : Nat) (t : Nat) (x1_ : Int32) (x2_ : Int32) (o3_ : Option AV) (o4_ : Option AV) (h : AH) : rn E d 127 163 [some (vR (some t)), some (vI x1_), some (vI x2_), o3_, o4_] [] h =
    hs (x1_ + (-1)) fun x1 =>
    rn E d 127 38 [some (vR (some t)), some (vI x1), some (vI x2_), o3_, o4_] [] h := rn_b (b := b127_163) rfl
theorem e127_169 (E : EV) (d : Nat) (t : Nat) (x1_ : Int32) (o2_ : Option AV) (o3_ : Option AV) (o4_ : Option AV) (h : AH) : rn E d 127 169 [some (vR (some t)), some (vI x1_), o2_, o3_, o4_] [] h =
    some (Sum.inl none, h) := rn_b (b := b127_169) rfl
/-! 128 FastPlaneModel.fillUp(I)V -/
theorem c128 (E : EV) (d : Nat) (t : Nat) (x1_ : Int32) (h : AH) : cal E (d + 1) 128 [vR (some t), vI x1_] h = rn E d 128 0 [some (vR (some t)), some (vI x1_)] [] h := cal_rn rfl rfl
theorem e128_0 (E : EV) (d : Nat) (t : Nat) (x1_ : Int32) (h : AH) : rn E d 128 0 [some (vR (some t)), some (vI x1_)] [] h =
    gd (h.kd t == 23) (nn (h.R t 176) fun a1 =>
    gd (h.kd a1 == 101 && inb 0 (h.ln a1) && decide (E.bs ≤ a1)) (hs (h.setI a1 (0 : Int32).toNatClampNeg (x1_ &&& 15)) fun h =>
    gd (h.kd t == 23) (nn (h.R t 176) fun a2 =>
    gd (h.kd a2 == 101 && inb 1 (h.ln a2) && decide (E.bs ≤ a2)) (hs (h.setI a2 (1 : Int32).toNatClampNeg ((x1_ >>> (4 &&& 31)) &&& 15)) fun h =>
    gd (h.kd t == 23) (nn (h.R t 176) fun a3 =>
    gd (h.kd a3 == 101 && inb 2 (h.ln a3) && decide (E.bs ≤ a3)) (hs (h.setI a3 (2 : Int32).toNatClampNeg ((x1_ >>> (8 &&& 31)) &&& 15)) fun h =>
    some (Sum.inl none, h))))))) := rn_b (b := b128_0) rfl
/-! 129 FastPlaneModel.findMoves(I)V -/
theorem c129 (E : EV) (d : Nat) (t : Nat) (x1_ : Int32) (h : AH) : cal E (d + 1) 129 [vR (some t), vI x1_] h = rn E d 129 0 [some (vR (some t)), some (vI x1_), none, none, none] [] h := cal_rn rfl rfl
theorem e129_0 (E : EV) (d : Nat) (t : Nat) (x1_ : Int32) (o2_ : Option AV) (o3_ : Option AV) (o4_ : Option AV) (h : AH) : rn E d 129 0 [some (vR (some t)), some (vI x1_), o2_, o3_, o4_] [] h =
    rn E d 129 2 [some (vR (some t)), some (vI x1_), some (vI 0), o3_, o4_] [] h := rn_b (b := b129_0) rfl
theorem e129_2 (E : EV) (d : Nat) (t : Nat) (x1_ : Int32) (x2_ : Int32) (o3_ : Option AV) (o4_ : Option AV) (h : AH) : rn E d 129 2 [some (vR (some t)), some (vI x1_), some (vI x2_), o3_, o4_] [] h =
    if 12 ≤ x2_ then rn E d 129 23 [some (vR (some t)), some (vI x1_), some (vI x2_), o3_, o4_] [] h else
    gd (h.kd t == 23) (nn (h.R t 170) fun a1 =>
    gd (h.kd a1 == 101 && inb x2_ (h.ln a1) && decide (E.bs ≤ a1)) (hs (h.setI a1 x2_.toNatClampNeg 1000000) fun h =>
    hs (x2_ + 1) fun x2 =>
    rn E d 129 2 [some (vR (some t)), some (vI x1_), some (vI x2), o3_, o4_] [] h)) := rn_b (b := b129_2) rfl
theorem e129_23 (E : EV) (d : Nat) (t : Nat) (x1_ : Int32) (x2_ : Int32) (o3_ : Option AV) (o4_ : Option AV) (h : AH) : rn E d 129 23 [some (vR (some t)), some (vI x1_), some (vI x2_), o3_, o4_] [] h =
    rn E d 129 25 [some (vR (some t)), some (vI x1_), some (vI 0), o3_, o4_] [] h := rn_b (b := b129_23) rfl
theorem e129_25 (E : EV) (d : Nat) (t : Nat) (x1_ : Int32) (x2_ : Int32) (o3_ : Option AV) (o4_ : Option AV) (h : AH) : rn E d 129 25 [some (vR (some t)), some (vI x1_), some (vI x2_), o3_, o4_] [] h =
    gd (h.kd t == 23) (if (h.I t 171) ≤ x2_ then rn E d 129 86 [some (vR (some t)), some (vI x1_), some (vI x2_), o3_, o4_] [] h else
    gd (h.kd t == 23) (cI (cal E d 119 [vR (some t), vI x2_, vI 0, vI x1_] h) th fun v1 h =>
    if v1 = 0 then rn E d 129 80 [some (vR (some t)), some (vI x1_), some (vI x2_), o3_, o4_] [] h else
    gd (h.kd t == 23) (nn (h.R t 167) fun a2 =>
    gd (h.kd a2 == 101 && inb x2_ (h.ln a2)) (gd (h.kd t == 23) (gd (h.kd t == 23) (nn (h.R t 166) fun a3 =>
    gd (h.kd a3 == 101 && inb x2_ (h.ln a3)) (nn (h.R t 170) fun a4 =>
    gd (h.kd a4 == 101 && inb (h.I a3 x2_.toNatClampNeg) (h.ln a4)) (if (h.I a4 (h.I a3 x2_.toNatClampNeg).toNatClampNeg) ≤ (h.I a2 x2_.toNatClampNeg) then rn E d 129 80 [some (vR (some t)), some (vI x1_), some (vI x2_), o3_, o4_] [] h else
    gd (h.kd t == 23) (gd (h.kd t == 23) (nn (h.R t 166) fun a5 =>
    gd (h.kd a5 == 101 && inb x2_ (h.ln a5)) (gd (h.kd t == 23) (nn (h.R t 167) fun a6 =>
    gd (h.kd a6 == 101 && inb x2_ (h.ln a6)) (nn (h.R t 170) fun a7 =>
    gd (h.kd a7 == 101 && inb (h.I a5 x2_.toNatClampNeg) (h.ln a7) && decide (E.bs ≤ a7)) (hs (h.setI a7 (h.I a5 x2_.toNatClampNeg).toNatClampNeg (h.I a6 x2_.toNatClampNeg)) fun h =>
    rn E d 129 80 [some (vR (some t)), some (vI x1_), some (vI x2_), o3_, o4_] [] h)))))))))))))) := rn_b (b := b129_25) rfl
theorem e129_80 (E : EV) (d : Nat) (t : Nat) (x1_ : Int32) (x2_ : Int32) (o3_ : Option AV) (o4_ : Option AV) (h : AH) : rn E d 129 80 [some (vR (some t)), some (vI x1_), some (vI x2_), o3_, o4_] [] h =
    hs (x2_ + 1) fun x1 =>
    rn E d 129 25 [some (vR (some t)), some (vI x1_), some (vI x1), o3_, o4_] [] h := rn_b (b := b129_80) rfl
theorem e129_86 (E : EV) (d : Nat) (t : Nat) (x1_ : Int32) (x2_ : Int32) (o3_ : Option AV) (o4_ : Option AV) (h : AH) : rn E d 129 86 [some (vR (some t)), some (vI x1_), some (vI x2_), o3_, o4_] [] h =
    rn E d 129 88 [some (vR (some t)), some (vI x1_), some (vI 0), o3_, o4_] [] h := rn_b (b := b129_86) rfl
theorem e129_88 (E : EV) (d : Nat) (t : Nat) (x1_ : Int32) (x2_ : Int32) (o3_ : Option AV) (o4_ : Option AV) (h : AH) : rn E d 129 88 [some (vR (some t)), some (vI x1_), some (vI x2_), o3_, o4_] [] h =
    if 12 ≤ x2_ then rn E d 129 218 [some (vR (some t)), some (vI x1_), some (vI x2_), o3_, o4_] [] h else
    gd (h.kd t == 23) (hs (16 * (h.I t 135)) fun x1 =>
    rn E d 129 102 [some (vR (some t)), some (vI x1_), some (vI x2_), some (vI x1), o4_] [] h) := rn_b (b := b129_88) rfl
theorem e129_102 (E : EV) (d : Nat) (t : Nat) (x1_ : Int32) (x2_ : Int32) (x3_ : Int32) (o4_ : Option AV) (h : AH) : rn E d 129 102 [some (vR (some t)), some (vI x1_), some (vI x2_), some (vI x3_), o4_] [] h =
    gd (h.kd t == 23) (gd (h.kd t == 23) (gd (h.kd t == 23) (nn (h.R t 118) fun a1 =>
    gd (h.kd a1 == 101 && inb (h.I t 135) (h.ln a1)) (if ((16 * (h.I t 135)) + (h.I a1 (h.I t 135).toNatClampNeg)) ≤ x3_ then rn E d 129 212 [some (vR (some t)), some (vI x1_), some (vI x2_), some (vI x3_), o4_] [] h else
    gd (h.kd t == 23) (gd (h.kd t == 23) (nn (h.R t 127) fun a2 =>
    gd (h.kd a2 == 101 && inb x3_ (h.ln a2)) (nn (h.R t 170) fun a3 =>
    gd (h.kd a3 == 101 && inb (h.I a2 x3_.toNatClampNeg) (h.ln a3)) (if (h.I a3 (h.I a2 x3_.toNatClampNeg).toNatClampNeg) < 1000000 then rn E d 129 143 [some (vR (some t)), some (vI x1_), some (vI x2_), some (vI x3_), o4_] [] h else
    rn E d 129 206 [some (vR (some t)), some (vI x1_), some (vI x2_), some (vI x3_), o4_] [] h)))))))) := rn_b (b := b129_102) rfl
theorem e129_143 (E : EV) (d : Nat) (t : Nat) (x1_ : Int32) (x2_ : Int32) (x3_ : Int32) (o4_ : Option AV) (h : AH) : rn E d 129 143 [some (vR (some t)), some (vI x1_), some (vI x2_), some (vI x3_), o4_] [] h =
    gd (h.kd t == 23) (gd (h.kd t == 23) (nn (h.R t 127) fun a1 =>
    gd (h.kd a1 == 101 && inb x3_ (h.ln a1)) (nn (h.R t 170) fun a2 =>
    gd (h.kd a2 == 101 && inb (h.I a1 x3_.toNatClampNeg) (h.ln a2)) (gd (h.kd t == 23) (nn (h.R t 129) fun a3 =>
    gd (h.kd a3 == 101 && inb x3_ (h.ln a3)) (hs ((h.I a2 (h.I a1 x3_.toNatClampNeg).toNatClampNeg) + (h.I a3 x3_.toNatClampNeg)) fun x4 =>
    gd (h.kd t == 23) (gd (h.kd t == 23) (nn (h.R t 128) fun a5 =>
    gd (h.kd a5 == 101 && inb x3_ (h.ln a5)) (gd (h.kd t == 23) (gd (h.kd t == 23) (nn (h.R t 128) fun a6 =>
    gd (h.kd a6 == 101 && inb x3_ (h.ln a6)) (nn (h.R t 170) fun a7 =>
    gd (h.kd a7 == 101 && inb (h.I a6 x3_.toNatClampNeg) (h.ln a7)) (if (h.I a7 (h.I a6 x3_.toNatClampNeg).toNatClampNeg) ≤ x4 then rn E d 129 194 [some (vR (some t)), some (vI x1_), some (vI x2_), some (vI x3_), some (vI x4)] [vI (h.I a5 x3_.toNatClampNeg), vR (h.R t 170)] h else
    rn E d 129 205 [some (vR (some t)), some (vI x1_), some (vI x2_), some (vI x3_), some (vI x4)] [vI x4, vI (h.I a5 x3_.toNatClampNeg), vR (h.R t 170)] h))))))))))))) := rn_b (b := b129_143) rfl
theorem e129_194 (E : EV) (d : Nat) (t : Nat) (x1_ : Int32) (x2_ : Int32) (x3_ : Int32) (x4_ : Int32) (s0_ : Option Nat) (s1_ : Int32) (h : AH) : rn E d 129 194 [some (vR (some t)), some (vI x1_), some (vI x2_), some (vI x3_), some (vI x4_)] [vI s1_, vR s0_] h =
    gd (h.kd t == 23) (gd (h.kd t == 23) (nn (h.R t 128) fun a1 =>
    gd (h.kd a1 == 101 && inb x3_ (h.ln a1)) (nn (h.R t 170) fun a2 =>
    gd (h.kd a2 == 101 && inb (h.I a1 x3_.toNatClampNeg) (h.ln a2)) (rn E d 129 205 [some (vR (some t)), some (vI x1_), some (vI x2_), some (vI x3_), some (vI x4_)] [vI (h.I a2 (h.I a1 x3_.toNatClampNeg).toNatClampNeg), vI s1_, vR s0_] h)))) := rn_b (b := b129_194) rfl
theorem e129_205 (E : EV) (d : Nat) (t : Nat) (x1_ : Int32) (x2_ : Int32) (x3_ : Int32) (x4_ : Int32) (s0_ : Option Nat) (s1_ : Int32) (s2_ : Int32) (h : AH) : rn E d 129 205 [some (vR (some t)), some (vI x1_), some (vI x2_), some (vI x3_), some (vI x4_)] [vI s2_, vI s1_, vR s0_] h =
    nn s0_ fun a1 =>
    gd (h.kd a1 == 101 && inb s1_ (h.ln a1) && decide (E.bs ≤ a1)) (hs (h.setI a1 s1_.toNatClampNeg s2_) fun h =>
    rn E d 129 206 [some (vR (some t)), some (vI x1_), some (vI x2_), some (vI x3_), some (vI x4_)] [] h) := rn_b (b := b129_205) rfl
theorem e129_206 (E : EV) (d : Nat) (t : Nat) (x1_ : Int32) (x2_ : Int32) (x3_ : Int32) (o4_ : Option AV) (h : AH) : rn E d 129 206 [some (vR (some t)), some (vI x1_), some (vI x2_), some (vI x3_), o4_] [] h =
    hs (x3_ + 1) fun x1 =>
    rn E d 129 102 [some (vR (some t)), some (vI x1_), some (vI x2_), some (vI x1), o4_] [] h := rn_b (b := b129_206) rfl
theorem e129_212 (E : EV) (d : Nat) (t : Nat) (x1_ : Int32) (x2_ : Int32) (x3_ : Int32) (o4_ : Option AV) (h : AH) : rn E d 129 212 [some (vR (some t)), some (vI x1_), some (vI x2_), some (vI x3_), o4_] [] h =
    hs (x2_ + 1) fun x1 =>
    rn E d 129 88 [some (vR (some t)), some (vI x1_), some (vI x1), some (vI x3_), o4_] [] h := rn_b (b := b129_212) rfl
theorem e129_218 (E : EV) (d : Nat) (t : Nat) (x1_ : Int32) (x2_ : Int32) (o3_ : Option AV) (o4_ : Option AV) (h : AH) : rn E d 129 218 [some (vR (some t)), some (vI x1_), some (vI x2_), o3_, o4_] [] h =
    some (Sum.inl none, h) := rn_b (b := b129_218) rfl
/-! 130 FastPlaneModel.fitsBy(III)Z -/
theorem c130 (E : EV) (d : Nat) (t : Nat) (x1_ : Int32) (x2_ : Int32) (x3_ : Int32) (h : AH) : cal E (d + 1) 130 [vR (some t), vI x1_, vI x2_, vI x3_] h = rn E d 130 0 [some (vR (some t)), some (vI x1_), some (vI x2_), some (vI x3_)] [] h := cal_rn rfl rfl
theorem e130_0 (E : EV) (d : Nat) (t : Nat) (x1_ : Int32) (x2_ : Int32) (x3_ : Int32) (h : AH) : rn E d 130 0 [some (vR (some t)), some (vI x1_), some (vI x2_), some (vI x3_)] [] h =
    gd (h.kd t == 23) (gd (h.kd t == 23) (nn (h.R t 126) fun a1 =>
    gd (h.kd a1 == 101 && inb ((16 * (h.I t 135)) + x1_) (h.ln a1)) (if (h.I a1 ((16 * (h.I t 135)) + x1_).toNatClampNeg) < (x2_ - x3_) then rn E d 130 44 [some (vR (some t)), some (vI x1_), some (vI x2_), some (vI x3_)] [] h else
    gd (h.kd t == 23) (gd (h.kd t == 23) (nn (h.R t 126) fun a2 =>
    gd (h.kd a2 == 101 && inb ((16 * (h.I t 135)) + x1_) (h.ln a2)) (if (h.I a2 ((16 * (h.I t 135)) + x1_).toNatClampNeg) < (x3_ - x2_) then rn E d 130 44 [some (vR (some t)), some (vI x1_), some (vI x2_), some (vI x3_)] [] h else
    rn E d 130 45 [some (vR (some t)), some (vI x1_), some (vI x2_), some (vI x3_)] [vI 1] h)))))) := rn_b (b := b130_0) rfl
theorem e130_44 (E : EV) (d : Nat) (t : Nat) (x1_ : Int32) (x2_ : Int32) (x3_ : Int32) (h : AH) : rn E d 130 44 [some (vR (some t)), some (vI x1_), some (vI x2_), some (vI x3_)] [] h =
    rn E d 130 45 [some (vR (some t)), some (vI x1_), some (vI x2_), some (vI x3_)] [vI 0] h := rn_b (b := b130_44) rfl
theorem e130_45 (E : EV) (d : Nat) (t : Nat) (x1_ : Int32) (x2_ : Int32) (x3_ : Int32) (s0_ : Int32) (h : AH) : rn E d 130 45 [some (vR (some t)), some (vI x1_), some (vI x2_), some (vI x3_)] [vI s0_] h =
    gd (decide (s0_ = 0) || decide (s0_ = 1)) (some (Sum.inl (some (vI s0_)), h)) := rn_b (b := b130_45) rfl
/-! 131 FastPlaneModel.fitsWith(II)I -/
theorem c131 (E : EV) (d : Nat) (t : Nat) (x1_ : Int32) (x2_ : Int32) (h : AH) : cal E (d + 1) 131 [vR (some t), vI x1_, vI x2_] h = rn E d 131 0 [some (vR (some t)), some (vI x1_), some (vI x2_), none, none, none, none] [] h := cal_rn rfl rfl
theorem e131_0 (E : EV) (d : Nat) (t : Nat) (x1_ : Int32) (x2_ : Int32) (o3_ : Option AV) (o4_ : Option AV) (o5_ : Option AV) (o6_ : Option AV) (h : AH) : rn E d 131 0 [some (vR (some t)), some (vI x1_), some (vI x2_), o3_, o4_, o5_, o6_] [] h =
    rn E d 131 5 [some (vR (some t)), some (vI x1_), some (vI x2_), some (vI 0), some (vI 0), o5_, o6_] [] h := rn_b (b := b131_0) rfl
theorem e131_5 (E : EV) (d : Nat) (t : Nat) (x1_ : Int32) (x2_ : Int32) (x3_ : Int32) (x4_ : Int32) (o5_ : Option AV) (o6_ : Option AV) (h : AH) : rn E d 131 5 [some (vR (some t)), some (vI x1_), some (vI x2_), some (vI x3_), some (vI x4_), o5_, o6_] [] h =
    gd (h.kd t == 23) (cI (cal E d 154 [vR (some t)] h) th fun v1 h =>
    if v1 ≤ x4_ then rn E d 131 105 [some (vR (some t)), some (vI x1_), some (vI x2_), some (vI x3_), some (vI x4_), o5_, o6_] [] h else
    gd (h.kd t == 23) (gd (h.kd t == 23) (nn (h.R t 124) fun a2 =>
    gd (h.kd a2 == 101 && inb ((16 * (h.I t 135)) + x4_) (h.ln a2)) (hs (h.I a2 ((16 * (h.I t 135)) + x4_).toNatClampNeg) fun x3 =>
    gd (h.kd t == 23) (gd (h.kd t == 23) (nn (h.R t 125) fun a4 =>
    gd (h.kd a4 == 101 && inb ((16 * (h.I t 135)) + x4_) (h.ln a4)) (hs (h.I a4 ((16 * (h.I t 135)) + x4_).toNatClampNeg) fun x5 =>
    if x3 = x1_ then
    rn E d 131 69 [some (vR (some t)), some (vI x1_), some (vI x2_), some (vI x3_), some (vI x4_), some (vI x3), some (vI x5)] [vI x2_, vI x4_, vR (some t), vI x3_] h
    else rn E d 131 62 [some (vR (some t)), some (vI x1_), some (vI x2_), some (vI x3_), some (vI x4_), some (vI x3), some (vI x5)] [vI x4_, vR (some t), vI x3_] h))))))) := rn_b (b := b131_5) rfl
theorem e131_62 (E : EV) (d : Nat) (t : Nat) (x1_ : Int32) (x2_ : Int32) (x3_ : Int32) (x4_ : Int32) (x5_ : Int32) (x6_ : Int32) (s0_ : Int32) (s1_ : Option Nat) (s2_ : Int32) (h : AH) : rn E d 131 62 [some (vR (some t)), some (vI x1_), some (vI x2_), some (vI x3_), some (vI x4_), some (vI x5_), some (vI x6_)] [vI s2_, vR s1_, vI s0_] h =
    gd (h.kd t == 23) (cI (cal E d 165 [vR (some t), vI x5_, vI 0] h) th fun v1 h =>
    rn E d 131 69 [some (vR (some t)), some (vI x1_), some (vI x2_), some (vI x3_), some (vI x4_), some (vI x5_), some (vI x6_)] [vI v1, vI s2_, vR s1_, vI s0_] h) := rn_b (b := b131_62) rfl
theorem e131_69 (E : EV) (d : Nat) (t : Nat) (x1_ : Int32) (x2_ : Int32) (x3_ : Int32) (x4_ : Int32) (x5_ : Int32) (x6_ : Int32) (s0_ : Int32) (s1_ : Option Nat) (s2_ : Int32) (s3_ : Int32) (h : AH) : rn E d 131 69 [some (vR (some t)), some (vI x1_), some (vI x2_), some (vI x3_), some (vI x4_), some (vI x5_), some (vI x6_)] [vI s3_, vI s2_, vR s1_, vI s0_] h =
    if x6_ = x1_ then
    rn E d 131 86 [some (vR (some t)), some (vI x1_), some (vI x2_), some (vI x3_), some (vI x4_), some (vI x5_), some (vI x6_)] [vI x2_, vI s3_, vI s2_, vR s1_, vI s0_] h
    else rn E d 131 79 [some (vR (some t)), some (vI x1_), some (vI x2_), some (vI x3_), some (vI x4_), some (vI x5_), some (vI x6_)] [vI s3_, vI s2_, vR s1_, vI s0_] h := rn_b (b := b131_69) rfl
theorem e131_79 (E : EV) (d : Nat) (t : Nat) (x1_ : Int32) (x2_ : Int32) (x3_ : Int32) (x4_ : Int32) (x5_ : Int32) (x6_ : Int32) (s0_ : Int32) (s1_ : Option Nat) (s2_ : Int32) (s3_ : Int32) (h : AH) : rn E d 131 79 [some (vR (some t)), some (vI x1_), some (vI x2_), some (vI x3_), some (vI x4_), some (vI x5_), some (vI x6_)] [vI s3_, vI s2_, vR s1_, vI s0_] h =
    gd (h.kd t == 23) (cI (cal E d 165 [vR (some t), vI x6_, vI 0] h) th fun v1 h =>
    rn E d 131 86 [some (vR (some t)), some (vI x1_), some (vI x2_), some (vI x3_), some (vI x4_), some (vI x5_), some (vI x6_)] [vI v1, vI s3_, vI s2_, vR s1_, vI s0_] h) := rn_b (b := b131_79) rfl
theorem e131_86 (E : EV) (d : Nat) (t : Nat) (x1_ : Int32) (x2_ : Int32) (x3_ : Int32) (x4_ : Int32) (x5_ : Int32) (x6_ : Int32) (s0_ : Int32) (s1_ : Option Nat) (s2_ : Int32) (s3_ : Int32) (s4_ : Int32) (h : AH) : rn E d 131 86 [some (vR (some t)), some (vI x1_), some (vI x2_), some (vI x3_), some (vI x4_), some (vI x5_), some (vI x6_)] [vI s4_, vI s3_, vI s2_, vR s1_, vI s0_] h =
    gd (rcO 195 [vR s1_, vI s2_, vI s3_, vI s4_] h) (cI (cal E d 130 [vR s1_, vI s2_, vI s3_, vI s4_] h) th fun v1 h =>
    if v1 = 0 then rn E d 131 96 [some (vR (some t)), some (vI x1_), some (vI x2_), some (vI x3_), some (vI x4_), some (vI x5_), some (vI x6_)] [vI s0_] h else
    rn E d 131 97 [some (vR (some t)), some (vI x1_), some (vI x2_), some (vI x3_), some (vI x4_), some (vI x5_), some (vI x6_)] [vI 1, vI s0_] h) := rn_b (b := b131_86) rfl
theorem e131_96 (E : EV) (d : Nat) (t : Nat) (x1_ : Int32) (x2_ : Int32) (x3_ : Int32) (x4_ : Int32) (x5_ : Int32) (x6_ : Int32) (s0_ : Int32) (h : AH) : rn E d 131 96 [some (vR (some t)), some (vI x1_), some (vI x2_), some (vI x3_), some (vI x4_), some (vI x5_), some (vI x6_)] [vI s0_] h =
    rn E d 131 97 [some (vR (some t)), some (vI x1_), some (vI x2_), some (vI x3_), some (vI x4_), some (vI x5_), some (vI x6_)] [vI 0, vI s0_] h := rn_b (b := b131_96) rfl
theorem e131_97 (E : EV) (d : Nat) (t : Nat) (x1_ : Int32) (x2_ : Int32) (x3_ : Int32) (x4_ : Int32) (x5_ : Int32) (x6_ : Int32) (s0_ : Int32) (s1_ : Int32) (h : AH) : rn E d 131 97 [some (vR (some t)), some (vI x1_), some (vI x2_), some (vI x3_), some (vI x4_), some (vI x5_), some (vI x6_)] [vI s1_, vI s0_] h =
    hs (s0_ + s1_) fun x1 =>
    hs (x4_ + 1) fun x2 =>
    rn E d 131 5 [some (vR (some t)), some (vI x1_), some (vI x2_), some (vI x1), some (vI x2), some (vI x5_), some (vI x6_)] [] h := rn_b (b := b131_97) rfl
theorem e131_105 (E : EV) (d : Nat) (t : Nat) (x1_ : Int32) (x2_ : Int32) (x3_ : Int32) (x4_ : Int32) (o5_ : Option AV) (o6_ : Option AV) (h : AH) : rn E d 131 105 [some (vR (some t)), some (vI x1_), some (vI x2_), some (vI x3_), some (vI x4_), o5_, o6_] [] h =
    some (Sum.inl (some (vI x3_)), h) := rn_b (b := b131_105) rfl
/-! 132 FastPlaneModel.fits(II)Z -/
theorem c132 (E : EV) (d : Nat) (t : Nat) (x1_ : Int32) (x2_ : Int32) (h : AH) : cal E (d + 1) 132 [vR (some t), vI x1_, vI x2_] h = rn E d 132 0 [some (vR (some t)), some (vI x1_), some (vI x2_)] [] h := cal_rn rfl rfl
theorem e132_0 (E : EV) (d : Nat) (t : Nat) (x1_ : Int32) (x2_ : Int32) (h : AH) : rn E d 132 0 [some (vR (some t)), some (vI x1_), some (vI x2_)] [] h =
    gd (h.kd t == 23) (gd (h.kd t == 23) (nn (h.R t 124) fun a1 =>
    gd (h.kd a1 == 101 && inb ((16 * (h.I t 135)) + x1_) (h.ln a1)) (gd (h.kd t == 23) (cI (cal E d 165 [vR (some t), vI (h.I a1 ((16 * (h.I t 135)) + x1_).toNatClampNeg), vI x2_] h) th fun v2 h =>
    gd (h.kd t == 23) (gd (h.kd t == 23) (nn (h.R t 125) fun a3 =>
    gd (h.kd a3 == 101 && inb ((16 * (h.I t 135)) + x1_) (h.ln a3)) (gd (h.kd t == 23) (cI (cal E d 165 [vR (some t), vI (h.I a3 ((16 * (h.I t 135)) + x1_).toNatClampNeg), vI x2_] h) th fun v4 h =>
    gd (h.kd t == 23) (cI (cal E d 130 [vR (some t), vI x1_, vI v2, vI v4] h) th fun v5 h =>
    gd (decide (v5 = 0) || decide (v5 = 1)) (some (Sum.inl (some (vI v5)), h))))))))))) := rn_b (b := b132_0) rfl
/-! 133 FastPlaneModel.flies(IIII)Z -/
theorem c133 (E : EV) (d : Nat) (t : Nat) (x1_ : Int32) (x2_ : Int32) (x3_ : Int32) (x4_ : Int32) (h : AH) : cal E (d + 1) 133 [vR (some t), vI x1_, vI x2_, vI x3_, vI x4_] h = rn E d 133 0 [some (vR (some t)), some (vI x1_), some (vI x2_), some (vI x3_), some (vI x4_)] [] h := cal_rn rfl rfl
theorem e133_0 (E : EV) (d : Nat) (t : Nat) (x1_ : Int32) (x2_ : Int32) (x3_ : Int32) (x4_ : Int32) (h : AH) : rn E d 133 0 [some (vR (some t)), some (vI x1_), some (vI x2_), some (vI x3_), some (vI x4_)] [] h =
    gd ((h.kd t == 23) && decide (E.bs ≤ t) && true) (hs (h.setI t 158 x2_) fun h =>
    gd ((h.kd t == 23) && decide (E.bs ≤ t) && true) (hs (h.setI t 159 x3_) fun h =>
    gd ((h.kd t == 23) && decide (E.bs ≤ t) && true) (hs (h.setI t 160 x4_) fun h =>
    gd (h.kd t == 23) (cI (cal E d 216 [vR (some t), vI x1_, vI 2, vI 1] h) th fun v1 h =>
    if v1 = 0 then rn E d 133 30 [some (vR (some t)), some (vI x1_), some (vI x2_), some (vI x3_), some (vI x4_)] [] h else
    rn E d 133 31 [some (vR (some t)), some (vI x1_), some (vI x2_), some (vI x3_), some (vI x4_)] [vI 1] h)))) := rn_b (b := b133_0) rfl
theorem e133_30 (E : EV) (d : Nat) (t : Nat) (x1_ : Int32) (x2_ : Int32) (x3_ : Int32) (x4_ : Int32) (h : AH) : rn E d 133 30 [some (vR (some t)), some (vI x1_), some (vI x2_), some (vI x3_), some (vI x4_)] [] h =
    rn E d 133 31 [some (vR (some t)), some (vI x1_), some (vI x2_), some (vI x3_), some (vI x4_)] [vI 0] h := rn_b (b := b133_30) rfl
theorem e133_31 (E : EV) (d : Nat) (t : Nat) (x1_ : Int32) (x2_ : Int32) (x3_ : Int32) (x4_ : Int32) (s0_ : Int32) (h : AH) : rn E d 133 31 [some (vR (some t)), some (vI x1_), some (vI x2_), some (vI x3_), some (vI x4_)] [vI s0_] h =
    gd (decide (s0_ = 0) || decide (s0_ = 1)) (some (Sum.inl (some (vI s0_)), h)) := rn_b (b := b133_31) rfl
/-! 134 FastPlaneModel.give(II)V -/
theorem c134 (E : EV) (d : Nat) (t : Nat) (x1_ : Int32) (x2_ : Int32) (h : AH) : cal E (d + 1) 134 [vR (some t), vI x1_, vI x2_] h = rn E d 134 0 [some (vR (some t)), some (vI x1_), some (vI x2_), none] [] h := cal_rn rfl rfl
theorem e134_0 (E : EV) (d : Nat) (t : Nat) (x1_ : Int32) (x2_ : Int32) (o3_ : Option AV) (h : AH) : rn E d 134 0 [some (vR (some t)), some (vI x1_), some (vI x2_), o3_] [] h =
    gd (h.kd t == 23) (gd (h.kd t == 23) (nn (h.R t 123) fun a1 =>
    gd (h.kd a1 == 101 && inb ((12 * (h.I t 135)) + x1_) (h.ln a1)) (hs (x2_ * (h.I a1 ((12 * (h.I t 135)) + x1_).toNatClampNeg)) fun x2 =>
    gd (h.kd t == 23) (gd (h.kd t == 23) (nn (h.R t 186) fun a3 =>
    gd (h.kd a3 == 101 && inb x1_ (h.ln a3)) (if (h.I a3 x1_.toNatClampNeg) = 1 then rn E d 134 36 [some (vR (some t)), some (vI x1_), some (vI x2_), some (vI x2)] [vI (h.I t 189), vR (some t)] h else
    rn E d 134 37 [some (vR (some t)), some (vI x1_), some (vI x2_), some (vI x2)] [vI x2, vI (h.I t 189), vR (some t)] h)))))) := rn_b (b := b134_0) rfl
theorem e134_36 (E : EV) (d : Nat) (t : Nat) (x1_ : Int32) (x2_ : Int32) (x3_ : Int32) (s0_ : Option Nat) (s1_ : Int32) (h : AH) : rn E d 134 36 [some (vR (some t)), some (vI x1_), some (vI x2_), some (vI x3_)] [vI s1_, vR s0_] h =
    rn E d 134 37 [some (vR (some t)), some (vI x1_), some (vI x2_), some (vI x3_)] [vI 0, vI s1_, vR s0_] h := rn_b (b := b134_36) rfl
theorem e134_37 (E : EV) (d : Nat) (t : Nat) (x1_ : Int32) (x2_ : Int32) (x3_ : Int32) (s0_ : Option Nat) (s1_ : Int32) (s2_ : Int32) (h : AH) : rn E d 134 37 [some (vR (some t)), some (vI x1_), some (vI x2_), some (vI x3_)] [vI s2_, vI s1_, vR s0_] h =
    nn s0_ fun a1 =>
    gd ((h.kd a1 == 23) && decide (E.bs ≤ a1) && true) (hs (h.setI a1 189 (s1_ + s2_)) fun h =>
    gd (h.kd t == 23) (gd (h.kd t == 23) (nn (h.R t 186) fun a2 =>
    gd (h.kd a2 == 101 && inb x1_ (h.ln a2)) (if (h.I a2 x1_.toNatClampNeg) = 0 then rn E d 134 59 [some (vR (some t)), some (vI x1_), some (vI x2_), some (vI x3_)] [vI (h.I t 190), vR (some t)] h else
    rn E d 134 60 [some (vR (some t)), some (vI x1_), some (vI x2_), some (vI x3_)] [vI x3_, vI (h.I t 190), vR (some t)] h)))) := rn_b (b := b134_37) rfl
theorem e134_59 (E : EV) (d : Nat) (t : Nat) (x1_ : Int32) (x2_ : Int32) (x3_ : Int32) (s0_ : Option Nat) (s1_ : Int32) (h : AH) : rn E d 134 59 [some (vR (some t)), some (vI x1_), some (vI x2_), some (vI x3_)] [vI s1_, vR s0_] h =
    rn E d 134 60 [some (vR (some t)), some (vI x1_), some (vI x2_), some (vI x3_)] [vI 0, vI s1_, vR s0_] h := rn_b (b := b134_59) rfl
theorem e134_60 (E : EV) (d : Nat) (t : Nat) (x1_ : Int32) (x2_ : Int32) (x3_ : Int32) (s0_ : Option Nat) (s1_ : Int32) (s2_ : Int32) (h : AH) : rn E d 134 60 [some (vR (some t)), some (vI x1_), some (vI x2_), some (vI x3_)] [vI s2_, vI s1_, vR s0_] h =
    nn s0_ fun a1 =>
    gd ((h.kd a1 == 23) && decide (E.bs ≤ a1) && true) (hs (h.setI a1 190 (s1_ + s2_)) fun h =>
    gd (h.kd t == 23) (gd (h.kd t == 23) (nn (h.R t 186) fun a2 =>
    gd (h.kd a2 == 101 && inb x1_ (h.ln a2)) (if (h.I a2 x1_.toNatClampNeg) = 2 then
    rn E d 134 84 [some (vR (some t)), some (vI x1_), some (vI x2_), some (vI x3_)] [vI x3_, vI (h.I t 191), vR (some t)] h
    else rn E d 134 83 [some (vR (some t)), some (vI x1_), some (vI x2_), some (vI x3_)] [vI (h.I t 191), vR (some t)] h)))) := rn_b (b := b134_60) rfl
theorem e134_83 (E : EV) (d : Nat) (t : Nat) (x1_ : Int32) (x2_ : Int32) (x3_ : Int32) (s0_ : Option Nat) (s1_ : Int32) (h : AH) : rn E d 134 83 [some (vR (some t)), some (vI x1_), some (vI x2_), some (vI x3_)] [vI s1_, vR s0_] h =
    rn E d 134 84 [some (vR (some t)), some (vI x1_), some (vI x2_), some (vI x3_)] [vI 0, vI s1_, vR s0_] h := rn_b (b := b134_83) rfl
theorem e134_84 (E : EV) (d : Nat) (t : Nat) (x1_ : Int32) (x2_ : Int32) (x3_ : Int32) (s0_ : Option Nat) (s1_ : Int32) (s2_ : Int32) (h : AH) : rn E d 134 84 [some (vR (some t)), some (vI x1_), some (vI x2_), some (vI x3_)] [vI s2_, vI s1_, vR s0_] h =
    nn s0_ fun a1 =>
    gd ((h.kd a1 == 23) && decide (E.bs ≤ a1) && true) (hs (h.setI a1 191 (s1_ + s2_)) fun h =>
    some (Sum.inl none, h)) := rn_b (b := b134_84) rfl
/-! 135 FastPlaneModel.goesOn(IIIII)Z -/
theorem c135 (E : EV) (d : Nat) (t : Nat) (x1_ : Int32) (x2_ : Int32) (x3_ : Int32) (x4_ : Int32) (x5_ : Int32) (h : AH) : cal E (d + 1) 135 [vR (some t), vI x1_, vI x2_, vI x3_, vI x4_, vI x5_] h = rn E d 135 0 [some (vR (some t)), some (vI x1_), some (vI x2_), some (vI x3_), some (vI x4_), some (vI x5_), none, none] [] h := cal_rn rfl rfl
theorem e135_0 (E : EV) (d : Nat) (t : Nat) (x1_ : Int32) (x2_ : Int32) (x3_ : Int32) (x4_ : Int32) (x5_ : Int32) (o6_ : Option AV) (o7_ : Option AV) (h : AH) : rn E d 135 0 [some (vR (some t)), some (vI x1_), some (vI x2_), some (vI x3_), some (vI x4_), some (vI x5_), o6_, o7_] [] h =
    gd (h.kd t == 23) (nn (h.R t 192) fun a1 =>
    gd (h.kd a1 == 101 && inb x1_ (h.ln a1)) (hs (h.I a1 x1_.toNatClampNeg) fun x2 =>
    gd (h.kd t == 23) (nn (h.R t 193) fun a3 =>
    gd (h.kd a3 == 101 && inb x1_ (h.ln a3)) (gd (!decide ((10 : Int32) = 0)) (hs ((x2 * (h.I a3 x1_.toNatClampNeg)) / 10) fun x4 =>
    gd (h.kd t == 23) (cI (cal E d 174 [vR (some t), vI (x1_ + 1), vI x2_, vI x3_, vI (x4_ - x4), vI ((x5_ - x2) + x4)] h) th fun v5 h =>
    if v5 = 0 then
    some (Sum.inl (some (vI 0)), h)
    else rn E d 135 49 [some (vR (some t)), some (vI x1_), some (vI x2_), some (vI x3_), some (vI x4_), some (vI x5_), some (vI x2), some (vI x4)] [] h)))))) := rn_b (b := b135_0) rfl
theorem e135_49 (E : EV) (d : Nat) (t : Nat) (x1_ : Int32) (x2_ : Int32) (x3_ : Int32) (x4_ : Int32) (x5_ : Int32) (x6_ : Int32) (x7_ : Int32) (h : AH) : rn E d 135 49 [some (vR (some t)), some (vI x1_), some (vI x2_), some (vI x3_), some (vI x4_), some (vI x5_), some (vI x6_), some (vI x7_)] [] h =
    if x3_ = 0 then rn E d 135 95 [some (vR (some t)), some (vI x1_), some (vI x2_), some (vI x3_), some (vI x4_), some (vI x5_), some (vI x6_), some (vI x7_)] [] h else
    gd (h.kd t == 23) (cI (cal E d 174 [vR (some t), vI (x1_ + 1), vI x2_, vI (x3_ - 1), vI x4_, vI (x5_ - x6_)] h) th fun v1 h =>
    if v1 = 0 then rn E d 135 99 [some (vR (some t)), some (vI x1_), some (vI x2_), some (vI x3_), some (vI x4_), some (vI x5_), some (vI x6_), some (vI x7_)] [] h else
    gd (h.kd t == 23) (cI (cal E d 174 [vR (some t), vI (x1_ + 1), vI x2_, vI (x3_ - 1), vI (x4_ - x6_), vI x5_] h) th fun v2 h =>
    if v2 = 0 then rn E d 135 99 [some (vR (some t)), some (vI x1_), some (vI x2_), some (vI x3_), some (vI x4_), some (vI x5_), some (vI x6_), some (vI x7_)] [] h else
    rn E d 135 95 [some (vR (some t)), some (vI x1_), some (vI x2_), some (vI x3_), some (vI x4_), some (vI x5_), some (vI x6_), some (vI x7_)] [] h)) := rn_b (b := b135_49) rfl
theorem e135_95 (E : EV) (d : Nat) (t : Nat) (x1_ : Int32) (x2_ : Int32) (x3_ : Int32) (x4_ : Int32) (x5_ : Int32) (x6_ : Int32) (x7_ : Int32) (h : AH) : rn E d 135 95 [some (vR (some t)), some (vI x1_), some (vI x2_), some (vI x3_), some (vI x4_), some (vI x5_), some (vI x6_), some (vI x7_)] [] h =
    rn E d 135 100 [some (vR (some t)), some (vI x1_), some (vI x2_), some (vI x3_), some (vI x4_), some (vI x5_), some (vI x6_), some (vI x7_)] [vI 1] h := rn_b (b := b135_95) rfl
theorem e135_99 (E : EV) (d : Nat) (t : Nat) (x1_ : Int32) (x2_ : Int32) (x3_ : Int32) (x4_ : Int32) (x5_ : Int32) (x6_ : Int32) (x7_ : Int32) (h : AH) : rn E d 135 99 [some (vR (some t)), some (vI x1_), some (vI x2_), some (vI x3_), some (vI x4_), some (vI x5_), some (vI x6_), some (vI x7_)] [] h =
    rn E d 135 100 [some (vR (some t)), some (vI x1_), some (vI x2_), some (vI x3_), some (vI x4_), some (vI x5_), some (vI x6_), some (vI x7_)] [vI 0] h := rn_b (b := b135_99) rfl
theorem e135_100 (E : EV) (d : Nat) (t : Nat) (x1_ : Int32) (x2_ : Int32) (x3_ : Int32) (x4_ : Int32) (x5_ : Int32) (x6_ : Int32) (x7_ : Int32) (s0_ : Int32) (h : AH) : rn E d 135 100 [some (vR (some t)), some (vI x1_), some (vI x2_), some (vI x3_), some (vI x4_), some (vI x5_), some (vI x6_), some (vI x7_)] [vI s0_] h =
    gd (decide (s0_ = 0) || decide (s0_ = 1)) (some (Sum.inl (some (vI s0_)), h)) := rn_b (b := b135_100) rfl
/-! 136 FastPlaneModel.grant(II)Z -/
theorem c136 (E : EV) (d : Nat) (t : Nat) (x1_ : Int32) (x2_ : Int32) (h : AH) : cal E (d + 1) 136 [vR (some t), vI x1_, vI x2_] h = rn E d 136 0 [some (vR (some t)), some (vI x1_), some (vI x2_)] [] h := cal_rn rfl rfl
theorem e136_0 (E : EV) (d : Nat) (t : Nat) (x1_ : Int32) (x2_ : Int32) (h : AH) : rn E d 136 0 [some (vR (some t)), some (vI x1_), some (vI x2_)] [] h =
    cI (cal E d 144 [vI x1_, vI 0, vI 9] h) th fun v1 h =>
    if v1 = 0 then rn E d 136 19 [some (vR (some t)), some (vI x1_), some (vI x2_)] [] h else
    cI (cal E d 144 [vI x2_, vI 0, vI 4] h) th fun v2 h =>
    if v2 = 0 then
    rn E d 136 19 [some (vR (some t)), some (vI x1_), some (vI x2_)] [] h
    else rn E d 136 21 [some (vR (some t)), some (vI x1_), some (vI x2_)] [] h := rn_b (b := b136_0) rfl
theorem e136_19 (E : EV) (d : Nat) (t : Nat) (x1_ : Int32) (x2_ : Int32) (h : AH) : rn E d 136 19 [some (vR (some t)), some (vI x1_), some (vI x2_)] [] h =
    some (Sum.inl (some (vI 0)), h) := rn_b (b := b136_19) rfl
theorem e136_21 (E : EV) (d : Nat) (t : Nat) (x1_ : Int32) (x2_ : Int32) (h : AH) : rn E d 136 21 [some (vR (some t)), some (vI x1_), some (vI x2_)] [] h =
    gd ((h.kd t == 23) && decide (E.bs ≤ t) && true) (hs (h.setI t 196 x1_) fun h =>
    gd ((h.kd t == 23) && decide (E.bs ≤ t) && true) (hs (h.setI t 197 x2_) fun h =>
    some (Sum.inl (some (vI 1)), h))) := rn_b (b := b136_21) rfl
/-! 137 FastPlaneModel.hold(III)I -/
theorem c137 (E : EV) (d : Nat) (t : Nat) (x1_ : Int32) (x2_ : Int32) (x3_ : Int32) (h : AH) : cal E (d + 1) 137 [vR (some t), vI x1_, vI x2_, vI x3_] h = rn E d 137 0 [some (vR (some t)), some (vI x1_), some (vI x2_), some (vI x3_)] [] h := cal_rn rfl rfl
theorem e137_0 (E : EV) (d : Nat) (t : Nat) (x1_ : Int32) (x2_ : Int32) (x3_ : Int32) (h : AH) : rn E d 137 0 [some (vR (some t)), some (vI x1_), some (vI x2_), some (vI x3_)] [] h =
    cI (cal E d 148 [vI x1_] h) th fun v1 h =>
    if v1 = 0 then rn E d 137 24 [some (vR (some t)), some (vI x1_), some (vI x2_), some (vI x3_)] [] h else
    cI (cal E d 151 [vI x2_] h) th fun v2 h =>
    if v2 = 0 then rn E d 137 24 [some (vR (some t)), some (vI x1_), some (vI x2_), some (vI x3_)] [] h else
    gd (h.kd t == 23) (cI (cal E d 190 [vR (some t), vI x1_, vI x2_, vI x3_] h) th fun v3 h =>
    rn E d 137 25 [some (vR (some t)), some (vI x1_), some (vI x2_), some (vI x3_)] [vI v3] h) := rn_b (b := b137_0) rfl
theorem e137_24 (E : EV) (d : Nat) (t : Nat) (x1_ : Int32) (x2_ : Int32) (x3_ : Int32) (h : AH) : rn E d 137 24 [some (vR (some t)), some (vI x1_), some (vI x2_), some (vI x3_)] [] h =
    rn E d 137 25 [some (vR (some t)), some (vI x1_), some (vI x2_), some (vI x3_)] [vI (-1)] h := rn_b (b := b137_24) rfl
theorem e137_25 (E : EV) (d : Nat) (t : Nat) (x1_ : Int32) (x2_ : Int32) (x3_ : Int32) (s0_ : Int32) (h : AH) : rn E d 137 25 [some (vR (some t)), some (vI x1_), some (vI x2_), some (vI x3_)] [vI s0_] h =
    some (Sum.inl (some (vI s0_)), h) := rn_b (b := b137_25) rfl
/-! 138 FastPlaneModel.<init>()V -/
theorem c138 (E : EV) (d : Nat) (t : Nat) (h : AH) : cal E (d + 1) 138 [vR (some t)] h = rn E d 138 0 [some (vR (some t))] [] h := cal_rn rfl rfl
theorem e138_0 (E : EV) (d : Nat) (t : Nat) (h : AH) : rn E d 138 0 [some (vR (some t))] [] h =
    gd (decide (0 ≤ (1320 : Int32)) && decide ((1320 : Int32).toNatClampNeg ≤ 1048576) && decide (h.nx + 1 ≤ E.lc) && decide (h.us + (1320 : Int32).toNatClampNeg ≤ E.lu)) (hs h.nx fun n1 => hs (h.mk 102 (1320 : Int32).toNatClampNeg (1320 : Int32).toNatClampNeg) fun h =>
    gd ((h.kd t == 23) && decide (E.bs ≤ t)) (hs (h.setR t 104 (some n1)) fun h =>
    gd (decide (0 ≤ (1300 : Int32)) && decide ((1300 : Int32).toNatClampNeg ≤ 1048576) && decide (h.nx + 1 ≤ E.lc) && decide (h.us + (1300 : Int32).toNatClampNeg ≤ E.lu)) (hs h.nx fun n2 => hs (h.mk 102 (1300 : Int32).toNatClampNeg (1300 : Int32).toNatClampNeg) fun h =>
    gd ((h.kd t == 23) && decide (E.bs ≤ t)) (hs (h.setR t 105 (some n2)) fun h =>
    gd ((h.kd t == 23) && decide (E.bs ≤ t) && true) (hs (h.setI t 109 (-1)) fun h =>
    gd (decide (0 ≤ (2 : Int32)) && decide ((2 : Int32).toNatClampNeg ≤ 1048576) && decide (h.nx + 1 ≤ E.lc) && decide (h.us + (2 : Int32).toNatClampNeg ≤ E.lu)) (hs h.nx fun n3 => hs (h.mk 101 (2 : Int32).toNatClampNeg (2 : Int32).toNatClampNeg) fun h =>
    gd ((h.kd t == 23) && decide (E.bs ≤ t)) (hs (h.setR t 115 (some n3)) fun h =>
    gd (decide (0 ≤ (2 : Int32)) && decide ((2 : Int32).toNatClampNeg ≤ 1048576) && decide (h.nx + 1 ≤ E.lc) && decide (h.us + (2 : Int32).toNatClampNeg ≤ E.lu)) (hs h.nx fun n4 => hs (h.mk 101 (2 : Int32).toNatClampNeg (2 : Int32).toNatClampNeg) fun h =>
    gd ((h.kd t == 23) && decide (E.bs ≤ t)) (hs (h.setR t 116 (some n4)) fun h =>
    gd (decide (0 ≤ (2 : Int32)) && decide ((2 : Int32).toNatClampNeg ≤ 1048576) && decide (h.nx + 1 ≤ E.lc) && decide (h.us + (2 : Int32).toNatClampNeg ≤ E.lu)) (hs h.nx fun n5 => hs (h.mk 101 (2 : Int32).toNatClampNeg (2 : Int32).toNatClampNeg) fun h =>
    gd ((h.kd t == 23) && decide (E.bs ≤ t)) (hs (h.setR t 117 (some n5)) fun h =>
    gd (decide (0 ≤ (2 : Int32)) && decide ((2 : Int32).toNatClampNeg ≤ 1048576) && decide (h.nx + 1 ≤ E.lc) && decide (h.us + (2 : Int32).toNatClampNeg ≤ E.lu)) (hs h.nx fun n6 => hs (h.mk 101 (2 : Int32).toNatClampNeg (2 : Int32).toNatClampNeg) fun h =>
    gd ((h.kd t == 23) && decide (E.bs ≤ t)) (hs (h.setR t 118 (some n6)) fun h =>
    gd (decide (0 ≤ (2 : Int32)) && decide ((2 : Int32).toNatClampNeg ≤ 1048576) && decide (h.nx + 1 ≤ E.lc) && decide (h.us + (2 : Int32).toNatClampNeg ≤ E.lu)) (hs h.nx fun n7 => hs (h.mk 101 (2 : Int32).toNatClampNeg (2 : Int32).toNatClampNeg) fun h =>
    gd ((h.kd t == 23) && decide (E.bs ≤ t)) (hs (h.setR t 119 (some n7)) fun h =>
    gd (decide (0 ≤ (24 : Int32)) && decide ((24 : Int32).toNatClampNeg ≤ 1048576) && decide (h.nx + 1 ≤ E.lc) && decide (h.us + (24 : Int32).toNatClampNeg ≤ E.lu)) (hs h.nx fun n8 => hs (h.mk 101 (24 : Int32).toNatClampNeg (24 : Int32).toNatClampNeg) fun h =>
    gd ((h.kd t == 23) && decide (E.bs ≤ t)) (hs (h.setR t 120 (some n8)) fun h =>
    gd (decide (0 ≤ (24 : Int32)) && decide ((24 : Int32).toNatClampNeg ≤ 1048576) && decide (h.nx + 1 ≤ E.lc) && decide (h.us + (24 : Int32).toNatClampNeg ≤ E.lu)) (hs h.nx fun n9 => hs (h.mk 101 (24 : Int32).toNatClampNeg (24 : Int32).toNatClampNeg) fun h =>
    gd ((h.kd t == 23) && decide (E.bs ≤ t)) (hs (h.setR t 121 (some n9)) fun h =>
    gd (decide (0 ≤ (24 : Int32)) && decide ((24 : Int32).toNatClampNeg ≤ 1048576) && decide (h.nx + 1 ≤ E.lc) && decide (h.us + (24 : Int32).toNatClampNeg ≤ E.lu)) (hs h.nx fun n10 => hs (h.mk 101 (24 : Int32).toNatClampNeg (24 : Int32).toNatClampNeg) fun h =>
    gd ((h.kd t == 23) && decide (E.bs ≤ t)) (hs (h.setR t 122 (some n10)) fun h =>
    gd (decide (0 ≤ (24 : Int32)) && decide ((24 : Int32).toNatClampNeg ≤ 1048576) && decide (h.nx + 1 ≤ E.lc) && decide (h.us + (24 : Int32).toNatClampNeg ≤ E.lu)) (hs h.nx fun n11 => hs (h.mk 101 (24 : Int32).toNatClampNeg (24 : Int32).toNatClampNeg) fun h =>
    gd ((h.kd t == 23) && decide (E.bs ≤ t)) (hs (h.setR t 123 (some n11)) fun h =>
    gd (decide (0 ≤ (32 : Int32)) && decide ((32 : Int32).toNatClampNeg ≤ 1048576) && decide (h.nx + 1 ≤ E.lc) && decide (h.us + (32 : Int32).toNatClampNeg ≤ E.lu)) (hs h.nx fun n12 => hs (h.mk 101 (32 : Int32).toNatClampNeg (32 : Int32).toNatClampNeg) fun h =>
    gd ((h.kd t == 23) && decide (E.bs ≤ t)) (hs (h.setR t 124 (some n12)) fun h =>
    gd (decide (0 ≤ (32 : Int32)) && decide ((32 : Int32).toNatClampNeg ≤ 1048576) && decide (h.nx + 1 ≤ E.lc) && decide (h.us + (32 : Int32).toNatClampNeg ≤ E.lu)) (hs h.nx fun n13 => hs (h.mk 101 (32 : Int32).toNatClampNeg (32 : Int32).toNatClampNeg) fun h =>
    gd ((h.kd t == 23) && decide (E.bs ≤ t)) (hs (h.setR t 125 (some n13)) fun h =>
    gd (decide (0 ≤ (32 : Int32)) && decide ((32 : Int32).toNatClampNeg ≤ 1048576) && decide (h.nx + 1 ≤ E.lc) && decide (h.us + (32 : Int32).toNatClampNeg ≤ E.lu)) (hs h.nx fun n14 => hs (h.mk 101 (32 : Int32).toNatClampNeg (32 : Int32).toNatClampNeg) fun h =>
    gd ((h.kd t == 23) && decide (E.bs ≤ t)) (hs (h.setR t 126 (some n14)) fun h =>
    gd (decide (0 ≤ (32 : Int32)) && decide ((32 : Int32).toNatClampNeg ≤ 1048576) && decide (h.nx + 1 ≤ E.lc) && decide (h.us + (32 : Int32).toNatClampNeg ≤ E.lu)) (hs h.nx fun n15 => hs (h.mk 101 (32 : Int32).toNatClampNeg (32 : Int32).toNatClampNeg) fun h =>
    gd ((h.kd t == 23) && decide (E.bs ≤ t)) (hs (h.setR t 127 (some n15)) fun h =>
    gd (decide (0 ≤ (32 : Int32)) && decide ((32 : Int32).toNatClampNeg ≤ 1048576) && decide (h.nx + 1 ≤ E.lc) && decide (h.us + (32 : Int32).toNatClampNeg ≤ E.lu)) (hs h.nx fun n16 => hs (h.mk 101 (32 : Int32).toNatClampNeg (32 : Int32).toNatClampNeg) fun h =>
    gd ((h.kd t == 23) && decide (E.bs ≤ t)) (hs (h.setR t 128 (some n16)) fun h =>
    gd (decide (0 ≤ (32 : Int32)) && decide ((32 : Int32).toNatClampNeg ≤ 1048576) && decide (h.nx + 1 ≤ E.lc) && decide (h.us + (32 : Int32).toNatClampNeg ≤ E.lu)) (hs h.nx fun n17 => hs (h.mk 101 (32 : Int32).toNatClampNeg (32 : Int32).toNatClampNeg) fun h =>
    gd ((h.kd t == 23) && decide (E.bs ≤ t)) (hs (h.setR t 129 (some n17)) fun h =>
    gd (decide (0 ≤ (6 : Int32)) && decide ((6 : Int32).toNatClampNeg ≤ 1048576) && decide (h.nx + 1 ≤ E.lc) && decide (h.us + (6 : Int32).toNatClampNeg ≤ E.lu)) (hs h.nx fun n18 => hs (h.mk 101 (6 : Int32).toNatClampNeg (6 : Int32).toNatClampNeg) fun h =>
    gd ((h.kd t == 23) && decide (E.bs ≤ t)) (hs (h.setR t 130 (some n18)) fun h =>
    gd (decide (0 ≤ (6 : Int32)) && decide ((6 : Int32).toNatClampNeg ≤ 1048576) && decide (h.nx + 1 ≤ E.lc) && decide (h.us + (6 : Int32).toNatClampNeg ≤ E.lu)) (hs h.nx fun n19 => hs (h.mk 101 (6 : Int32).toNatClampNeg (6 : Int32).toNatClampNeg) fun h =>
    gd ((h.kd t == 23) && decide (E.bs ≤ t)) (hs (h.setR t 131 (some n19)) fun h =>
    gd (decide (0 ≤ (128 : Int32)) && decide ((128 : Int32).toNatClampNeg ≤ 1048576) && decide (h.nx + 1 ≤ E.lc) && decide (h.us + (128 : Int32).toNatClampNeg ≤ E.lu)) (hs h.nx fun n20 => hs (h.mk 101 (128 : Int32).toNatClampNeg (128 : Int32).toNatClampNeg) fun h =>
    gd ((h.kd t == 23) && decide (E.bs ≤ t)) (hs (h.setR t 132 (some n20)) fun h =>
    gd (decide (0 ≤ (16 : Int32)) && decide ((16 : Int32).toNatClampNeg ≤ 1048576) && decide (h.nx + 1 ≤ E.lc) && decide (h.us + (16 : Int32).toNatClampNeg ≤ E.lu)) (hs h.nx fun n21 => hs (h.mk 103 (16 : Int32).toNatClampNeg (16 : Int32).toNatClampNeg) fun h =>
    gd ((h.kd t == 23) && decide (E.bs ≤ t)) (hs (h.setR t 133 (some n21)) fun h =>
    gd (decide (0 ≤ (24 : Int32)) && decide ((24 : Int32).toNatClampNeg ≤ 1048576) && decide (h.nx + 1 ≤ E.lc) && decide (h.us + (24 : Int32).toNatClampNeg ≤ E.lu)) (hs h.nx fun n22 => hs (h.mk 104 (24 : Int32).toNatClampNeg (24 : Int32).toNatClampNeg) fun h =>
    gd ((h.kd t == 23) && decide (E.bs ≤ t)) (hs (h.setR t 134 (some n22)) fun h =>
    gd (decide (0 ≤ (4 : Int32)) && decide ((4 : Int32).toNatClampNeg ≤ 1048576) && decide (h.nx + 1 ≤ E.lc) && decide (h.us + (4 : Int32).toNatClampNeg ≤ E.lu)) (hs h.nx fun n23 => hs (h.mk 101 (4 : Int32).toNatClampNeg (4 : Int32).toNatClampNeg) fun h =>
    gd ((h.kd t == 23) && decide (E.bs ≤ t)) (hs (h.setR t 140 (some n23)) fun h =>
    gd (decide (0 ≤ (16 : Int32)) && decide ((16 : Int32).toNatClampNeg ≤ 1048576) && decide (h.nx + 1 ≤ E.lc) && decide (h.us + (16 : Int32).toNatClampNeg ≤ E.lu)) (hs h.nx fun n24 => hs (h.mk 101 (16 : Int32).toNatClampNeg (16 : Int32).toNatClampNeg) fun h =>
    gd ((h.kd t == 23) && decide (E.bs ≤ t)) (hs (h.setR t 141 (some n24)) fun h =>
    gd (decide (0 ≤ (16 : Int32)) && decide ((16 : Int32).toNatClampNeg ≤ 1048576) && decide (h.nx + 1 ≤ E.lc) && decide (h.us + (16 : Int32).toNatClampNeg ≤ E.lu)) (hs h.nx fun n25 => hs (h.mk 101 (16 : Int32).toNatClampNeg (16 : Int32).toNatClampNeg) fun h =>
    gd ((h.kd t == 23) && decide (E.bs ≤ t)) (hs (h.setR t 142 (some n25)) fun h =>
    gd (decide (0 ≤ (2800 : Int32)) && decide ((2800 : Int32).toNatClampNeg ≤ 1048576) && decide (h.nx + 1 ≤ E.lc) && decide (h.us + (2800 : Int32).toNatClampNeg ≤ E.lu)) (hs h.nx fun n26 => hs (h.mk 101 (2800 : Int32).toNatClampNeg (2800 : Int32).toNatClampNeg) fun h =>
    gd ((h.kd t == 23) && decide (E.bs ≤ t)) (hs (h.setR t 143 (some n26)) fun h =>
    gd (decide (0 ≤ (2800 : Int32)) && decide ((2800 : Int32).toNatClampNeg ≤ 1048576) && decide (h.nx + 1 ≤ E.lc) && decide (h.us + (2800 : Int32).toNatClampNeg ≤ E.lu)) (hs h.nx fun n27 => hs (h.mk 101 (2800 : Int32).toNatClampNeg (2800 : Int32).toNatClampNeg) fun h =>
    gd ((h.kd t == 23) && decide (E.bs ≤ t)) (hs (h.setR t 144 (some n27)) fun h =>
    gd (decide (0 ≤ (80 : Int32)) && decide ((80 : Int32).toNatClampNeg ≤ 1048576) && decide (h.nx + 1 ≤ E.lc) && decide (h.us + (80 : Int32).toNatClampNeg ≤ E.lu)) (hs h.nx fun n28 => hs (h.mk 101 (80 : Int32).toNatClampNeg (80 : Int32).toNatClampNeg) fun h =>
    gd ((h.kd t == 23) && decide (E.bs ≤ t)) (hs (h.setR t 145 (some n28)) fun h =>
    gd (decide (0 ≤ (80 : Int32)) && decide ((80 : Int32).toNatClampNeg ≤ 1048576) && decide (h.nx + 1 ≤ E.lc) && decide (h.us + (80 : Int32).toNatClampNeg ≤ E.lu)) (hs h.nx fun n29 => hs (h.mk 101 (80 : Int32).toNatClampNeg (80 : Int32).toNatClampNeg) fun h =>
    gd ((h.kd t == 23) && decide (E.bs ≤ t)) (hs (h.setR t 146 (some n29)) fun h =>
    gd (decide (0 ≤ (90 : Int32)) && decide ((90 : Int32).toNatClampNeg ≤ 1048576) && decide (h.nx + 1 ≤ E.lc) && decide (h.us + (90 : Int32).toNatClampNeg ≤ E.lu)) (hs h.nx fun n30 => hs (h.mk 101 (90 : Int32).toNatClampNeg (90 : Int32).toNatClampNeg) fun h =>
    gd ((h.kd t == 23) && decide (E.bs ≤ t)) (hs (h.setR t 147 (some n30)) fun h =>
    gd (decide (0 ≤ (16 : Int32)) && decide ((16 : Int32).toNatClampNeg ≤ 1048576) && decide (h.nx + 1 ≤ E.lc) && decide (h.us + (16 : Int32).toNatClampNeg ≤ E.lu)) (hs h.nx fun n31 => hs (h.mk 103 (16 : Int32).toNatClampNeg (16 : Int32).toNatClampNeg) fun h =>
    gd ((h.kd t == 23) && decide (E.bs ≤ t)) (hs (h.setR t 148 (some n31)) fun h =>
    gd (decide (0 ≤ (200 : Int32)) && decide ((200 : Int32).toNatClampNeg ≤ 1048576) && decide (h.nx + 1 ≤ E.lc) && decide (h.us + (200 : Int32).toNatClampNeg ≤ E.lu)) (hs h.nx fun n32 => hs (h.mk 101 (200 : Int32).toNatClampNeg (200 : Int32).toNatClampNeg) fun h =>
    gd ((h.kd t == 23) && decide (E.bs ≤ t)) (hs (h.setR t 165 (some n32)) fun h =>
    gd (decide (0 ≤ (200 : Int32)) && decide ((200 : Int32).toNatClampNeg ≤ 1048576) && decide (h.nx + 1 ≤ E.lc) && decide (h.us + (200 : Int32).toNatClampNeg ≤ E.lu)) (hs h.nx fun n33 => hs (h.mk 101 (200 : Int32).toNatClampNeg (200 : Int32).toNatClampNeg) fun h =>
    gd ((h.kd t == 23) && decide (E.bs ≤ t)) (hs (h.setR t 166 (some n33)) fun h =>
    gd (decide (0 ≤ (200 : Int32)) && decide ((200 : Int32).toNatClampNeg ≤ 1048576) && decide (h.nx + 1 ≤ E.lc) && decide (h.us + (200 : Int32).toNatClampNeg ≤ E.lu)) (hs h.nx fun n34 => hs (h.mk 101 (200 : Int32).toNatClampNeg (200 : Int32).toNatClampNeg) fun h =>
    gd ((h.kd t == 23) && decide (E.bs ≤ t)) (hs (h.setR t 167 (some n34)) fun h =>
    gd (decide (0 ≤ (200 : Int32)) && decide ((200 : Int32).toNatClampNeg ≤ 1048576) && decide (h.nx + 1 ≤ E.lc) && decide (h.us + (200 : Int32).toNatClampNeg ≤ E.lu)) (hs h.nx fun n35 => hs (h.mk 101 (200 : Int32).toNatClampNeg (200 : Int32).toNatClampNeg) fun h =>
    gd ((h.kd t == 23) && decide (E.bs ≤ t)) (hs (h.setR t 168 (some n35)) fun h =>
    gd (decide (0 ≤ (200 : Int32)) && decide ((200 : Int32).toNatClampNeg ≤ 1048576) && decide (h.nx + 1 ≤ E.lc) && decide (h.us + (200 : Int32).toNatClampNeg ≤ E.lu)) (hs h.nx fun n36 => hs (h.mk 101 (200 : Int32).toNatClampNeg (200 : Int32).toNatClampNeg) fun h =>
    gd ((h.kd t == 23) && decide (E.bs ≤ t)) (hs (h.setR t 169 (some n36)) fun h =>
    gd (decide (0 ≤ (12 : Int32)) && decide ((12 : Int32).toNatClampNeg ≤ 1048576) && decide (h.nx + 1 ≤ E.lc) && decide (h.us + (12 : Int32).toNatClampNeg ≤ E.lu)) (hs h.nx fun n37 => hs (h.mk 101 (12 : Int32).toNatClampNeg (12 : Int32).toNatClampNeg) fun h =>
    gd ((h.kd t == 23) && decide (E.bs ≤ t)) (hs (h.setR t 170 (some n37)) fun h =>
    gd (decide (0 ≤ (12 : Int32)) && decide ((12 : Int32).toNatClampNeg ≤ 1048576) && decide (h.nx + 1 ≤ E.lc) && decide (h.us + (12 : Int32).toNatClampNeg ≤ E.lu)) (hs h.nx fun n38 => hs (h.mk 101 (12 : Int32).toNatClampNeg (12 : Int32).toNatClampNeg) fun h =>
    gd ((h.kd t == 23) && decide (E.bs ≤ t)) (hs (h.setR t 173 (some n38)) fun h =>
    gd (decide (0 ≤ (12 : Int32)) && decide ((12 : Int32).toNatClampNeg ≤ 1048576) && decide (h.nx + 1 ≤ E.lc) && decide (h.us + (12 : Int32).toNatClampNeg ≤ E.lu)) (hs h.nx fun n39 => hs (h.mk 101 (12 : Int32).toNatClampNeg (12 : Int32).toNatClampNeg) fun h =>
    gd ((h.kd t == 23) && decide (E.bs ≤ t)) (hs (h.setR t 174 (some n39)) fun h =>
    gd (decide (0 ≤ (53248 : Int32)) && decide ((53248 : Int32).toNatClampNeg ≤ 1048576) && decide (h.nx + 1 ≤ E.lc) && decide (h.us + (53248 : Int32).toNatClampNeg ≤ E.lu)) (hs h.nx fun n40 => hs (h.mk 101 (53248 : Int32).toNatClampNeg (53248 : Int32).toNatClampNeg) fun h =>
    gd ((h.kd t == 23) && decide (E.bs ≤ t)) (hs (h.setR t 175 (some n40)) fun h =>
    gd (decide (0 ≤ (3 : Int32)) && decide ((3 : Int32).toNatClampNeg ≤ 1048576) && decide (h.nx + 1 ≤ E.lc) && decide (h.us + (3 : Int32).toNatClampNeg ≤ E.lu)) (hs h.nx fun n41 => hs (h.mk 101 (3 : Int32).toNatClampNeg (3 : Int32).toNatClampNeg) fun h =>
    gd ((h.kd t == 23) && decide (E.bs ≤ t)) (hs (h.setR t 176 (some n41)) fun h =>
    gd ((h.kd t == 23) && decide (E.bs ≤ t) && true) (hs (h.setI t 178 2) fun h =>
    gd (decide (0 ≤ (6400 : Int32)) && decide ((6400 : Int32).toNatClampNeg ≤ 1048576) && decide (h.nx + 1 ≤ E.lc) && decide (h.us + (6400 : Int32).toNatClampNeg ≤ E.lu)) (hs h.nx fun n42 => hs (h.mk 101 (6400 : Int32).toNatClampNeg (6400 : Int32).toNatClampNeg) fun h =>
    gd ((h.kd t == 23) && decide (E.bs ≤ t)) (hs (h.setR t 181 (some n42)) fun h =>
    gd (decide (0 ≤ (10 : Int32)) && decide ((10 : Int32).toNatClampNeg ≤ 1048576) && decide (h.nx + 1 ≤ E.lc) && decide (h.us + (10 : Int32).toNatClampNeg ≤ E.lu)) (hs h.nx fun n43 => hs (h.mk 101 (10 : Int32).toNatClampNeg (10 : Int32).toNatClampNeg) fun h =>
    gd ((h.kd t == 23) && decide (E.bs ≤ t)) (hs (h.setR t 182 (some n43)) fun h =>
    gd (decide (0 ≤ (10 : Int32)) && decide ((10 : Int32).toNatClampNeg ≤ 1048576) && decide (h.nx + 1 ≤ E.lc) && decide (h.us + (10 : Int32).toNatClampNeg ≤ E.lu)) (hs h.nx fun n44 => hs (h.mk 101 (10 : Int32).toNatClampNeg (10 : Int32).toNatClampNeg) fun h =>
    gd ((h.kd t == 23) && decide (E.bs ≤ t)) (hs (h.setR t 183 (some n44)) fun h =>
    gd (decide (0 ≤ (10 : Int32)) && decide ((10 : Int32).toNatClampNeg ≤ 1048576) && decide (h.nx + 1 ≤ E.lc) && decide (h.us + (10 : Int32).toNatClampNeg ≤ E.lu)) (hs h.nx fun n45 => hs (h.mk 101 (10 : Int32).toNatClampNeg (10 : Int32).toNatClampNeg) fun h =>
    gd ((h.kd t == 23) && decide (E.bs ≤ t)) (hs (h.setR t 184 (some n45)) fun h =>
    gd (decide (0 ≤ (12 : Int32)) && decide ((12 : Int32).toNatClampNeg ≤ 1048576) && decide (h.nx + 1 ≤ E.lc) && decide (h.us + (12 : Int32).toNatClampNeg ≤ E.lu)) (hs h.nx fun n46 => hs (h.mk 101 (12 : Int32).toNatClampNeg (12 : Int32).toNatClampNeg) fun h =>
    gd ((h.kd t == 23) && decide (E.bs ≤ t)) (hs (h.setR t 186 (some n46)) fun h =>
    gd (decide (0 ≤ (12 : Int32)) && decide ((12 : Int32).toNatClampNeg ≤ 1048576) && decide (h.nx + 1 ≤ E.lc) && decide (h.us + (12 : Int32).toNatClampNeg ≤ E.lu)) (hs h.nx fun n47 => hs (h.mk 101 (12 : Int32).toNatClampNeg (12 : Int32).toNatClampNeg) fun h =>
    gd ((h.kd t == 23) && decide (E.bs ≤ t)) (hs (h.setR t 187 (some n47)) fun h =>
    gd (decide (0 ≤ (8 : Int32)) && decide ((8 : Int32).toNatClampNeg ≤ 1048576) && decide (h.nx + 1 ≤ E.lc) && decide (h.us + (8 : Int32).toNatClampNeg ≤ E.lu)) (hs h.nx fun n48 => hs (h.mk 101 (8 : Int32).toNatClampNeg (8 : Int32).toNatClampNeg) fun h =>
    gd ((h.kd t == 23) && decide (E.bs ≤ t)) (hs (h.setR t 192 (some n48)) fun h =>
    gd (decide (0 ≤ (8 : Int32)) && decide ((8 : Int32).toNatClampNeg ≤ 1048576) && decide (h.nx + 1 ≤ E.lc) && decide (h.us + (8 : Int32).toNatClampNeg ≤ E.lu)) (hs h.nx fun n49 => hs (h.mk 101 (8 : Int32).toNatClampNeg (8 : Int32).toNatClampNeg) fun h =>
    gd ((h.kd t == 23) && decide (E.bs ≤ t)) (hs (h.setR t 193 (some n49)) fun h =>
    gd (decide (0 ≤ (302715 : Int32)) && decide ((302715 : Int32).toNatClampNeg ≤ 1048576) && decide (h.nx + 1 ≤ E.lc) && decide (h.us + (302715 : Int32).toNatClampNeg ≤ E.lu)) (hs h.nx fun n50 => hs (h.mk 103 (302715 : Int32).toNatClampNeg (302715 : Int32).toNatClampNeg) fun h =>
    gd ((h.kd t == 23) && decide (E.bs ≤ t)) (hs (h.setR t 194 (some n50)) fun h =>
    some (Sum.inl none, h))))))))))))))))))))))))))))))))))))))))))))))))))))))))))))))))))))))))))))))))))))))))))))))))))))))) := rn_b (b := b138_0) rfl
/-! 139 FastPlaneModel.isCompared()Z -/
theorem c139 (E : EV) (d : Nat) (t : Nat) (h : AH) : cal E (d + 1) 139 [vR (some t)] h = rn E d 139 0 [some (vR (some t)), none] [] h := cal_rn rfl rfl
theorem e139_0 (E : EV) (d : Nat) (t : Nat) (o1_ : Option AV) (h : AH) : rn E d 139 0 [some (vR (some t)), o1_] [] h =
    gd (h.kd t == 23) (hs ((h.I t 152) - 1) fun x1 =>
    rn E d 139 7 [some (vR (some t)), some (vI x1)] [] h) := rn_b (b := b139_0) rfl
theorem e139_7 (E : EV) (d : Nat) (t : Nat) (x1_ : Int32) (h : AH) : rn E d 139 7 [some (vR (some t)), some (vI x1_)] [] h =
    gd (h.kd t == 23) (nn (h.R t 145) fun a1 =>
    gd (h.kd a1 == 101 && inb x1_ (h.ln a1)) (if (h.I a1 x1_.toNatClampNeg) = 5 then rn E d 139 28 [some (vR (some t)), some (vI x1_)] [] h else
    gd (h.kd t == 23) (nn (h.R t 145) fun a2 =>
    gd (h.kd a2 == 101 && inb x1_ (h.ln a2)) (if (h.I a2 x1_.toNatClampNeg) = 6 then
    rn E d 139 28 [some (vR (some t)), some (vI x1_)] [] h
    else rn E d 139 34 [some (vR (some t)), some (vI x1_)] [] h)))) := rn_b (b := b139_7) rfl
theorem e139_28 (E : EV) (d : Nat) (t : Nat) (x1_ : Int32) (h : AH) : rn E d 139 28 [some (vR (some t)), some (vI x1_)] [] h =
    hs (x1_ + (-1)) fun x1 =>
    rn E d 139 7 [some (vR (some t)), some (vI x1)] [] h := rn_b (b := b139_28) rfl
theorem e139_34 (E : EV) (d : Nat) (t : Nat) (x1_ : Int32) (h : AH) : rn E d 139 34 [some (vR (some t)), some (vI x1_)] [] h =
    gd (h.kd t == 23) (nn (h.R t 145) fun a1 =>
    gd (h.kd a1 == 101 && inb x1_ (h.ln a1)) (if (h.I a1 x1_.toNatClampNeg) = 4 then
    rn E d 139 49 [some (vR (some t)), some (vI x1_)] [vI 1] h
    else rn E d 139 48 [some (vR (some t)), some (vI x1_)] [] h)) := rn_b (b := b139_34) rfl
theorem e139_48 (E : EV) (d : Nat) (t : Nat) (x1_ : Int32) (h : AH) : rn E d 139 48 [some (vR (some t)), some (vI x1_)] [] h =
    rn E d 139 49 [some (vR (some t)), some (vI x1_)] [vI 0] h := rn_b (b := b139_48) rfl
theorem e139_49 (E : EV) (d : Nat) (t : Nat) (x1_ : Int32) (s0_ : Int32) (h : AH) : rn E d 139 49 [some (vR (some t)), some (vI x1_)] [vI s0_] h =
    gd (decide (s0_ = 0) || decide (s0_ = 1)) (some (Sum.inl (some (vI s0_)), h)) := rn_b (b := b139_49) rfl
/-! 140 FastPlaneModel.isDigit(I)Z -/
theorem c140 (E : EV) (d : Nat) (x0_ : Int32) (h : AH) : cal E (d + 1) 140 [vI x0_] h = rn E d 140 0 [some (vI x0_)] [] h := cal_rn rfl rfl
theorem e140_0 (E : EV) (d : Nat) (x0_ : Int32) (h : AH) : rn E d 140 0 [some (vI x0_)] [] h =
    if x0_ < 48 then rn E d 140 16 [some (vI x0_)] [] h else
    if 57 < x0_ then rn E d 140 16 [some (vI x0_)] [] h else
    rn E d 140 17 [some (vI x0_)] [vI 1] h := rn_b (b := b140_0) rfl
theorem e140_16 (E : EV) (d : Nat) (x0_ : Int32) (h : AH) : rn E d 140 16 [some (vI x0_)] [] h =
    rn E d 140 17 [some (vI x0_)] [vI 0] h := rn_b (b := b140_16) rfl
theorem e140_17 (E : EV) (d : Nat) (x0_ : Int32) (s0_ : Int32) (h : AH) : rn E d 140 17 [some (vI x0_)] [vI s0_] h =
    gd (decide (s0_ = 0) || decide (s0_ = 1)) (some (Sum.inl (some (vI s0_)), h)) := rn_b (b := b140_17) rfl
/-! 141 FastPlaneModel.isFuel(II)Z -/
theorem c141 (E : EV) (d : Nat) (t : Nat) (x1_ : Int32) (x2_ : Int32) (h : AH) : cal E (d + 1) 141 [vR (some t), vI x1_, vI x2_] h = rn E d 141 0 [some (vR (some t)), some (vI x1_), some (vI x2_)] [] h := cal_rn rfl rfl
theorem e141_0 (E : EV) (d : Nat) (t : Nat) (x1_ : Int32) (x2_ : Int32) (h : AH) : rn E d 141 0 [some (vR (some t)), some (vI x1_), some (vI x2_)] [] h =
    gd (h.kd t == 23) (cI (cal E d 204 [vR (some t)] h) th fun v1 h =>
    if v1 ≤ x1_ then rn E d 141 29 [some (vR (some t)), some (vI x1_), some (vI x2_)] [] h else
    gd (h.kd t == 23) (gd (h.kd t == 23) (nn (h.R t 131) fun a2 =>
    gd (h.kd a2 == 101 && inb ((3 * (h.I t 135)) + x1_) (h.ln a2)) (cI (cal E d 144 [vI x2_, vI 0, vI (h.I a2 ((3 * (h.I t 135)) + x1_).toNatClampNeg)] h) th fun v3 h =>
    rn E d 141 38 [some (vR (some t)), some (vI x1_), some (vI x2_)] [vI v3] h)))) := rn_b (b := b141_0) rfl
theorem e141_29 (E : EV) (d : Nat) (t : Nat) (x1_ : Int32) (x2_ : Int32) (h : AH) : rn E d 141 29 [some (vR (some t)), some (vI x1_), some (vI x2_)] [] h =
    if x2_ = 0 then
    rn E d 141 38 [some (vR (some t)), some (vI x1_), some (vI x2_)] [vI 1] h
    else rn E d 141 37 [some (vR (some t)), some (vI x1_), some (vI x2_)] [] h := rn_b (b := b141_29) rfl
theorem e141_37 (E : EV) (d : Nat) (t : Nat) (x1_ : Int32) (x2_ : Int32) (h : AH) : rn E d 141 37 [some (vR (some t)), some (vI x1_), some (vI x2_)] [] h =
    rn E d 141 38 [some (vR (some t)), some (vI x1_), some (vI x2_)] [vI 0] h := rn_b (b := b141_37) rfl
theorem e141_38 (E : EV) (d : Nat) (t : Nat) (x1_ : Int32) (x2_ : Int32) (s0_ : Int32) (h : AH) : rn E d 141 38 [some (vR (some t)), some (vI x1_), some (vI x2_)] [vI s0_] h =
    gd (decide (s0_ = 0) || decide (s0_ = 1)) (some (Sum.inl (some (vI s0_)), h)) := rn_b (b := b141_38) rfl
/-! 142 FastPlaneModel.isFull()Z -/
theorem c142 (E : EV) (d : Nat) (t : Nat) (h : AH) : cal E (d + 1) 142 [vR (some t)] h = rn E d 142 0 [some (vR (some t))] [] h := cal_rn rfl rfl
theorem e142_0 (E : EV) (d : Nat) (t : Nat) (h : AH) : rn E d 142 0 [some (vR (some t))] [] h =
    gd (h.kd t == 23) (cI (cal E d 152 [vR (some t), vL 1885434484] h) th fun v1 h =>
    if v1 = 0 then rn E d 142 30 [some (vR (some t))] [] h else
    gd (h.kd t == 23) (gd (h.kd t == 23) (nn (h.R t 116) fun a2 =>
    gd (h.kd a2 == 101 && inb (h.I t 136) (h.ln a2)) (if (h.I a2 (h.I t 136).toNatClampNeg) = 12 then
    rn E d 142 29 [some (vR (some t))] [vI 1] h
    else rn E d 142 28 [some (vR (some t))] [] h)))) := rn_b (b := b142_0) rfl
theorem e142_28 (E : EV) (d : Nat) (t : Nat) (h : AH) : rn E d 142 28 [some (vR (some t))] [] h =
    rn E d 142 29 [some (vR (some t))] [vI 0] h := rn_b (b := b142_28) rfl
theorem e142_29 (E : EV) (d : Nat) (t : Nat) (s0_ : Int32) (h : AH) : rn E d 142 29 [some (vR (some t))] [vI s0_] h =
    gd (decide (s0_ = 0) || decide (s0_ = 1)) (some (Sum.inl (some (vI s0_)), h)) := rn_b (b := b142_29) rfl
theorem e142_30 (E : EV) (d : Nat) (t : Nat) (h : AH) : rn E d 142 30 [some (vR (some t))] [] h =
    gd (h.kd t == 23) (cI (cal E d 152 [vR (some t), vL 1785686382] h) th fun v1 h =>
    if v1 = 0 then rn E d 142 60 [some (vR (some t))] [] h else
    gd (h.kd t == 23) (gd (h.kd t == 23) (nn (h.R t 117) fun a2 =>
    gd (h.kd a2 == 101 && inb (h.I t 136) (h.ln a2)) (if (h.I a2 (h.I t 136).toNatClampNeg) = 16 then
    rn E d 142 59 [some (vR (some t))] [vI 1] h
    else rn E d 142 58 [some (vR (some t))] [] h)))) := rn_b (b := b142_30) rfl
theorem e142_58 (E : EV) (d : Nat) (t : Nat) (h : AH) : rn E d 142 58 [some (vR (some t))] [] h =
    rn E d 142 59 [some (vR (some t))] [vI 0] h := rn_b (b := b142_58) rfl
theorem e142_59 (E : EV) (d : Nat) (t : Nat) (s0_ : Int32) (h : AH) : rn E d 142 59 [some (vR (some t))] [vI s0_] h =
    gd (decide (s0_ = 0) || decide (s0_ = 1)) (some (Sum.inl (some (vI s0_)), h)) := rn_b (b := b142_59) rfl
theorem e142_60 (E : EV) (d : Nat) (t : Nat) (h : AH) : rn E d 142 60 [some (vR (some t))] [] h =
    gd (h.kd t == 23) (cI (cal E d 152 [vR (some t), vL 470021465459] h) th fun v1 h =>
    if v1 = 0 then rn E d 142 90 [some (vR (some t))] [] h else
    gd (h.kd t == 23) (gd (h.kd t == 23) (nn (h.R t 118) fun a2 =>
    gd (h.kd a2 == 101 && inb (h.I t 136) (h.ln a2)) (if (h.I a2 (h.I t 136).toNatClampNeg) = 16 then
    rn E d 142 89 [some (vR (some t))] [vI 1] h
    else rn E d 142 88 [some (vR (some t))] [] h)))) := rn_b (b := b142_60) rfl
theorem e142_88 (E : EV) (d : Nat) (t : Nat) (h : AH) : rn E d 142 88 [some (vR (some t))] [] h =
    rn E d 142 89 [some (vR (some t))] [vI 0] h := rn_b (b := b142_88) rfl
theorem e142_89 (E : EV) (d : Nat) (t : Nat) (s0_ : Int32) (h : AH) : rn E d 142 89 [some (vR (some t))] [vI s0_] h =
    gd (decide (s0_ = 0) || decide (s0_ = 1)) (some (Sum.inl (some (vI s0_)), h)) := rn_b (b := b142_89) rfl
theorem e142_90 (E : EV) (d : Nat) (t : Nat) (h : AH) : rn E d 142 90 [some (vR (some t))] [] h =
    gd (h.kd t == 23) (cI (cal E d 152 [vR (some t), vL 1952542315] h) th fun v1 h =>
    if v1 = 0 then rn E d 142 119 [some (vR (some t))] [] h else
    gd (h.kd t == 23) (gd (h.kd t == 23) (nn (h.R t 119) fun a2 =>
    gd (h.kd a2 == 101 && inb (h.I t 136) (h.ln a2)) (if (h.I a2 (h.I t 136).toNatClampNeg) = 3 then
    rn E d 142 118 [some (vR (some t))] [vI 1] h
    else rn E d 142 117 [some (vR (some t))] [] h)))) := rn_b (b := b142_90) rfl
theorem e142_117 (E : EV) (d : Nat) (t : Nat) (h : AH) : rn E d 142 117 [some (vR (some t))] [] h =
    rn E d 142 118 [some (vR (some t))] [vI 0] h := rn_b (b := b142_117) rfl
theorem e142_118 (E : EV) (d : Nat) (t : Nat) (s0_ : Int32) (h : AH) : rn E d 142 118 [some (vR (some t))] [vI s0_] h =
    gd (decide (s0_ = 0) || decide (s0_ = 1)) (some (Sum.inl (some (vI s0_)), h)) := rn_b (b := b142_118) rfl
theorem e142_119 (E : EV) (d : Nat) (t : Nat) (h : AH) : rn E d 142 119 [some (vR (some t))] [] h =
    gd (h.kd t == 23) (cI (cal E d 152 [vR (some t), vL 7499639] h) th fun v1 h =>
    if v1 = 0 then
    rn E d 142 134 [some (vR (some t))] [vI 1] h
    else rn E d 142 133 [some (vR (some t))] [] h) := rn_b (b := b142_119) rfl
theorem e142_133 (E : EV) (d : Nat) (t : Nat) (h : AH) : rn E d 142 133 [some (vR (some t))] [] h =
    rn E d 142 134 [some (vR (some t))] [vI 0] h := rn_b (b := b142_133) rfl
theorem e142_134 (E : EV) (d : Nat) (t : Nat) (s0_ : Int32) (h : AH) : rn E d 142 134 [some (vR (some t))] [vI s0_] h =
    gd (decide (s0_ = 0) || decide (s0_ = 1)) (some (Sum.inl (some (vI s0_)), h)) := rn_b (b := b142_134) rfl
/-! 143 FastPlaneModel.isGood()Z -/
theorem c143 (E : EV) (d : Nat) (t : Nat) (h : AH) : cal E (d + 1) 143 [vR (some t)] h = rn E d 143 0 [some (vR (some t))] [] h := cal_rn rfl rfl
theorem e143_0 (E : EV) (d : Nat) (t : Nat) (h : AH) : rn E d 143 0 [some (vR (some t))] [] h =
    gd (h.kd t == 23) (if (h.I t 108) = 0 then
    rn E d 143 12 [some (vR (some t))] [vI 1] h
    else rn E d 143 11 [some (vR (some t))] [] h) := rn_b (b := b143_0) rfl
theorem e143_11 (E : EV) (d : Nat) (t : Nat) (h : AH) : rn E d 143 11 [some (vR (some t))] [] h =
    rn E d 143 12 [some (vR (some t))] [vI 0] h := rn_b (b := b143_11) rfl
theorem e143_12 (E : EV) (d : Nat) (t : Nat) (s0_ : Int32) (h : AH) : rn E d 143 12 [some (vR (some t))] [vI s0_] h =
    gd (decide (s0_ = 0) || decide (s0_ = 1)) (some (Sum.inl (some (vI s0_)), h)) := rn_b (b := b143_12) rfl
/-! 144 FastPlaneModel.isIn(III)Z -/
theorem c144 (E : EV) (d : Nat) (x0_ : Int32) (x1_ : Int32) (x2_ : Int32) (h : AH) : cal E (d + 1) 144 [vI x0_, vI x1_, vI x2_] h = rn E d 144 0 [some (vI x0_), some (vI x1_), some (vI x2_)] [] h := cal_rn rfl rfl
theorem e144_0 (E : EV) (d : Nat) (x0_ : Int32) (x1_ : Int32) (x2_ : Int32) (h : AH) : rn E d 144 0 [some (vI x0_), some (vI x1_), some (vI x2_)] [] h =
    if x0_ < x1_ then rn E d 144 14 [some (vI x0_), some (vI x1_), some (vI x2_)] [] h else
    if x2_ < x0_ then rn E d 144 14 [some (vI x0_), some (vI x1_), some (vI x2_)] [] h else
    rn E d 144 15 [some (vI x0_), some (vI x1_), some (vI x2_)] [vI 1] h := rn_b (b := b144_0) rfl
theorem e144_14 (E : EV) (d : Nat) (x0_ : Int32) (x1_ : Int32) (x2_ : Int32) (h : AH) : rn E d 144 14 [some (vI x0_), some (vI x1_), some (vI x2_)] [] h =
    rn E d 144 15 [some (vI x0_), some (vI x1_), some (vI x2_)] [vI 0] h := rn_b (b := b144_14) rfl
theorem e144_15 (E : EV) (d : Nat) (x0_ : Int32) (x1_ : Int32) (x2_ : Int32) (s0_ : Int32) (h : AH) : rn E d 144 15 [some (vI x0_), some (vI x1_), some (vI x2_)] [vI s0_] h =
    gd (decide (s0_ = 0) || decide (s0_ = 1)) (some (Sum.inl (some (vI s0_)), h)) := rn_b (b := b144_15) rfl
/-! 145 FastPlaneModel.isKept(J)Z -/
theorem c145 (E : EV) (d : Nat) (x0_ : Int64) (h : AH) : cal E (d + 1) 145 [vL x0_] h = rn E d 145 0 [some (vL x0_), none, none, none] [] h := cal_rn rfl rfl
theorem e145_0 (E : EV) (d : Nat) (l0_ : Int64) (o1_ : Option AV) (o2_ : Option AV) (o3_ : Option AV) (h : AH) : rn E d 145 0 [some (vL l0_), o1_, o2_, o3_] [] h =
    if (lg_cmp l0_ 1885434484) = 0 then rn E d 145 96 [some (vL l0_), o1_, o2_, o3_] [] h else
    if (lg_cmp l0_ 25209) = 0 then rn E d 145 96 [some (vL l0_), o1_, o2_, o3_] [] h else
    if (lg_cmp l0_ 1819242087) = 0 then rn E d 145 96 [some (vL l0_), o1_, o2_, o3_] [] h else
    if (lg_cmp l0_ 25453) = 0 then rn E d 145 96 [some (vL l0_), o1_, o2_, o3_] [] h else
    if (lg_cmp l0_ 1768842088) = 0 then rn E d 145 96 [some (vL l0_), o1_, o2_, o3_] [] h else
    if (lg_cmp l0_ 444301539187) = 0 then rn E d 145 96 [some (vL l0_), o1_, o2_, o3_] [] h else
    if (lg_cmp l0_ 427071599731) = 0 then rn E d 145 96 [some (vL l0_), o1_, o2_, o3_] [] h else
    if (lg_cmp l0_ 1785686382) = 0 then rn E d 145 96 [some (vL l0_), o1_, o2_, o3_] [] h else
    if (lg_cmp l0_ 6775152) = 0 then rn E d 145 96 [some (vL l0_), o1_, o2_, o3_] [] h else
    if (lg_cmp l0_ 470021465459) = 0 then rn E d 145 96 [some (vL l0_), o1_, o2_, o3_] [] h else
    if (lg_cmp l0_ 418330731890) = 0 then rn E d 145 96 [some (vL l0_), o1_, o2_, o3_] [] h else
    if (lg_cmp l0_ 1952542315) = 0 then
    rn E d 145 96 [some (vL l0_), o1_, o2_, o3_] [] h
    else rn E d 145 100 [some (vL l0_), o1_, o2_, o3_] [] h := rn_b (b := b145_0) rfl
theorem e145_96 (E : EV) (d : Nat) (l0_ : Int64) (o1_ : Option AV) (o2_ : Option AV) (o3_ : Option AV) (h : AH) : rn E d 145 96 [some (vL l0_), o1_, o2_, o3_] [] h =
    rn E d 145 101 [some (vL l0_), o1_, o2_, o3_] [vI 1] h := rn_b (b := b145_96) rfl
theorem e145_100 (E : EV) (d : Nat) (l0_ : Int64) (o1_ : Option AV) (o2_ : Option AV) (o3_ : Option AV) (h : AH) : rn E d 145 100 [some (vL l0_), o1_, o2_, o3_] [] h =
    rn E d 145 101 [some (vL l0_), o1_, o2_, o3_] [vI 0] h := rn_b (b := b145_100) rfl
theorem e145_101 (E : EV) (d : Nat) (l0_ : Int64) (o1_ : Option AV) (o2_ : Option AV) (o3_ : Option AV) (s0_ : Int32) (h : AH) : rn E d 145 101 [some (vL l0_), o1_, o2_, o3_] [vI s0_] h =
    if (lg_cmp l0_ 24948) = 0 then rn E d 145 190 [some (vL l0_), o1_, some (vI s0_), o3_] [] h else
    if (lg_cmp l0_ 448545973363) = 0 then rn E d 145 190 [some (vL l0_), o1_, some (vI s0_), o3_] [] h else
    if (lg_cmp l0_ 7499639) = 0 then rn E d 145 190 [some (vL l0_), o1_, some (vI s0_), o3_] [] h else
    if (lg_cmp l0_ 495672455781) = 0 then rn E d 145 190 [some (vL l0_), o1_, some (vI s0_), o3_] [] h else
    if (lg_cmp l0_ 465557354085) = 0 then rn E d 145 190 [some (vL l0_), o1_, some (vI s0_), o3_] [] h else
    if (lg_cmp l0_ 6712441) = 0 then rn E d 145 190 [some (vL l0_), o1_, some (vI s0_), o3_] [] h else
    if (lg_cmp l0_ 1801807216) = 0 then rn E d 145 190 [some (vL l0_), o1_, some (vI s0_), o3_] [] h else
    if (lg_cmp l0_ 2003330414) = 0 then rn E d 145 190 [some (vL l0_), o1_, some (vI s0_), o3_] [] h else
    if (lg_cmp l0_ 6385252) = 0 then rn E d 145 190 [some (vL l0_), o1_, some (vI s0_), o3_] [] h else
    if (lg_cmp l0_ 28530) = 0 then rn E d 145 190 [some (vL l0_), o1_, some (vI s0_), o3_] [] h else
    if (lg_cmp l0_ 7237492) = 0 then
    rn E d 145 190 [some (vL l0_), o1_, some (vI s0_), o3_] [] h
    else rn E d 145 194 [some (vL l0_), o1_, some (vI s0_), o3_] [] h := rn_b (b := b145_101) rfl
theorem e145_190 (E : EV) (d : Nat) (l0_ : Int64) (o1_ : Option AV) (x2_ : Int32) (o3_ : Option AV) (h : AH) : rn E d 145 190 [some (vL l0_), o1_, some (vI x2_), o3_] [] h =
    rn E d 145 195 [some (vL l0_), o1_, some (vI x2_), o3_] [vI 1] h := rn_b (b := b145_190) rfl
theorem e145_194 (E : EV) (d : Nat) (l0_ : Int64) (o1_ : Option AV) (x2_ : Int32) (o3_ : Option AV) (h : AH) : rn E d 145 194 [some (vL l0_), o1_, some (vI x2_), o3_] [] h =
    rn E d 145 195 [some (vL l0_), o1_, some (vI x2_), o3_] [vI 0] h := rn_b (b := b145_194) rfl
theorem e145_195 (E : EV) (d : Nat) (l0_ : Int64) (o1_ : Option AV) (x2_ : Int32) (o3_ : Option AV) (s0_ : Int32) (h : AH) : rn E d 145 195 [some (vL l0_), o1_, some (vI x2_), o3_] [vI s0_] h =
    if x2_ = 0 then
    if s0_ = 0 then
    if (lg_cmp l0_ 1818324580) = 0 then rn E d 145 292 [some (vL l0_), o1_, some (vI x2_), some (vI s0_)] [] h else
    if (lg_cmp l0_ 1668248436) = 0 then rn E d 145 292 [some (vL l0_), o1_, some (vI x2_), some (vI s0_)] [] h else
    if (lg_cmp l0_ 470020945000) = 0 then rn E d 145 292 [some (vL l0_), o1_, some (vI x2_), some (vI s0_)] [] h else
    if (lg_cmp l0_ 1870030194) = 0 then rn E d 145 292 [some (vL l0_), o1_, some (vI x2_), some (vI s0_)] [] h else
    if (lg_cmp l0_ 113741193899620) = 0 then rn E d 145 292 [some (vL l0_), o1_, some (vI x2_), some (vI s0_)] [] h else
    if (lg_cmp l0_ 1752135026) = 0 then rn E d 145 292 [some (vL l0_), o1_, some (vI x2_), some (vI s0_)] [] h else
    if (lg_cmp l0_ 495806932324) = 0 then rn E d 145 292 [some (vL l0_), o1_, some (vI x2_), some (vI s0_)] [] h else
    if (lg_cmp l0_ 27419012906970725) = 0 then rn E d 145 292 [some (vL l0_), o1_, some (vI x2_), some (vI s0_)] [] h else
    if (lg_cmp l0_ 495673374574) = 0 then rn E d 145 292 [some (vL l0_), o1_, some (vI x2_), some (vI s0_)] [] h else
    if (lg_cmp l0_ 122545758368371) = 0 then rn E d 145 292 [some (vL l0_), o1_, some (vI x2_), some (vI s0_)] [] h else
    if (lg_cmp l0_ 482955846501) = 0 then
    rn E d 145 292 [some (vL l0_), o1_, some (vI x2_), some (vI s0_)] [] h
    else rn E d 145 296 [some (vL l0_), o1_, some (vI x2_), some (vI s0_)] [] h
    else rn E d 145 292 [some (vL l0_), o1_, some (vI x2_), some (vI s0_)] [] h
    else rn E d 145 292 [some (vL l0_), o1_, some (vI x2_), some (vI s0_)] [] h := rn_b (b := b145_195) rfl
theorem e145_292 (E : EV) (d : Nat) (l0_ : Int64) (o1_ : Option AV) (x2_ : Int32) (x3_ : Int32) (h : AH) : rn E d 145 292 [some (vL l0_), o1_, some (vI x2_), some (vI x3_)] [] h =
    rn E d 145 297 [some (vL l0_), o1_, some (vI x2_), some (vI x3_)] [vI 1] h := rn_b (b := b145_292) rfl
theorem e145_296 (E : EV) (d : Nat) (l0_ : Int64) (o1_ : Option AV) (x2_ : Int32) (x3_ : Int32) (h : AH) : rn E d 145 296 [some (vL l0_), o1_, some (vI x2_), some (vI x3_)] [] h =
    rn E d 145 297 [some (vL l0_), o1_, some (vI x2_), some (vI x3_)] [vI 0] h := rn_b (b := b145_296) rfl
theorem e145_297 (E : EV) (d : Nat) (l0_ : Int64) (o1_ : Option AV) (x2_ : Int32) (x3_ : Int32) (s0_ : Int32) (h : AH) : rn E d 145 297 [some (vL l0_), o1_, some (vI x2_), some (vI x3_)] [vI s0_] h =
    gd (decide (s0_ = 0) || decide (s0_ = 1)) (some (Sum.inl (some (vI s0_)), h)) := rn_b (b := b145_297) rfl
/-! 146 FastPlaneModel.isLetter(I)Z -/
theorem c146 (E : EV) (d : Nat) (x0_ : Int32) (h : AH) : cal E (d + 1) 146 [vI x0_] h = rn E d 146 0 [some (vI x0_)] [] h := cal_rn rfl rfl
theorem e146_0 (E : EV) (d : Nat) (x0_ : Int32) (h : AH) : rn E d 146 0 [some (vI x0_)] [] h =
    if x0_ < 97 then rn E d 146 16 [some (vI x0_)] [] h else
    if 122 < x0_ then rn E d 146 16 [some (vI x0_)] [] h else
    rn E d 146 17 [some (vI x0_)] [vI 1] h := rn_b (b := b146_0) rfl
theorem e146_16 (E : EV) (d : Nat) (x0_ : Int32) (h : AH) : rn E d 146 16 [some (vI x0_)] [] h =
    rn E d 146 17 [some (vI x0_)] [vI 0] h := rn_b (b := b146_16) rfl
theorem e146_17 (E : EV) (d : Nat) (x0_ : Int32) (s0_ : Int32) (h : AH) : rn E d 146 17 [some (vI x0_)] [vI s0_] h =
    gd (decide (s0_ = 0) || decide (s0_ = 1)) (some (Sum.inl (some (vI s0_)), h)) := rn_b (b := b146_17) rfl
/-! 147 FastPlaneModel.isMoney(II)Z -/
theorem c147 (E : EV) (d : Nat) (x0_ : Int32) (x1_ : Int32) (h : AH) : cal E (d + 1) 147 [vI x0_, vI x1_] h = rn E d 147 0 [some (vI x0_), some (vI x1_)] [] h := cal_rn rfl rfl
theorem e147_0 (E : EV) (d : Nat) (x0_ : Int32) (x1_ : Int32) (h : AH) : rn E d 147 0 [some (vI x0_), some (vI x1_)] [] h =
    cI (cal E d 144 [vI x0_, vI 0, vI 30] h) th fun v1 h =>
    if v1 = 0 then rn E d 147 24 [some (vI x0_), some (vI x1_)] [] h else
    cI (cal E d 144 [vI x1_, vI 0, vI 30] h) th fun v2 h =>
    if v2 = 0 then rn E d 147 24 [some (vI x0_), some (vI x1_)] [] h else
    rn E d 147 25 [some (vI x0_), some (vI x1_)] [vI 1] h := rn_b (b := b147_0) rfl
theorem e147_24 (E : EV) (d : Nat) (x0_ : Int32) (x1_ : Int32) (h : AH) : rn E d 147 24 [some (vI x0_), some (vI x1_)] [] h =
    rn E d 147 25 [some (vI x0_), some (vI x1_)] [vI 0] h := rn_b (b := b147_24) rfl
theorem e147_25 (E : EV) (d : Nat) (x0_ : Int32) (x1_ : Int32) (s0_ : Int32) (h : AH) : rn E d 147 25 [some (vI x0_), some (vI x1_)] [vI s0_] h =
    gd (decide (s0_ = 0) || decide (s0_ = 1)) (some (Sum.inl (some (vI s0_)), h)) := rn_b (b := b147_25) rfl
/-! 148 FastPlaneModel.isMonth(I)Z -/
theorem c148 (E : EV) (d : Nat) (x0_ : Int32) (h : AH) : cal E (d + 1) 148 [vI x0_] h = rn E d 148 0 [some (vI x0_)] [] h := cal_rn rfl rfl
theorem e148_0 (E : EV) (d : Nat) (x0_ : Int32) (h : AH) : rn E d 148 0 [some (vI x0_)] [] h =
    cI (cal E d 144 [vI x0_, vI 0, vI 199] h) th fun v1 h =>
    gd (decide (v1 = 0) || decide (v1 = 1)) (some (Sum.inl (some (vI v1)), h)) := rn_b (b := b148_0) rfl
/-! 149 FastPlaneModel.isPart(I)Z -/
theorem c149 (E : EV) (d : Nat) (t : Nat) (x1_ : Int32) (h : AH) : cal E (d + 1) 149 [vR (some t), vI x1_] h = rn E d 149 0 [some (vR (some t)), some (vI x1_)] [] h := cal_rn rfl rfl
theorem e149_0 (E : EV) (d : Nat) (t : Nat) (x1_ : Int32) (h : AH) : rn E d 149 0 [some (vR (some t)), some (vI x1_)] [] h =
    gd (h.kd t == 23) (cI (cal E d 176 [vR (some t)] h) th fun v1 h =>
    cI (cal E d 144 [vI x1_, vI 0, vI (v1 - 1)] h) th fun v2 h =>
    gd (decide (v2 = 0) || decide (v2 = 1)) (some (Sum.inl (some (vI v2)), h))) := rn_b (b := b149_0) rfl
/-! 150 FastPlaneModel.isSign(I)Z -/
theorem c150 (E : EV) (d : Nat) (x0_ : Int32) (h : AH) : cal E (d + 1) 150 [vI x0_] h = rn E d 150 0 [some (vI x0_)] [] h := cal_rn rfl rfl
theorem e150_0 (E : EV) (d : Nat) (x0_ : Int32) (h : AH) : rn E d 150 0 [some (vI x0_)] [] h =
    if x0_ = 59 then rn E d 150 54 [some (vI x0_)] [] h else
    if x0_ = 40 then rn E d 150 54 [some (vI x0_)] [] h else
    if x0_ = 41 then rn E d 150 54 [some (vI x0_)] [] h else
    if x0_ = 60 then rn E d 150 54 [some (vI x0_)] [] h else
    if x0_ = 62 then rn E d 150 54 [some (vI x0_)] [] h else
    if x0_ = 61 then rn E d 150 54 [some (vI x0_)] [] h else
    if x0_ = 43 then rn E d 150 54 [some (vI x0_)] [] h else
    if x0_ = 45 then rn E d 150 54 [some (vI x0_)] [] h else
    if x0_ = 42 then
    rn E d 150 54 [some (vI x0_)] [] h
    else rn E d 150 58 [some (vI x0_)] [] h := rn_b (b := b150_0) rfl
theorem e150_54 (E : EV) (d : Nat) (x0_ : Int32) (h : AH) : rn E d 150 54 [some (vI x0_)] [] h =
    rn E d 150 59 [some (vI x0_)] [vI 1] h := rn_b (b := b150_54) rfl
theorem e150_58 (E : EV) (d : Nat) (x0_ : Int32) (h : AH) : rn E d 150 58 [some (vI x0_)] [] h =
    rn E d 150 59 [some (vI x0_)] [vI 0] h := rn_b (b := b150_58) rfl
theorem e150_59 (E : EV) (d : Nat) (x0_ : Int32) (s0_ : Int32) (h : AH) : rn E d 150 59 [some (vI x0_)] [vI s0_] h =
    gd (decide (s0_ = 0) || decide (s0_ = 1)) (some (Sum.inl (some (vI s0_)), h)) := rn_b (b := b150_59) rfl
/-! 151 FastPlaneModel.isTongue(I)Z -/
theorem c151 (E : EV) (d : Nat) (x0_ : Int32) (h : AH) : cal E (d + 1) 151 [vI x0_] h = rn E d 151 0 [some (vI x0_)] [] h := cal_rn rfl rfl
theorem e151_0 (E : EV) (d : Nat) (x0_ : Int32) (h : AH) : rn E d 151 0 [some (vI x0_)] [] h =
    cI (cal E d 144 [vI x0_, vI 0, vI 2] h) th fun v1 h =>
    gd (decide (v1 = 0) || decide (v1 = 1)) (some (Sum.inl (some (vI v1)), h)) := rn_b (b := b151_0) rfl
/-! 152 FastPlaneModel.isWord(J)Z -/
theorem c152 (E : EV) (d : Nat) (t : Nat) (x1_ : Int64) (h : AH) : cal E (d + 1) 152 [vR (some t), vL x1_] h = rn E d 152 0 [some (vR (some t)), some (vL x1_), none] [] h := cal_rn rfl rfl
theorem e152_0 (E : EV) (d : Nat) (t : Nat) (l1_ : Int64) (o2_ : Option AV) (h : AH) : rn E d 152 0 [some (vR (some t)), some (vL l1_), o2_] [] h =
    gd (h.kd t == 23) (if (h.I t 112) = 3 then
    gd (h.kd t == 23) (if (lg_cmp (h.L t 114) l1_) = 0 then
    rn E d 152 22 [some (vR (some t)), some (vL l1_), o2_] [vI 1] h
    else rn E d 152 21 [some (vR (some t)), some (vL l1_), o2_] [] h)
    else rn E d 152 21 [some (vR (some t)), some (vL l1_), o2_] [] h) := rn_b (b := b152_0) rfl
theorem e152_21 (E : EV) (d : Nat) (t : Nat) (l1_ : Int64) (o2_ : Option AV) (h : AH) : rn E d 152 21 [some (vR (some t)), some (vL l1_), o2_] [] h =
    rn E d 152 22 [some (vR (some t)), some (vL l1_), o2_] [vI 0] h := rn_b (b := b152_21) rfl
theorem e152_22 (E : EV) (d : Nat) (t : Nat) (l1_ : Int64) (o2_ : Option AV) (s0_ : Int32) (h : AH) : rn E d 152 22 [some (vR (some t)), some (vL l1_), o2_] [vI s0_] h =
    gd (decide (s0_ = 0) || decide (s0_ = 1)) (some (Sum.inl (some (vI s0_)), h)) := rn_b (b := b152_22) rfl
/-! 153 FastPlaneModel.is(I)Z -/
theorem c153 (E : EV) (d : Nat) (t : Nat) (x1_ : Int32) (h : AH) : cal E (d + 1) 153 [vR (some t), vI x1_] h = rn E d 153 0 [some (vR (some t)), some (vI x1_)] [] h := cal_rn rfl rfl
theorem e153_0 (E : EV) (d : Nat) (t : Nat) (x1_ : Int32) (h : AH) : rn E d 153 0 [some (vR (some t)), some (vI x1_)] [] h =
    gd (h.kd t == 23) (if (h.I t 112) = 5 then
    gd (h.kd t == 23) (gd (h.kd t == 23) (cI (cal E d 197 [vR (some t), vI (h.I t 110)] h) th fun v1 h =>
    if v1 = x1_ then
    rn E d 153 25 [some (vR (some t)), some (vI x1_)] [vI 1] h
    else rn E d 153 24 [some (vR (some t)), some (vI x1_)] [] h))
    else rn E d 153 24 [some (vR (some t)), some (vI x1_)] [] h) := rn_b (b := b153_0) rfl
theorem e153_24 (E : EV) (d : Nat) (t : Nat) (x1_ : Int32) (h : AH) : rn E d 153 24 [some (vR (some t)), some (vI x1_)] [] h =
    rn E d 153 25 [some (vR (some t)), some (vI x1_)] [vI 0] h := rn_b (b := b153_24) rfl
theorem e153_25 (E : EV) (d : Nat) (t : Nat) (x1_ : Int32) (s0_ : Int32) (h : AH) : rn E d 153 25 [some (vR (some t)), some (vI x1_)] [vI s0_] h =
    gd (decide (s0_ = 0) || decide (s0_ = 1)) (some (Sum.inl (some (vI s0_)), h)) := rn_b (b := b153_25) rfl
/-! 154 FastPlaneModel.joins()I -/
theorem c154 (E : EV) (d : Nat) (t : Nat) (h : AH) : cal E (d + 1) 154 [vR (some t)] h = rn E d 154 0 [some (vR (some t))] [] h := cal_rn rfl rfl
theorem e154_0 (E : EV) (d : Nat) (t : Nat) (h : AH) : rn E d 154 0 [some (vR (some t))] [] h =
    gd (h.kd t == 23) (gd (h.kd t == 23) (nn (h.R t 117) fun a1 =>
    gd (h.kd a1 == 101 && inb (h.I t 135) (h.ln a1)) (some (Sum.inl (some (vI (h.I a1 (h.I t 135).toNatClampNeg))), h)))) := rn_b (b := b154_0) rfl
/-! 155 FastPlaneModel.land()I -/
theorem c155 (E : EV) (d : Nat) (t : Nat) (h : AH) : cal E (d + 1) 155 [vR (some t)] h = rn E d 155 0 [some (vR (some t)), none] [] h := cal_rn rfl rfl
theorem e155_0 (E : EV) (d : Nat) (t : Nat) (o1_ : Option AV) (h : AH) : rn E d 155 0 [some (vR (some t)), o1_] [] h =
    gd (h.kd t == 23) (hs (h.I t 177) fun x1 =>
    gd ((h.kd t == 23) && decide (E.bs ≤ t) && true) (hs (h.setI t 177 0) fun h =>
    some (Sum.inl (some (vI x1)), h))) := rn_b (b := b155_0) rfl
/-! 156 FastPlaneModel.lapse(IIII)I -/
theorem c156 (E : EV) (d : Nat) (t : Nat) (x1_ : Int32) (x2_ : Int32) (x3_ : Int32) (x4_ : Int32) (h : AH) : cal E (d + 1) 156 [vR (some t), vI x1_, vI x2_, vI x3_, vI x4_] h = rn E d 156 0 [some (vR (some t)), some (vI x1_), some (vI x2_), some (vI x3_), some (vI x4_)] [] h := cal_rn rfl rfl
theorem e156_0 (E : EV) (d : Nat) (t : Nat) (x1_ : Int32) (x2_ : Int32) (x3_ : Int32) (x4_ : Int32) (h : AH) : rn E d 156 0 [some (vR (some t)), some (vI x1_), some (vI x2_), some (vI x3_), some (vI x4_)] [] h =
    gd (h.kd t == 23) (cI (cal E d 144 [vI x1_, vI 0, vI ((h.I t 185) - 1)] h) th fun v1 h =>
    if v1 = 0 then rn E d 156 25 [some (vR (some t)), some (vI x1_), some (vI x2_), some (vI x3_), some (vI x4_)] [] h else
    gd (h.kd t == 23) (cI (cal E d 137 [vR (some t), vI x2_, vI x3_, vI x4_] h) th fun v2 h =>
    if 0 ≤ v2 then rn E d 156 27 [some (vR (some t)), some (vI x1_), some (vI x2_), some (vI x3_), some (vI x4_)] [] h else
    rn E d 156 25 [some (vR (some t)), some (vI x1_), some (vI x2_), some (vI x3_), some (vI x4_)] [] h)) := rn_b (b := b156_0) rfl
theorem e156_25 (E : EV) (d : Nat) (t : Nat) (x1_ : Int32) (x2_ : Int32) (x3_ : Int32) (x4_ : Int32) (h : AH) : rn E d 156 25 [some (vR (some t)), some (vI x1_), some (vI x2_), some (vI x3_), some (vI x4_)] [] h =
    some (Sum.inl (some (vI (-1))), h) := rn_b (b := b156_25) rfl
theorem e156_27 (E : EV) (d : Nat) (t : Nat) (x1_ : Int32) (x2_ : Int32) (x3_ : Int32) (x4_ : Int32) (h : AH) : rn E d 156 27 [some (vR (some t)), some (vI x1_), some (vI x2_), some (vI x3_), some (vI x4_)] [] h =
    gd (h.kd t == 23) (nn (h.R t 184) fun a1 =>
    gd (h.kd a1 == 101 && inb x1_ (h.ln a1)) (some (Sum.inl (some (vI (h.I a1 x1_.toNatClampNeg))), h))) := rn_b (b := b156_27) rfl
/-! 157 FastPlaneModel.later(I)I -/
theorem c157 (E : EV) (d : Nat) (t : Nat) (x1_ : Int32) (h : AH) : cal E (d + 1) 157 [vR (some t), vI x1_] h = rn E d 157 0 [some (vR (some t)), some (vI x1_)] [] h := cal_rn rfl rfl
theorem e157_0 (E : EV) (d : Nat) (t : Nat) (x1_ : Int32) (h : AH) : rn E d 157 0 [some (vR (some t)), some (vI x1_)] [] h =
    if x1_ < 0 then rn E d 157 23 [some (vR (some t)), some (vI x1_)] [] h else
    if 1000 < x1_ then rn E d 157 23 [some (vR (some t)), some (vI x1_)] [] h else
    gd (h.kd t == 23) (if ((h.I t 172) + x1_) ≤ 100000 then rn E d 157 25 [some (vR (some t)), some (vI x1_)] [] h else
    rn E d 157 23 [some (vR (some t)), some (vI x1_)] [] h) := rn_b (b := b157_0) rfl
theorem e157_23 (E : EV) (d : Nat) (t : Nat) (x1_ : Int32) (h : AH) : rn E d 157 23 [some (vR (some t)), some (vI x1_)] [] h =
    some (Sum.inl (some (vI (-1))), h) := rn_b (b := b157_23) rfl
theorem e157_25 (E : EV) (d : Nat) (t : Nat) (x1_ : Int32) (h : AH) : rn E d 157 25 [some (vR (some t)), some (vI x1_)] [] h =
    gd (h.kd t == 23) (gd ((h.kd t == 23) && decide (E.bs ≤ t) && true) (hs (h.setI t 172 ((h.I t 172) + x1_)) fun h =>
    gd (h.kd t == 23) (some (Sum.inl (some (vI (h.I t 172))), h)))) := rn_b (b := b157_25) rfl
/-! 158 FastPlaneModel.layStages()V -/
theorem c158 (E : EV) (d : Nat) (t : Nat) (h : AH) : cal E (d + 1) 158 [vR (some t)] h = rn E d 158 0 [some (vR (some t)), none, none, none, none, none] [] h := cal_rn rfl rfl
theorem e158_0 (E : EV) (d : Nat) (t : Nat) (o1_ : Option AV) (o2_ : Option AV) (o3_ : Option AV) (o4_ : Option AV) (o5_ : Option AV) (h : AH) : rn E d 158 0 [some (vR (some t)), o1_, o2_, o3_, o4_, o5_] [] h =
    gd (h.kd t == 23) (hs (h.I t 195) fun x1 =>
    rn E d 158 5 [some (vR (some t)), some (vI x1), o2_, o3_, o4_, o5_] [] h) := rn_b (b := b158_0) rfl
theorem e158_5 (E : EV) (d : Nat) (t : Nat) (x1_ : Int32) (o2_ : Option AV) (o3_ : Option AV) (o4_ : Option AV) (o5_ : Option AV) (h : AH) : rn E d 158 5 [some (vR (some t)), some (vI x1_), o2_, o3_, o4_, o5_] [] h =
    if x1_ < 0 then rn E d 158 133 [some (vR (some t)), some (vI x1_), o2_, o3_, o4_, o5_] [] h else
    rn E d 158 11 [some (vR (some t)), some (vI x1_), some (vI 0), o3_, o4_, o5_] [] h := rn_b (b := b158_5) rfl
theorem e158_11 (E : EV) (d : Nat) (t : Nat) (x1_ : Int32) (x2_ : Int32) (o3_ : Option AV) (o4_ : Option AV) (o5_ : Option AV) (h : AH) : rn E d 158 11 [some (vR (some t)), some (vI x1_), some (vI x2_), o3_, o4_, o5_] [] h =
    gd (h.kd t == 23) (if (h.I t 197) < x2_ then rn E d 158 127 [some (vR (some t)), some (vI x1_), some (vI x2_), o3_, o4_, o5_] [] h else
    rn E d 158 21 [some (vR (some t)), some (vI x1_), some (vI x2_), some (vI 0), o4_, o5_] [] h) := rn_b (b := b158_11) rfl
theorem e158_21 (E : EV) (d : Nat) (t : Nat) (x1_ : Int32) (x2_ : Int32) (x3_ : Int32) (o4_ : Option AV) (o5_ : Option AV) (h : AH) : rn E d 158 21 [some (vR (some t)), some (vI x1_), some (vI x2_), some (vI x3_), o4_, o5_] [] h =
    if 6 < x3_ then rn E d 158 121 [some (vR (some t)), some (vI x1_), some (vI x2_), some (vI x3_), o4_, o5_] [] h else
    rn E d 158 30 [some (vR (some t)), some (vI x1_), some (vI x2_), some (vI x3_), some (vI 0), o5_] [] h := rn_b (b := b158_21) rfl
theorem e158_30 (E : EV) (d : Nat) (t : Nat) (x1_ : Int32) (x2_ : Int32) (x3_ : Int32) (x4_ : Int32) (o5_ : Option AV) (h : AH) : rn E d 158 30 [some (vR (some t)), some (vI x1_), some (vI x2_), some (vI x3_), some (vI x4_), o5_] [] h =
    if 30 < x4_ then rn E d 158 115 [some (vR (some t)), some (vI x1_), some (vI x2_), some (vI x3_), some (vI x4_), o5_] [] h else
    rn E d 158 40 [some (vR (some t)), some (vI x1_), some (vI x2_), some (vI x3_), some (vI x4_), some (vI 0)] [] h := rn_b (b := b158_30) rfl
theorem e158_40 (E : EV) (d : Nat) (t : Nat) (x1_ : Int32) (x2_ : Int32) (x3_ : Int32) (x4_ : Int32) (x5_ : Int32) (h : AH) : rn E d 158 40 [some (vR (some t)), some (vI x1_), some (vI x2_), some (vI x3_), some (vI x4_), some (vI x5_)] [] h =
    if 30 < x5_ then rn E d 158 109 [some (vR (some t)), some (vI x1_), some (vI x2_), some (vI x3_), some (vI x4_), some (vI x5_)] [] h else
    gd (h.kd t == 23) (hs (h.R t 194) fun q2 =>
    cI (cal E d 201 [vI x1_, vI x2_, vI x3_, vI x4_, vI x5_] h) th fun v1 h =>
    gd (h.kd t == 23) (if x1_ = (h.I t 195) then rn E d 158 97 [some (vR (some t)), some (vI x1_), some (vI x2_), some (vI x3_), some (vI x4_), some (vI x5_)] [vI v1, vR q2] h else
    gd (h.kd t == 23) (cI (cal E d 214 [vR (some t), vI x1_, vI x2_, vI x3_, vI x4_, vI x5_] h) th fun v3 h =>
    if v3 = 0 then
    gd (h.kd t == 23) (cI (cal E d 135 [vR (some t), vI x1_, vI x2_, vI x3_, vI x4_, vI x5_] h) th fun v4 h =>
    if v4 = 0 then rn E d 158 101 [some (vR (some t)), some (vI x1_), some (vI x2_), some (vI x3_), some (vI x4_), some (vI x5_)] [vI v1, vR q2] h else
    rn E d 158 97 [some (vR (some t)), some (vI x1_), some (vI x2_), some (vI x3_), some (vI x4_), some (vI x5_)] [vI v1, vR q2] h)
    else rn E d 158 97 [some (vR (some t)), some (vI x1_), some (vI x2_), some (vI x3_), some (vI x4_), some (vI x5_)] [vI v1, vR q2] h))) := rn_b (b := b158_40) rfl
theorem e158_97 (E : EV) (d : Nat) (t : Nat) (x1_ : Int32) (x2_ : Int32) (x3_ : Int32) (x4_ : Int32) (x5_ : Int32) (s0_ : Option Nat) (s1_ : Int32) (h : AH) : rn E d 158 97 [some (vR (some t)), some (vI x1_), some (vI x2_), some (vI x3_), some (vI x4_), some (vI x5_)] [vI s1_, vR s0_] h =
    rn E d 158 102 [some (vR (some t)), some (vI x1_), some (vI x2_), some (vI x3_), some (vI x4_), some (vI x5_)] [vI 1, vI s1_, vR s0_] h := rn_b (b := b158_97) rfl
theorem e158_101 (E : EV) (d : Nat) (t : Nat) (x1_ : Int32) (x2_ : Int32) (x3_ : Int32) (x4_ : Int32) (x5_ : Int32) (s0_ : Option Nat) (s1_ : Int32) (h : AH) : rn E d 158 101 [some (vR (some t)), some (vI x1_), some (vI x2_), some (vI x3_), some (vI x4_), some (vI x5_)] [vI s1_, vR s0_] h =
    rn E d 158 102 [some (vR (some t)), some (vI x1_), some (vI x2_), some (vI x3_), some (vI x4_), some (vI x5_)] [vI 0, vI s1_, vR s0_] h := rn_b (b := b158_101) rfl
theorem e158_102 (E : EV) (d : Nat) (t : Nat) (x1_ : Int32) (x2_ : Int32) (x3_ : Int32) (x4_ : Int32) (x5_ : Int32) (s0_ : Option Nat) (s1_ : Int32) (s2_ : Int32) (h : AH) : rn E d 158 102 [some (vR (some t)), some (vI x1_), some (vI x2_), some (vI x3_), some (vI x4_), some (vI x5_)] [vI s2_, vI s1_, vR s0_] h =
    nn s0_ fun a1 =>
    gd ((h.kd a1 == 102 || h.kd a1 == 103) && inb s1_ (h.ln a1) && decide (E.bs ≤ a1)) (hs (h.setI a1 s1_.toNatClampNeg (if h.kd a1 = 102 then s2_.toInt8.toInt32 else s2_ &&& 1)) fun h =>
    hs (x5_ + 1) fun x2 =>
    rn E d 158 40 [some (vR (some t)), some (vI x1_), some (vI x2_), some (vI x3_), some (vI x4_), some (vI x2)] [] h) := rn_b (b := b158_102) rfl
theorem e158_109 (E : EV) (d : Nat) (t : Nat) (x1_ : Int32) (x2_ : Int32) (x3_ : Int32) (x4_ : Int32) (x5_ : Int32) (h : AH) : rn E d 158 109 [some (vR (some t)), some (vI x1_), some (vI x2_), some (vI x3_), some (vI x4_), some (vI x5_)] [] h =
    hs (x4_ + 1) fun x1 =>
    rn E d 158 30 [some (vR (some t)), some (vI x1_), some (vI x2_), some (vI x3_), some (vI x1), some (vI x5_)] [] h := rn_b (b := b158_109) rfl
theorem e158_115 (E : EV) (d : Nat) (t : Nat) (x1_ : Int32) (x2_ : Int32) (x3_ : Int32) (x4_ : Int32) (o5_ : Option AV) (h : AH) : rn E d 158 115 [some (vR (some t)), some (vI x1_), some (vI x2_), some (vI x3_), some (vI x4_), o5_] [] h =
    hs (x3_ + 1) fun x1 =>
    rn E d 158 21 [some (vR (some t)), some (vI x1_), some (vI x2_), some (vI x1), some (vI x4_), o5_] [] h := rn_b (b := b158_115) rfl
theorem e158_121 (E : EV) (d : Nat) (t : Nat) (x1_ : Int32) (x2_ : Int32) (x3_ : Int32) (o4_ : Option AV) (o5_ : Option AV) (h : AH) : rn E d 158 121 [some (vR (some t)), some (vI x1_), some (vI x2_), some (vI x3_), o4_, o5_] [] h =
    hs (x2_ + 1) fun x1 =>
    rn E d 158 11 [some (vR (some t)), some (vI x1_), some (vI x1), some (vI x3_), o4_, o5_] [] h := rn_b (b := b158_121) rfl
theorem e158_127 (E : EV) (d : Nat) (t : Nat) (x1_ : Int32) (x2_ : Int32) (o3_ : Option AV) (o4_ : Option AV) (o5_ : Option AV) (h : AH) : rn E d 158 127 [some (vR (some t)), some (vI x1_), some (vI x2_), o3_, o4_, o5_] [] h =
    hs (x1_ + (-1)) fun x1 =>
    rn E d 158 5 [some (vR (some t)), some (vI x1), some (vI x2_), o3_, o4_, o5_] [] h := rn_b (b := b158_127) rfl
theorem e158_133 (E : EV) (d : Nat) (t : Nat) (x1_ : Int32) (o2_ : Option AV) (o3_ : Option AV) (o4_ : Option AV) (o5_ : Option AV) (h : AH) : rn E d 158 133 [some (vR (some t)), some (vI x1_), o2_, o3_, o4_, o5_] [] h =
    some (Sum.inl none, h) := rn_b (b := b158_133) rfl
/-! 159 FastPlaneModel.leave(III)I -/
theorem c159 (E : EV) (d : Nat) (t : Nat) (x1_ : Int32) (x2_ : Int32) (x3_ : Int32) (h : AH) : cal E (d + 1) 159 [vR (some t), vI x1_, vI x2_, vI x3_] h = rn E d 159 0 [some (vR (some t)), some (vI x1_), some (vI x2_), some (vI x3_)] [] h := cal_rn rfl rfl
theorem e159_0 (E : EV) (d : Nat) (t : Nat) (x1_ : Int32) (x2_ : Int32) (x3_ : Int32) (h : AH) : rn E d 159 0 [some (vR (some t)), some (vI x1_), some (vI x2_), some (vI x3_)] [] h =
    cI (cal E d 148 [vI x1_] h) th fun v1 h =>
    if v1 = 0 then rn E d 159 37 [some (vR (some t)), some (vI x1_), some (vI x2_), some (vI x3_)] [] h else
    cI (cal E d 151 [vI x2_] h) th fun v2 h =>
    if v2 = 0 then rn E d 159 37 [some (vR (some t)), some (vI x1_), some (vI x2_), some (vI x3_)] [] h else
    gd (h.kd t == 23) (cI (cal E d 172 [vR (some t), vI x1_, vI x3_] h) th fun v3 h =>
    gd (h.kd t == 23) (cI (cal E d 160 [vR (some t), vI x2_, vI x1_, vI v3] h) th fun v4 h =>
    if v4 = 0 then rn E d 159 33 [some (vR (some t)), some (vI x1_), some (vI x2_), some (vI x3_)] [] h else
    rn E d 159 38 [some (vR (some t)), some (vI x1_), some (vI x2_), some (vI x3_)] [vI 1] h)) := rn_b (b := b159_0) rfl
theorem e159_33 (E : EV) (d : Nat) (t : Nat) (x1_ : Int32) (x2_ : Int32) (x3_ : Int32) (h : AH) : rn E d 159 33 [some (vR (some t)), some (vI x1_), some (vI x2_), some (vI x3_)] [] h =
    rn E d 159 38 [some (vR (some t)), some (vI x1_), some (vI x2_), some (vI x3_)] [vI 0] h := rn_b (b := b159_33) rfl
theorem e159_37 (E : EV) (d : Nat) (t : Nat) (x1_ : Int32) (x2_ : Int32) (x3_ : Int32) (h : AH) : rn E d 159 37 [some (vR (some t)), some (vI x1_), some (vI x2_), some (vI x3_)] [] h =
    rn E d 159 38 [some (vR (some t)), some (vI x1_), some (vI x2_), some (vI x3_)] [vI (-1)] h := rn_b (b := b159_37) rfl
theorem e159_38 (E : EV) (d : Nat) (t : Nat) (x1_ : Int32) (x2_ : Int32) (x3_ : Int32) (s0_ : Int32) (h : AH) : rn E d 159 38 [some (vR (some t)), some (vI x1_), some (vI x2_), some (vI x3_)] [vI s0_] h =
    some (Sum.inl (some (vI s0_)), h) := rn_b (b := b159_38) rfl
/-! 160 FastPlaneModel.leavesBy(III)Z -/
theorem c160 (E : EV) (d : Nat) (t : Nat) (x1_ : Int32) (x2_ : Int32) (x3_ : Int32) (h : AH) : cal E (d + 1) 160 [vR (some t), vI x1_, vI x2_, vI x3_] h = rn E d 160 0 [some (vR (some t)), some (vI x1_), some (vI x2_), some (vI x3_)] [] h := cal_rn rfl rfl
theorem e160_0 (E : EV) (d : Nat) (t : Nat) (x1_ : Int32) (x2_ : Int32) (x3_ : Int32) (h : AH) : rn E d 160 0 [some (vR (some t)), some (vI x1_), some (vI x2_), some (vI x3_)] [] h =
    gd ((h.kd t == 23) && decide (E.bs ≤ t) && true) (hs (h.setI t 156 x2_) fun h =>
    gd ((h.kd t == 23) && decide (E.bs ≤ t) && true) (hs (h.setI t 157 x3_) fun h =>
    gd (h.kd t == 23) (cI (cal E d 216 [vR (some t), vI x1_, vI 1, vI 0] h) th fun v1 h =>
    if v1 = 0 then rn E d 160 24 [some (vR (some t)), some (vI x1_), some (vI x2_), some (vI x3_)] [] h else
    rn E d 160 25 [some (vR (some t)), some (vI x1_), some (vI x2_), some (vI x3_)] [vI 1] h))) := rn_b (b := b160_0) rfl
theorem e160_24 (E : EV) (d : Nat) (t : Nat) (x1_ : Int32) (x2_ : Int32) (x3_ : Int32) (h : AH) : rn E d 160 24 [some (vR (some t)), some (vI x1_), some (vI x2_), some (vI x3_)] [] h =
    rn E d 160 25 [some (vR (some t)), some (vI x1_), some (vI x2_), some (vI x3_)] [vI 0] h := rn_b (b := b160_24) rfl
theorem e160_25 (E : EV) (d : Nat) (t : Nat) (x1_ : Int32) (x2_ : Int32) (x3_ : Int32) (s0_ : Int32) (h : AH) : rn E d 160 25 [some (vR (some t)), some (vI x1_), some (vI x2_), some (vI x3_)] [vI s0_] h =
    gd (decide (s0_ = 0) || decide (s0_ = 1)) (some (Sum.inl (some (vI s0_)), h)) := rn_b (b := b160_25) rfl
/-! 161 FastPlaneModel.machine()I -/
theorem c161 (E : EV) (d : Nat) (t : Nat) (h : AH) : cal E (d + 1) 161 [vR (some t)] h = rn E d 161 0 [some (vR (some t)), none] [] h := cal_rn rfl rfl
theorem e161_0 (E : EV) (d : Nat) (t : Nat) (o1_ : Option AV) (h : AH) : rn E d 161 0 [some (vR (some t)), o1_] [] h =
    gd (h.kd t == 23) (cV (cal E d 203 [vR (some t)] h) th fun h =>
    gd (h.kd t == 23) (gd ((h.kd t == 23) && decide (E.bs ≤ t) && true) (hs (h.setI t 136 (1 - (h.I t 135))) fun h =>
    gd (h.kd t == 23) (gd (h.kd t == 23) (nn (h.R t 115) fun a1 =>
    gd (h.kd a1 == 101 && inb (h.I t 136) (h.ln a1) && decide (E.bs ≤ a1)) (hs (h.setI a1 (h.I t 136).toNatClampNeg 0) fun h =>
    gd (h.kd t == 23) (gd (h.kd t == 23) (nn (h.R t 116) fun a2 =>
    gd (h.kd a2 == 101 && inb (h.I t 136) (h.ln a2) && decide (E.bs ≤ a2)) (hs (h.setI a2 (h.I t 136).toNatClampNeg 0) fun h =>
    gd (h.kd t == 23) (gd (h.kd t == 23) (nn (h.R t 117) fun a3 =>
    gd (h.kd a3 == 101 && inb (h.I t 136) (h.ln a3) && decide (E.bs ≤ a3)) (hs (h.setI a3 (h.I t 136).toNatClampNeg 0) fun h =>
    gd (h.kd t == 23) (gd (h.kd t == 23) (nn (h.R t 118) fun a4 =>
    gd (h.kd a4 == 101 && inb (h.I t 136) (h.ln a4) && decide (E.bs ≤ a4)) (hs (h.setI a4 (h.I t 136).toNatClampNeg 0) fun h =>
    gd (h.kd t == 23) (gd (h.kd t == 23) (nn (h.R t 119) fun a5 =>
    gd (h.kd a5 == 101 && inb (h.I t 136) (h.ln a5) && decide (E.bs ≤ a5)) (hs (h.setI a5 (h.I t 136).toNatClampNeg 0) fun h =>
    rn E d 161 66 [some (vR (some t)), some (vI 0)] [] h)))))))))))))))))) := rn_b (b := b161_0) rfl
theorem e161_66 (E : EV) (d : Nat) (t : Nat) (x1_ : Int32) (h : AH) : rn E d 161 66 [some (vR (some t)), some (vI x1_)] [] h =
    if 64 ≤ x1_ then rn E d 161 93 [some (vR (some t)), some (vI x1_)] [] h else
    gd (h.kd t == 23) (gd (h.kd t == 23) (nn (h.R t 132) fun a1 =>
    gd (h.kd a1 == 101 && inb ((64 * (h.I t 136)) + x1_) (h.ln a1) && decide (E.bs ≤ a1)) (hs (h.setI a1 ((64 * (h.I t 136)) + x1_).toNatClampNeg 0) fun h =>
    hs (x1_ + 1) fun x2 =>
    rn E d 161 66 [some (vR (some t)), some (vI x2)] [] h))) := rn_b (b := b161_66) rfl
theorem e161_93 (E : EV) (d : Nat) (t : Nat) (x1_ : Int32) (h : AH) : rn E d 161 93 [some (vR (some t)), some (vI x1_)] [] h =
    rn E d 161 95 [some (vR (some t)), some (vI 0)] [] h := rn_b (b := b161_93) rfl
theorem e161_95 (E : EV) (d : Nat) (t : Nat) (x1_ : Int32) (h : AH) : rn E d 161 95 [some (vR (some t)), some (vI x1_)] [] h =
    if 8 ≤ x1_ then rn E d 161 122 [some (vR (some t)), some (vI x1_)] [] h else
    gd (h.kd t == 23) (gd (h.kd t == 23) (nn (h.R t 133) fun a1 =>
    gd ((h.kd a1 == 102 || h.kd a1 == 103) && inb ((8 * (h.I t 136)) + x1_) (h.ln a1) && decide (E.bs ≤ a1)) (hs (h.setI a1 ((8 * (h.I t 136)) + x1_).toNatClampNeg (if h.kd a1 = 102 then (0 : Int32).toInt8.toInt32 else (0 : Int32) &&& 1)) fun h =>
    hs (x1_ + 1) fun x2 =>
    rn E d 161 95 [some (vR (some t)), some (vI x2)] [] h))) := rn_b (b := b161_95) rfl
theorem e161_122 (E : EV) (d : Nat) (t : Nat) (x1_ : Int32) (h : AH) : rn E d 161 122 [some (vR (some t)), some (vI x1_)] [] h =
    gd (h.kd t == 23) (cV (cal E d 170 [vR (some t)] h) th fun h =>
    rn E d 161 126 [some (vR (some t)), some (vI x1_)] [] h) := rn_b (b := b161_122) rfl
theorem e161_126 (E : EV) (d : Nat) (t : Nat) (x1_ : Int32) (h : AH) : rn E d 161 126 [some (vR (some t)), some (vI x1_)] [] h =
    gd (h.kd t == 23) (cI (cal E d 143 [vR (some t)] h) th fun v1 h =>
    if v1 = 0 then rn E d 161 147 [some (vR (some t)), some (vI x1_)] [] h else
    gd (h.kd t == 23) (if (h.I t 112) = 0 then rn E d 161 147 [some (vR (some t)), some (vI x1_)] [] h else
    gd (h.kd t == 23) (cV (cal E d 184 [vR (some t)] h) th fun h =>
    rn E d 161 126 [some (vR (some t)), some (vI x1_)] [] h))) := rn_b (b := b161_126) rfl
theorem e161_147 (E : EV) (d : Nat) (t : Nat) (x1_ : Int32) (h : AH) : rn E d 161 147 [some (vR (some t)), some (vI x1_)] [] h =
    gd (h.kd t == 23) (cI (cal E d 143 [vR (some t)] h) th fun v1 h =>
    if v1 = 0 then
    some (Sum.inl (some (vI (-1))), h)
    else rn E d 161 156 [some (vR (some t)), some (vI x1_)] [] h) := rn_b (b := b161_147) rfl
theorem e161_156 (E : EV) (d : Nat) (t : Nat) (x1_ : Int32) (h : AH) : rn E d 161 156 [some (vR (some t)), some (vI x1_)] [] h =
    gd (h.kd t == 23) (gd ((h.kd t == 23) && decide (E.bs ≤ t) && true) (hs (h.setI t 135 (h.I t 136)) fun h =>
    gd ((h.kd t == 23) && decide (E.bs ≤ t) && true) (hs (h.setI t 171 0) fun h =>
    gd ((h.kd t == 23) && decide (E.bs ≤ t) && true) (hs (h.setI t 177 0) fun h =>
    gd (h.kd t == 23) (gd (h.kd t == 23) (nn (h.R t 115) fun a1 =>
    gd (h.kd a1 == 101 && inb (h.I t 135) (h.ln a1)) (some (Sum.inl (some (vI (h.I a1 (h.I t 135).toNatClampNeg))), h)))))))) := rn_b (b := b161_156) rfl
/-! 162 FastPlaneModel.maker(II)I -/
theorem c162 (E : EV) (d : Nat) (t : Nat) (x1_ : Int32) (x2_ : Int32) (h : AH) : cal E (d + 1) 162 [vR (some t), vI x1_, vI x2_] h = rn E d 162 0 [some (vR (some t)), some (vI x1_), some (vI x2_)] [] h := cal_rn rfl rfl
theorem e162_0 (E : EV) (d : Nat) (t : Nat) (x1_ : Int32) (x2_ : Int32) (h : AH) : rn E d 162 0 [some (vR (some t)), some (vI x1_), some (vI x2_)] [] h =
    gd (h.kd t == 23) (cI (cal E d 149 [vR (some t), vI x1_] h) th fun v1 h =>
    if v1 = 0 then rn E d 162 25 [some (vR (some t)), some (vI x1_), some (vI x2_)] [] h else
    gd (h.kd t == 23) (cI (cal E d 194 [vR (some t), vI x2_] h) th fun v2 h =>
    if v2 < 0 then rn E d 162 25 [some (vR (some t)), some (vI x1_), some (vI x2_)] [] h else
    gd (h.kd t == 23) (nn (h.R t 187) fun a3 =>
    gd (h.kd a3 == 101 && inb x1_ (h.ln a3)) (rn E d 162 26 [some (vR (some t)), some (vI x1_), some (vI x2_)] [vI (h.I a3 x1_.toNatClampNeg)] h)))) := rn_b (b := b162_0) rfl
theorem e162_25 (E : EV) (d : Nat) (t : Nat) (x1_ : Int32) (x2_ : Int32) (h : AH) : rn E d 162 25 [some (vR (some t)), some (vI x1_), some (vI x2_)] [] h =
    rn E d 162 26 [some (vR (some t)), some (vI x1_), some (vI x2_)] [vI (-1)] h := rn_b (b := b162_25) rfl
theorem e162_26 (E : EV) (d : Nat) (t : Nat) (x1_ : Int32) (x2_ : Int32) (s0_ : Int32) (h : AH) : rn E d 162 26 [some (vR (some t)), some (vI x1_), some (vI x2_)] [vI s0_] h =
    some (Sum.inl (some (vI s0_)), h) := rn_b (b := b162_26) rfl
/-! 163 FastPlaneModel.mayAsk(I)Z -/
theorem c163 (E : EV) (d : Nat) (t : Nat) (x1_ : Int32) (h : AH) : cal E (d + 1) 163 [vR (some t), vI x1_] h = rn E d 163 0 [some (vR (some t)), some (vI x1_)] [] h := cal_rn rfl rfl
theorem e163_0 (E : EV) (d : Nat) (t : Nat) (x1_ : Int32) (h : AH) : rn E d 163 0 [some (vR (some t)), some (vI x1_)] [] h =
    if x1_ = 0 then
    some (Sum.inl (some (vI 1)), h)
    else rn E d 163 6 [some (vR (some t)), some (vI x1_)] [] h := rn_b (b := b163_0) rfl
theorem e163_6 (E : EV) (d : Nat) (t : Nat) (x1_ : Int32) (h : AH) : rn E d 163 6 [some (vR (some t)), some (vI x1_)] [] h =
    gd (h.kd t == 23) (if (h.I t 153) = 0 then
    if x1_ = 108 then rn E d 163 31 [some (vR (some t)), some (vI x1_)] [] h else
    if x1_ = 99 then rn E d 163 31 [some (vR (some t)), some (vI x1_)] [] h else
    if x1_ = 109 then
    rn E d 163 31 [some (vR (some t)), some (vI x1_)] [] h
    else rn E d 163 35 [some (vR (some t)), some (vI x1_)] [] h
    else rn E d 163 37 [some (vR (some t)), some (vI x1_)] [] h) := rn_b (b := b163_6) rfl
theorem e163_31 (E : EV) (d : Nat) (t : Nat) (x1_ : Int32) (h : AH) : rn E d 163 31 [some (vR (some t)), some (vI x1_)] [] h =
    rn E d 163 36 [some (vR (some t)), some (vI x1_)] [vI 1] h := rn_b (b := b163_31) rfl
theorem e163_35 (E : EV) (d : Nat) (t : Nat) (x1_ : Int32) (h : AH) : rn E d 163 35 [some (vR (some t)), some (vI x1_)] [] h =
    rn E d 163 36 [some (vR (some t)), some (vI x1_)] [vI 0] h := rn_b (b := b163_35) rfl
theorem e163_36 (E : EV) (d : Nat) (t : Nat) (x1_ : Int32) (s0_ : Int32) (h : AH) : rn E d 163 36 [some (vR (some t)), some (vI x1_)] [vI s0_] h =
    gd (decide (s0_ = 0) || decide (s0_ = 1)) (some (Sum.inl (some (vI s0_)), h)) := rn_b (b := b163_36) rfl
theorem e163_37 (E : EV) (d : Nat) (t : Nat) (x1_ : Int32) (h : AH) : rn E d 163 37 [some (vR (some t)), some (vI x1_)] [] h =
    gd (h.kd t == 23) (if (h.I t 153) = 1 then
    if x1_ = 109 then rn E d 163 57 [some (vR (some t)), some (vI x1_)] [] h else
    if x1_ = 111 then
    rn E d 163 57 [some (vR (some t)), some (vI x1_)] [] h
    else rn E d 163 61 [some (vR (some t)), some (vI x1_)] [] h
    else rn E d 163 63 [some (vR (some t)), some (vI x1_)] [] h) := rn_b (b := b163_37) rfl
theorem e163_57 (E : EV) (d : Nat) (t : Nat) (x1_ : Int32) (h : AH) : rn E d 163 57 [some (vR (some t)), some (vI x1_)] [] h =
    rn E d 163 62 [some (vR (some t)), some (vI x1_)] [vI 1] h := rn_b (b := b163_57) rfl
theorem e163_61 (E : EV) (d : Nat) (t : Nat) (x1_ : Int32) (h : AH) : rn E d 163 61 [some (vR (some t)), some (vI x1_)] [] h =
    rn E d 163 62 [some (vR (some t)), some (vI x1_)] [vI 0] h := rn_b (b := b163_61) rfl
theorem e163_62 (E : EV) (d : Nat) (t : Nat) (x1_ : Int32) (s0_ : Int32) (h : AH) : rn E d 163 62 [some (vR (some t)), some (vI x1_)] [vI s0_] h =
    gd (decide (s0_ = 0) || decide (s0_ = 1)) (some (Sum.inl (some (vI s0_)), h)) := rn_b (b := b163_62) rfl
theorem e163_63 (E : EV) (d : Nat) (t : Nat) (x1_ : Int32) (h : AH) : rn E d 163 63 [some (vR (some t)), some (vI x1_)] [] h =
    gd (h.kd t == 23) (if (h.I t 153) = 2 then
    if x1_ = 103 then rn E d 163 89 [some (vR (some t)), some (vI x1_)] [] h else
    if x1_ = 104 then rn E d 163 89 [some (vR (some t)), some (vI x1_)] [] h else
    if x1_ = 115 then
    rn E d 163 89 [some (vR (some t)), some (vI x1_)] [] h
    else rn E d 163 93 [some (vR (some t)), some (vI x1_)] [] h
    else rn E d 163 95 [some (vR (some t)), some (vI x1_)] [] h) := rn_b (b := b163_63) rfl
theorem e163_89 (E : EV) (d : Nat) (t : Nat) (x1_ : Int32) (h : AH) : rn E d 163 89 [some (vR (some t)), some (vI x1_)] [] h =
    rn E d 163 94 [some (vR (some t)), some (vI x1_)] [vI 1] h := rn_b (b := b163_89) rfl
theorem e163_93 (E : EV) (d : Nat) (t : Nat) (x1_ : Int32) (h : AH) : rn E d 163 93 [some (vR (some t)), some (vI x1_)] [] h =
    rn E d 163 94 [some (vR (some t)), some (vI x1_)] [vI 0] h := rn_b (b := b163_93) rfl
theorem e163_94 (E : EV) (d : Nat) (t : Nat) (x1_ : Int32) (s0_ : Int32) (h : AH) : rn E d 163 94 [some (vR (some t)), some (vI x1_)] [vI s0_] h =
    gd (decide (s0_ = 0) || decide (s0_ = 1)) (some (Sum.inl (some (vI s0_)), h)) := rn_b (b := b163_94) rfl
theorem e163_95 (E : EV) (d : Nat) (t : Nat) (x1_ : Int32) (h : AH) : rn E d 163 95 [some (vR (some t)), some (vI x1_)] [] h =
    if x1_ = 97 then rn E d 163 125 [some (vR (some t)), some (vI x1_)] [] h else
    if x1_ = 119 then rn E d 163 125 [some (vR (some t)), some (vI x1_)] [] h else
    if x1_ = 116 then rn E d 163 125 [some (vR (some t)), some (vI x1_)] [] h else
    if x1_ = 112 then rn E d 163 125 [some (vR (some t)), some (vI x1_)] [] h else
    if x1_ = 109 then
    rn E d 163 125 [some (vR (some t)), some (vI x1_)] [] h
    else rn E d 163 129 [some (vR (some t)), some (vI x1_)] [] h := rn_b (b := b163_95) rfl
theorem e163_125 (E : EV) (d : Nat) (t : Nat) (x1_ : Int32) (h : AH) : rn E d 163 125 [some (vR (some t)), some (vI x1_)] [] h =
    rn E d 163 130 [some (vR (some t)), some (vI x1_)] [vI 1] h := rn_b (b := b163_125) rfl
theorem e163_129 (E : EV) (d : Nat) (t : Nat) (x1_ : Int32) (h : AH) : rn E d 163 129 [some (vR (some t)), some (vI x1_)] [] h =
    rn E d 163 130 [some (vR (some t)), some (vI x1_)] [vI 0] h := rn_b (b := b163_129) rfl
theorem e163_130 (E : EV) (d : Nat) (t : Nat) (x1_ : Int32) (s0_ : Int32) (h : AH) : rn E d 163 130 [some (vR (some t)), some (vI x1_)] [vI s0_] h =
    gd (decide (s0_ = 0) || decide (s0_ = 1)) (some (Sum.inl (some (vI s0_)), h)) := rn_b (b := b163_130) rfl
/-! 164 FastPlaneModel.mend(I)I -/
theorem c164 (E : EV) (d : Nat) (t : Nat) (x1_ : Int32) (h : AH) : cal E (d + 1) 164 [vR (some t), vI x1_] h = rn E d 164 0 [some (vR (some t)), some (vI x1_)] [] h := cal_rn rfl rfl
theorem e164_0 (E : EV) (d : Nat) (t : Nat) (x1_ : Int32) (h : AH) : rn E d 164 0 [some (vR (some t)), some (vI x1_)] [] h =
    cI (cal E d 144 [vI x1_, vI 0, vI 2] h) th fun v1 h =>
    if v1 = 0 then
    some (Sum.inl (some (vI (-1))), h)
    else rn E d 164 11 [some (vR (some t)), some (vI x1_)] [] h := rn_b (b := b164_0) rfl
theorem e164_11 (E : EV) (d : Nat) (t : Nat) (x1_ : Int32) (h : AH) : rn E d 164 11 [some (vR (some t)), some (vI x1_)] [] h =
    gd (h.kd t == 23) (cV (cal E d 192 [vR (some t)] h) th fun h =>
    gd (h.kd t == 23) (if 0 ≤ (h.I t 137) then rn E d 164 26 [some (vR (some t)), some (vI x1_)] [] h else
    rn E d 164 53 [some (vR (some t)), some (vI x1_)] [vI (-1)] h)) := rn_b (b := b164_11) rfl
theorem e164_26 (E : EV) (d : Nat) (t : Nat) (x1_ : Int32) (h : AH) : rn E d 164 26 [some (vR (some t)), some (vI x1_)] [] h =
    if x1_ = 0 then
    gd (h.kd t == 23) (rn E d 164 53 [some (vR (some t)), some (vI x1_)] [vI (h.I t 137)] h)
    else rn E d 164 37 [some (vR (some t)), some (vI x1_)] [] h := rn_b (b := b164_26) rfl
theorem e164_37 (E : EV) (d : Nat) (t : Nat) (x1_ : Int32) (h : AH) : rn E d 164 37 [some (vR (some t)), some (vI x1_)] [] h =
    if x1_ = 1 then
    gd (h.kd t == 23) (rn E d 164 53 [some (vR (some t)), some (vI x1_)] [vI (h.I t 138)] h)
    else rn E d 164 49 [some (vR (some t)), some (vI x1_)] [] h := rn_b (b := b164_37) rfl
theorem e164_49 (E : EV) (d : Nat) (t : Nat) (x1_ : Int32) (h : AH) : rn E d 164 49 [some (vR (some t)), some (vI x1_)] [] h =
    gd (h.kd t == 23) (rn E d 164 53 [some (vR (some t)), some (vI x1_)] [vI (h.I t 139)] h) := rn_b (b := b164_49) rfl
theorem e164_53 (E : EV) (d : Nat) (t : Nat) (x1_ : Int32) (s0_ : Int32) (h : AH) : rn E d 164 53 [some (vR (some t)), some (vI x1_)] [vI s0_] h =
    some (Sum.inl (some (vI s0_)), h) := rn_b (b := b164_53) rfl
/-! 165 FastPlaneModel.mmOf(II)I -/
theorem c165 (E : EV) (d : Nat) (t : Nat) (x1_ : Int32) (x2_ : Int32) (h : AH) : cal E (d + 1) 165 [vR (some t), vI x1_, vI x2_] h = rn E d 165 0 [some (vR (some t)), some (vI x1_), some (vI x2_), none, none] [] h := cal_rn rfl rfl
theorem e165_0 (E : EV) (d : Nat) (t : Nat) (x1_ : Int32) (x2_ : Int32) (o3_ : Option AV) (o4_ : Option AV) (h : AH) : rn E d 165 0 [some (vR (some t)), some (vI x1_), some (vI x2_), o3_, o4_] [] h =
    gd (h.kd t == 23) (gd (h.kd t == 23) (nn (h.R t 121) fun a1 =>
    gd (h.kd a1 == 101 && inb ((12 * (h.I t 135)) + x1_) (h.ln a1)) (hs ((h.I a1 ((12 * (h.I t 135)) + x1_).toNatClampNeg).toInt64) fun l2 =>
    gd (h.kd t == 23) (gd (h.kd t == 23) (nn (h.R t 122) fun a3 =>
    gd (h.kd a3 == 101 && inb ((12 * (h.I t 135)) + x1_) (h.ln a3)) (gd (!decide ((100000 : Int64) = 0)) (some (Sum.inl (some (vI ((l2 + ((((l2 * ((h.I a3 ((12 * (h.I t 135)) + x1_).toNatClampNeg).toInt64)) * x2_.toInt64) * x2_.toInt64) / 100000)).toInt32))), h)))))))) := rn_b (b := b165_0) rfl
/-! 166 FastPlaneModel.mm(II)I -/
theorem c166 (E : EV) (d : Nat) (t : Nat) (x1_ : Int32) (x2_ : Int32) (h : AH) : cal E (d + 1) 166 [vR (some t), vI x1_, vI x2_] h = rn E d 166 0 [some (vR (some t)), some (vI x1_), some (vI x2_)] [] h := cal_rn rfl rfl
theorem e166_0 (E : EV) (d : Nat) (t : Nat) (x1_ : Int32) (x2_ : Int32) (h : AH) : rn E d 166 0 [some (vR (some t)), some (vI x1_), some (vI x2_)] [] h =
    gd (h.kd t == 23) (cI (cal E d 149 [vR (some t), vI x1_] h) th fun v1 h =>
    if v1 = 0 then rn E d 166 27 [some (vR (some t)), some (vI x1_), some (vI x2_)] [] h else
    cI (cal E d 144 [vI x2_, vI 0, vI 30] h) th fun v2 h =>
    if v2 = 0 then rn E d 166 27 [some (vR (some t)), some (vI x1_), some (vI x2_)] [] h else
    gd (h.kd t == 23) (cI (cal E d 165 [vR (some t), vI x1_, vI x2_] h) th fun v3 h =>
    rn E d 166 28 [some (vR (some t)), some (vI x1_), some (vI x2_)] [vI v3] h)) := rn_b (b := b166_0) rfl
theorem e166_27 (E : EV) (d : Nat) (t : Nat) (x1_ : Int32) (x2_ : Int32) (h : AH) : rn E d 166 27 [some (vR (some t)), some (vI x1_), some (vI x2_)] [] h =
    rn E d 166 28 [some (vR (some t)), some (vI x1_), some (vI x2_)] [vI (-1)] h := rn_b (b := b166_27) rfl
theorem e166_28 (E : EV) (d : Nat) (t : Nat) (x1_ : Int32) (x2_ : Int32) (s0_ : Int32) (h : AH) : rn E d 166 28 [some (vR (some t)), some (vI x1_), some (vI x2_)] [vI s0_] h =
    some (Sum.inl (some (vI s0_)), h) := rn_b (b := b166_28) rfl
/-! 167 FastPlaneModel.move(IIII)I -/
theorem c167 (E : EV) (d : Nat) (t : Nat) (x1_ : Int32) (x2_ : Int32) (x3_ : Int32) (x4_ : Int32) (h : AH) : cal E (d + 1) 167 [vR (some t), vI x1_, vI x2_, vI x3_, vI x4_] h = rn E d 167 0 [some (vR (some t)), some (vI x1_), some (vI x2_), some (vI x3_), some (vI x4_), none, none, none] [] h := cal_rn rfl rfl
theorem e167_0 (E : EV) (d : Nat) (t : Nat) (x1_ : Int32) (x2_ : Int32) (x3_ : Int32) (x4_ : Int32) (o5_ : Option AV) (o6_ : Option AV) (o7_ : Option AV) (h : AH) : rn E d 167 0 [some (vR (some t)), some (vI x1_), some (vI x2_), some (vI x3_), some (vI x4_), o5_, o6_, o7_] [] h =
    gd (h.kd t == 23) (cI (cal E d 178 [vR (some t), vI x1_, vI x2_, vI x3_] h) th fun v1 h =>
    if v1 < 0 then rn E d 167 25 [some (vR (some t)), some (vI x1_), some (vI x2_), some (vI x3_), some (vI x4_), o5_, o6_, o7_] [] h else
    gd (h.kd t == 23) (cI (cal E d 144 [vI x4_, vI 0, vI ((h.I t 177) - 1)] h) th fun v2 h =>
    if v2 = 0 then
    rn E d 167 25 [some (vR (some t)), some (vI x1_), some (vI x2_), some (vI x3_), some (vI x4_), o5_, o6_, o7_] [] h
    else rn E d 167 27 [some (vR (some t)), some (vI x1_), some (vI x2_), some (vI x3_), some (vI x4_), o5_, o6_, o7_] [] h)) := rn_b (b := b167_0) rfl
theorem e167_25 (E : EV) (d : Nat) (t : Nat) (x1_ : Int32) (x2_ : Int32) (x3_ : Int32) (x4_ : Int32) (o5_ : Option AV) (o6_ : Option AV) (o7_ : Option AV) (h : AH) : rn E d 167 25 [some (vR (some t)), some (vI x1_), some (vI x2_), some (vI x3_), some (vI x4_), o5_, o6_, o7_] [] h =
    some (Sum.inl (some (vI (-1))), h) := rn_b (b := b167_25) rfl
theorem e167_27 (E : EV) (d : Nat) (t : Nat) (x1_ : Int32) (x2_ : Int32) (x3_ : Int32) (x4_ : Int32) (o5_ : Option AV) (o6_ : Option AV) (o7_ : Option AV) (h : AH) : rn E d 167 27 [some (vR (some t)), some (vI x1_), some (vI x2_), some (vI x3_), some (vI x4_), o5_, o6_, o7_] [] h =
    hs ((x1_ ||| (x2_ <<< (4 &&& 31))) ||| (x3_ <<< (8 &&& 31))) fun x1 =>
    rn E d 167 42 [some (vR (some t)), some (vI x1_), some (vI x2_), some (vI x3_), some (vI x4_), some (vI x1), some (vI 0), o7_] [] h := rn_b (b := b167_27) rfl
theorem e167_42 (E : EV) (d : Nat) (t : Nat) (x1_ : Int32) (x2_ : Int32) (x3_ : Int32) (x4_ : Int32) (x5_ : Int32) (x6_ : Int32) (o7_ : Option AV) (h : AH) : rn E d 167 42 [some (vR (some t)), some (vI x1_), some (vI x2_), some (vI x3_), some (vI x4_), some (vI x5_), some (vI x6_), o7_] [] h =
    if x4_ < x6_ then rn E d 167 84 [some (vR (some t)), some (vI x1_), some (vI x2_), some (vI x3_), some (vI x4_), some (vI x5_), some (vI x6_), o7_] [] h else
    gd (h.kd t == 23) (cI (cal E d 111 [vR (some t), vI x6_, vI x5_] h) th fun v1 h =>
    if 1000000 ≤ v1 then rn E d 167 74 [some (vR (some t)), some (vI x1_), some (vI x2_), some (vI x3_), some (vI x4_), some (vI x5_), some (vI x6_), some (vI v1)] [] h else
    gd (h.kd t == 23) (rn E d 167 76 [some (vR (some t)), some (vI x1_), some (vI x2_), some (vI x3_), some (vI x4_), some (vI x5_), some (vI x6_), some (vI v1)] [vI (h.I t 180)] h)) := rn_b (b := b167_42) rfl
theorem e167_74 (E : EV) (d : Nat) (t : Nat) (x1_ : Int32) (x2_ : Int32) (x3_ : Int32) (x4_ : Int32) (x5_ : Int32) (x6_ : Int32) (x7_ : Int32) (h : AH) : rn E d 167 74 [some (vR (some t)), some (vI x1_), some (vI x2_), some (vI x3_), some (vI x4_), some (vI x5_), some (vI x6_), some (vI x7_)] [] h =
    rn E d 167 76 [some (vR (some t)), some (vI x1_), some (vI x2_), some (vI x3_), some (vI x4_), some (vI x5_), some (vI x6_), some (vI x7_)] [vI x5_] h := rn_b (b := b167_74) rfl
theorem e167_76 (E : EV) (d : Nat) (t : Nat) (x1_ : Int32) (x2_ : Int32) (x3_ : Int32) (x4_ : Int32) (x5_ : Int32) (x6_ : Int32) (x7_ : Int32) (s0_ : Int32) (h : AH) : rn E d 167 76 [some (vR (some t)), some (vI x1_), some (vI x2_), some (vI x3_), some (vI x4_), some (vI x5_), some (vI x6_), some (vI x7_)] [vI s0_] h =
    hs (x6_ + 1) fun x1 =>
    rn E d 167 42 [some (vR (some t)), some (vI x1_), some (vI x2_), some (vI x3_), some (vI x4_), some (vI s0_), some (vI x1), some (vI x7_)] [] h := rn_b (b := b167_76) rfl
theorem e167_84 (E : EV) (d : Nat) (t : Nat) (x1_ : Int32) (x2_ : Int32) (x3_ : Int32) (x4_ : Int32) (x5_ : Int32) (x6_ : Int32) (o7_ : Option AV) (h : AH) : rn E d 167 84 [some (vR (some t)), some (vI x1_), some (vI x2_), some (vI x3_), some (vI x4_), some (vI x5_), some (vI x6_), o7_] [] h =
    gd (h.kd t == 23) (some (Sum.inl (some (vI (h.I t 179))), h)) := rn_b (b := b167_84) rfl
/-! 168 FastPlaneModel.moves(II)I -/
theorem c168 (E : EV) (d : Nat) (t : Nat) (x1_ : Int32) (x2_ : Int32) (h : AH) : cal E (d + 1) 168 [vR (some t), vI x1_, vI x2_] h = rn E d 168 0 [some (vR (some t)), some (vI x1_), some (vI x2_)] [] h := cal_rn rfl rfl
theorem e168_0 (E : EV) (d : Nat) (t : Nat) (x1_ : Int32) (x2_ : Int32) (h : AH) : rn E d 168 0 [some (vR (some t)), some (vI x1_), some (vI x2_)] [] h =
    gd (h.kd t == 23) (cI (cal E d 149 [vR (some t), vI x1_] h) th fun v1 h =>
    if v1 = 0 then
    some (Sum.inl (some (vI (-1))), h)
    else rn E d 168 10 [some (vR (some t)), some (vI x1_), some (vI x2_)] [] h) := rn_b (b := b168_0) rfl
theorem e168_10 (E : EV) (d : Nat) (t : Nat) (x1_ : Int32) (x2_ : Int32) (h : AH) : rn E d 168 10 [some (vR (some t)), some (vI x1_), some (vI x2_)] [] h =
    gd (h.kd t == 23) (cV (cal E d 129 [vR (some t), vI x2_] h) th fun h =>
    gd (h.kd t == 23) (nn (h.R t 170) fun a1 =>
    gd (h.kd a1 == 101 && inb x1_ (h.ln a1)) (if (h.I a1 x1_.toNatClampNeg) < 1000000 then rn E d 168 31 [some (vR (some t)), some (vI x1_), some (vI x2_)] [] h else
    rn E d 168 37 [some (vR (some t)), some (vI x1_), some (vI x2_)] [vI (-1)] h))) := rn_b (b := b168_10) rfl
theorem e168_31 (E : EV) (d : Nat) (t : Nat) (x1_ : Int32) (x2_ : Int32) (h : AH) : rn E d 168 31 [some (vR (some t)), some (vI x1_), some (vI x2_)] [] h =
    gd (h.kd t == 23) (nn (h.R t 170) fun a1 =>
    gd (h.kd a1 == 101 && inb x1_ (h.ln a1)) (rn E d 168 37 [some (vR (some t)), some (vI x1_), some (vI x2_)] [vI (h.I a1 x1_.toNatClampNeg)] h)) := rn_b (b := b168_31) rfl
theorem e168_37 (E : EV) (d : Nat) (t : Nat) (x1_ : Int32) (x2_ : Int32) (s0_ : Int32) (h : AH) : rn E d 168 37 [some (vR (some t)), some (vI x1_), some (vI x2_)] [vI s0_] h =
    some (Sum.inl (some (vI s0_)), h) := rn_b (b := b168_37) rfl
/-! 169 FastPlaneModel.must(Z)V -/
theorem c169 (E : EV) (d : Nat) (t : Nat) (x1_ : Int32) (h : AH) : cal E (d + 1) 169 [vR (some t), vI x1_] h = rn E d 169 0 [some (vR (some t)), some (vI x1_)] [] h := cal_rn rfl rfl
theorem e169_0 (E : EV) (d : Nat) (t : Nat) (x1_ : Int32) (h : AH) : rn E d 169 0 [some (vR (some t)), some (vI x1_)] [] h =
    gd (h.kd t == 23) (cI (cal E d 143 [vR (some t)] h) th fun v1 h =>
    if v1 = 0 then
    some (Sum.inl none, h)
    else rn E d 169 8 [some (vR (some t)), some (vI x1_)] [] h) := rn_b (b := b169_0) rfl
theorem e169_8 (E : EV) (d : Nat) (t : Nat) (x1_ : Int32) (h : AH) : rn E d 169 8 [some (vR (some t)), some (vI x1_)] [] h =
    if x1_ = 0 then rn E d 169 19 [some (vR (some t)), some (vI x1_)] [] h else
    gd (h.kd t == 23) (cV (cal E d 170 [vR (some t)] h) th fun h =>
    rn E d 169 23 [some (vR (some t)), some (vI x1_)] [] h) := rn_b (b := b169_8) rfl
theorem e169_19 (E : EV) (d : Nat) (t : Nat) (x1_ : Int32) (h : AH) : rn E d 169 19 [some (vR (some t)), some (vI x1_)] [] h =
    gd (h.kd t == 23) (cV (cal E d 217 [vR (some t)] h) th fun h =>
    rn E d 169 23 [some (vR (some t)), some (vI x1_)] [] h) := rn_b (b := b169_19) rfl
theorem e169_23 (E : EV) (d : Nat) (t : Nat) (x1_ : Int32) (h : AH) : rn E d 169 23 [some (vR (some t)), some (vI x1_)] [] h =
    some (Sum.inl none, h) := rn_b (b := b169_23) rfl
/-! 170 FastPlaneModel.next()V -/
theorem c170 (E : EV) (d : Nat) (t : Nat) (h : AH) : cal E (d + 1) 170 [vR (some t)] h = rn E d 170 0 [some (vR (some t)), none, none] [] h := cal_rn rfl rfl
theorem e170_0 (E : EV) (d : Nat) (t : Nat) (o1_ : Option AV) (o2_ : Option AV) (h : AH) : rn E d 170 0 [some (vR (some t)), o1_, o2_] [] h =
    gd (h.kd t == 23) (gd ((h.kd t == 23) && decide (E.bs ≤ t) && true) (hs (h.setI t 110 (h.I t 111)) fun h =>
    rn E d 170 8 [some (vR (some t)), o1_, o2_] [] h)) := rn_b (b := b170_0) rfl
theorem e170_8 (E : EV) (d : Nat) (t : Nat) (o1_ : Option AV) (o2_ : Option AV) (h : AH) : rn E d 170 8 [some (vR (some t)), o1_, o2_] [] h =
    gd (h.kd t == 23) (gd (h.kd t == 23) (if (h.I t 107) ≤ (h.I t 110) then rn E d 170 58 [some (vR (some t)), o1_, o2_] [] h else
    gd (h.kd t == 23) (gd (h.kd t == 23) (cI (cal E d 197 [vR (some t), vI (h.I t 110)] h) th fun v1 h =>
    if v1 = 32 then rn E d 170 45 [some (vR (some t)), o1_, o2_] [] h else
    gd (h.kd t == 23) (gd (h.kd t == 23) (cI (cal E d 197 [vR (some t), vI (h.I t 110)] h) th fun v2 h =>
    if v2 = 10 then
    rn E d 170 45 [some (vR (some t)), o1_, o2_] [] h
    else rn E d 170 58 [some (vR (some t)), o1_, o2_] [] h)))))) := rn_b (b := b170_8) rfl
theorem e170_45 (E : EV) (d : Nat) (t : Nat) (o1_ : Option AV) (o2_ : Option AV) (h : AH) : rn E d 170 45 [some (vR (some t)), o1_, o2_] [] h =
    gd (h.kd t == 23) (gd ((h.kd t == 23) && decide (E.bs ≤ t) && true) (hs (h.setI t 110 ((h.I t 110) + 1)) fun h =>
    rn E d 170 8 [some (vR (some t)), o1_, o2_] [] h)) := rn_b (b := b170_45) rfl
theorem e170_58 (E : EV) (d : Nat) (t : Nat) (o1_ : Option AV) (o2_ : Option AV) (h : AH) : rn E d 170 58 [some (vR (some t)), o1_, o2_] [] h =
    gd (h.kd t == 23) (gd (h.kd t == 23) (cI (cal E d 197 [vR (some t), vI (h.I t 110)] h) th fun v1 h =>
    gd (h.kd t == 23) (gd ((h.kd t == 23) && decide (E.bs ≤ t) && true) (hs (h.setI t 111 ((h.I t 110) + 1)) fun h =>
    gd (h.kd t == 23) (gd (h.kd t == 23) (if (h.I t 110) < (h.I t 107) then rn E d 170 112 [some (vR (some t)), some (vI v1), o2_] [] h else
    gd ((h.kd t == 23) && decide (E.bs ≤ t) && true) (hs (h.setI t 112 0) fun h =>
    gd (h.kd t == 23) (gd ((h.kd t == 23) && decide (E.bs ≤ t) && true) (hs (h.setI t 110 (h.I t 107)) fun h =>
    gd (h.kd t == 23) (gd ((h.kd t == 23) && decide (E.bs ≤ t) && true) (hs (h.setI t 111 (h.I t 107)) fun h =>
    rn E d 170 377 [some (vR (some t)), some (vI v1), o2_] [] h))))))))))) := rn_b (b := b170_58) rfl
theorem e170_112 (E : EV) (d : Nat) (t : Nat) (x1_ : Int32) (o2_ : Option AV) (h : AH) : rn E d 170 112 [some (vR (some t)), some (vI x1_), o2_] [] h =
    cI (cal E d 146 [vI x1_] h) th fun v1 h =>
    if v1 = 0 then rn E d 170 239 [some (vR (some t)), some (vI x1_), o2_] [] h else
    rn E d 170 119 [some (vR (some t)), some (vI x1_), o2_] [] h := rn_b (b := b170_112) rfl
theorem e170_119 (E : EV) (d : Nat) (t : Nat) (x1_ : Int32) (o2_ : Option AV) (h : AH) : rn E d 170 119 [some (vR (some t)), some (vI x1_), o2_] [] h =
    gd (h.kd t == 23) (gd (h.kd t == 23) (cI (cal E d 197 [vR (some t), vI (h.I t 111)] h) th fun v1 h =>
    cI (cal E d 146 [vI v1] h) th fun v2 h =>
    if v2 = 0 then rn E d 170 146 [some (vR (some t)), some (vI x1_), o2_] [] h else
    gd (h.kd t == 23) (gd ((h.kd t == 23) && decide (E.bs ≤ t) && true) (hs (h.setI t 111 ((h.I t 111) + 1)) fun h =>
    rn E d 170 119 [some (vR (some t)), some (vI x1_), o2_] [] h)))) := rn_b (b := b170_119) rfl
theorem e170_146 (E : EV) (d : Nat) (t : Nat) (x1_ : Int32) (o2_ : Option AV) (h : AH) : rn E d 170 146 [some (vR (some t)), some (vI x1_), o2_] [] h =
    gd ((h.kd t == 23) && decide (E.bs ≤ t)) (hs (h.setL t 114 0) fun h =>
    gd (h.kd t == 23) (hs (h.I t 110) fun x1 =>
    rn E d 170 156 [some (vR (some t)), some (vI x1_), some (vI x1)] [] h)) := rn_b (b := b170_146) rfl
theorem e170_156 (E : EV) (d : Nat) (t : Nat) (x1_ : Int32) (x2_ : Int32) (h : AH) : rn E d 170 156 [some (vR (some t)), some (vI x1_), some (vI x2_)] [] h =
    gd (h.kd t == 23) (if (h.I t 111) ≤ x2_ then rn E d 170 199 [some (vR (some t)), some (vI x1_), some (vI x2_)] [] h else
    gd (h.kd t == 23) (if ((h.I t 110) + 8) ≤ x2_ then rn E d 170 199 [some (vR (some t)), some (vI x1_), some (vI x2_)] [] h else
    gd (h.kd t == 23) (gd (h.kd t == 23) (hs ((h.L t 114) <<< ((8 : Int32).toInt64 &&& 63)) fun m2 =>
    cI (cal E d 197 [vR (some t), vI x2_] h) th fun v1 h =>
    gd ((h.kd t == 23) && decide (E.bs ≤ t)) (hs (h.setL t 114 (m2 ||| v1.toInt64)) fun h =>
    hs (x2_ + 1) fun x3 =>
    rn E d 170 156 [some (vR (some t)), some (vI x1_), some (vI x3)] [] h))))) := rn_b (b := b170_156) rfl
theorem e170_199 (E : EV) (d : Nat) (t : Nat) (x1_ : Int32) (x2_ : Int32) (h : AH) : rn E d 170 199 [some (vR (some t)), some (vI x1_), some (vI x2_)] [] h =
    gd (h.kd t == 23) (gd (h.kd t == 23) (if ((h.I t 111) - (h.I t 110)) ≤ 8 then rn E d 170 218 [some (vR (some t)), some (vI x1_), some (vI x2_)] [vR (some t)] h else
    rn E d 170 233 [some (vR (some t)), some (vI x1_), some (vI x2_)] [vI 1, vR (some t)] h)) := rn_b (b := b170_199) rfl
theorem e170_218 (E : EV) (d : Nat) (t : Nat) (x1_ : Int32) (x2_ : Int32) (s0_ : Option Nat) (h : AH) : rn E d 170 218 [some (vR (some t)), some (vI x1_), some (vI x2_)] [vR s0_] h =
    gd (h.kd t == 23) (cI (cal E d 145 [vL (h.L t 114)] h) th fun v1 h =>
    if v1 = 0 then rn E d 170 232 [some (vR (some t)), some (vI x1_), some (vI x2_)] [vR s0_] h else
    rn E d 170 233 [some (vR (some t)), some (vI x1_), some (vI x2_)] [vI 3, vR s0_] h) := rn_b (b := b170_218) rfl
theorem e170_232 (E : EV) (d : Nat) (t : Nat) (x1_ : Int32) (x2_ : Int32) (s0_ : Option Nat) (h : AH) : rn E d 170 232 [some (vR (some t)), some (vI x1_), some (vI x2_)] [vR s0_] h =
    rn E d 170 233 [some (vR (some t)), some (vI x1_), some (vI x2_)] [vI 2, vR s0_] h := rn_b (b := b170_232) rfl
theorem e170_233 (E : EV) (d : Nat) (t : Nat) (x1_ : Int32) (x2_ : Int32) (s0_ : Option Nat) (s1_ : Int32) (h : AH) : rn E d 170 233 [some (vR (some t)), some (vI x1_), some (vI x2_)] [vI s1_, vR s0_] h =
    nn s0_ fun a1 =>
    gd ((h.kd a1 == 23) && decide (E.bs ≤ a1) && true) (hs (h.setI a1 112 s1_) fun h =>
    rn E d 170 377 [some (vR (some t)), some (vI x1_), some (vI x2_)] [] h) := rn_b (b := b170_233) rfl
theorem e170_239 (E : EV) (d : Nat) (t : Nat) (x1_ : Int32) (o2_ : Option AV) (h : AH) : rn E d 170 239 [some (vR (some t)), some (vI x1_), o2_] [] h =
    cI (cal E d 140 [vI x1_] h) th fun v1 h =>
    if v1 = 0 then rn E d 170 361 [some (vR (some t)), some (vI x1_), o2_] [] h else
    gd ((h.kd t == 23) && decide (E.bs ≤ t) && true) (hs (h.setI t 113 0) fun h =>
    gd (h.kd t == 23) (gd ((h.kd t == 23) && decide (E.bs ≤ t) && true) (hs (h.setI t 111 (h.I t 110)) fun h =>
    rn E d 170 259 [some (vR (some t)), some (vI x1_), o2_] [] h))) := rn_b (b := b170_239) rfl
theorem e170_259 (E : EV) (d : Nat) (t : Nat) (x1_ : Int32) (o2_ : Option AV) (h : AH) : rn E d 170 259 [some (vR (some t)), some (vI x1_), o2_] [] h =
    gd (h.kd t == 23) (gd (h.kd t == 23) (cI (cal E d 197 [vR (some t), vI (h.I t 111)] h) th fun v1 h =>
    cI (cal E d 140 [vI v1] h) th fun v2 h =>
    if v2 = 0 then rn E d 170 322 [some (vR (some t)), some (vI x1_), o2_] [] h else
    gd (h.kd t == 23) (gd (h.kd t == 23) (if 4 ≤ ((h.I t 111) - (h.I t 110)) then rn E d 170 309 [some (vR (some t)), some (vI x1_), o2_] [] h else
    gd (h.kd t == 23) (gd (h.kd t == 23) (gd (h.kd t == 23) (hs (10 * (h.I t 113)) fun y4 =>
    cI (cal E d 197 [vR (some t), vI (h.I t 111)] h) th fun v3 h =>
    gd ((h.kd t == 23) && decide (E.bs ≤ t) && true) (hs (h.setI t 113 ((y4 + v3) - 48)) fun h =>
    rn E d 170 309 [some (vR (some t)), some (vI x1_), o2_] [] h)))))))) := rn_b (b := b170_259) rfl
theorem e170_309 (E : EV) (d : Nat) (t : Nat) (x1_ : Int32) (o2_ : Option AV) (h : AH) : rn E d 170 309 [some (vR (some t)), some (vI x1_), o2_] [] h =
    gd (h.kd t == 23) (gd ((h.kd t == 23) && decide (E.bs ≤ t) && true) (hs (h.setI t 111 ((h.I t 111) + 1)) fun h =>
    rn E d 170 259 [some (vR (some t)), some (vI x1_), o2_] [] h)) := rn_b (b := b170_309) rfl
theorem e170_322 (E : EV) (d : Nat) (t : Nat) (x1_ : Int32) (o2_ : Option AV) (h : AH) : rn E d 170 322 [some (vR (some t)), some (vI x1_), o2_] [] h =
    gd (h.kd t == 23) (gd (h.kd t == 23) (if 4 < ((h.I t 111) - (h.I t 110)) then rn E d 170 350 [some (vR (some t)), some (vI x1_), o2_] [vR (some t)] h else
    gd (h.kd t == 23) (gd (h.kd t == 23) (cI (cal E d 197 [vR (some t), vI (h.I t 111)] h) th fun v1 h =>
    cI (cal E d 146 [vI v1] h) th fun v2 h =>
    if v2 = 0 then rn E d 170 354 [some (vR (some t)), some (vI x1_), o2_] [vR (some t)] h else
    rn E d 170 350 [some (vR (some t)), some (vI x1_), o2_] [vR (some t)] h)))) := rn_b (b := b170_322) rfl
theorem e170_350 (E : EV) (d : Nat) (t : Nat) (x1_ : Int32) (o2_ : Option AV) (s0_ : Option Nat) (h : AH) : rn E d 170 350 [some (vR (some t)), some (vI x1_), o2_] [vR s0_] h =
    rn E d 170 355 [some (vR (some t)), some (vI x1_), o2_] [vI 1, vR s0_] h := rn_b (b := b170_350) rfl
theorem e170_354 (E : EV) (d : Nat) (t : Nat) (x1_ : Int32) (o2_ : Option AV) (s0_ : Option Nat) (h : AH) : rn E d 170 354 [some (vR (some t)), some (vI x1_), o2_] [vR s0_] h =
    rn E d 170 355 [some (vR (some t)), some (vI x1_), o2_] [vI 4, vR s0_] h := rn_b (b := b170_354) rfl
theorem e170_355 (E : EV) (d : Nat) (t : Nat) (x1_ : Int32) (o2_ : Option AV) (s0_ : Option Nat) (s1_ : Int32) (h : AH) : rn E d 170 355 [some (vR (some t)), some (vI x1_), o2_] [vI s1_, vR s0_] h =
    nn s0_ fun a1 =>
    gd ((h.kd a1 == 23) && decide (E.bs ≤ a1) && true) (hs (h.setI a1 112 s1_) fun h =>
    rn E d 170 377 [some (vR (some t)), some (vI x1_), o2_] [] h) := rn_b (b := b170_355) rfl
theorem e170_361 (E : EV) (d : Nat) (t : Nat) (x1_ : Int32) (o2_ : Option AV) (h : AH) : rn E d 170 361 [some (vR (some t)), some (vI x1_), o2_] [] h =
    cI (cal E d 150 [vI x1_] h) th fun v1 h =>
    if v1 = 0 then rn E d 170 373 [some (vR (some t)), some (vI x1_), o2_] [vR (some t)] h else
    rn E d 170 374 [some (vR (some t)), some (vI x1_), o2_] [vI 5, vR (some t)] h := rn_b (b := b170_361) rfl
theorem e170_373 (E : EV) (d : Nat) (t : Nat) (x1_ : Int32) (o2_ : Option AV) (s0_ : Option Nat) (h : AH) : rn E d 170 373 [some (vR (some t)), some (vI x1_), o2_] [vR s0_] h =
    rn E d 170 374 [some (vR (some t)), some (vI x1_), o2_] [vI 1, vR s0_] h := rn_b (b := b170_373) rfl
theorem e170_374 (E : EV) (d : Nat) (t : Nat) (x1_ : Int32) (o2_ : Option AV) (s0_ : Option Nat) (s1_ : Int32) (h : AH) : rn E d 170 374 [some (vR (some t)), some (vI x1_), o2_] [vI s1_, vR s0_] h =
    nn s0_ fun a1 =>
    gd ((h.kd a1 == 23) && decide (E.bs ≤ a1) && true) (hs (h.setI a1 112 s1_) fun h =>
    rn E d 170 377 [some (vR (some t)), some (vI x1_), o2_] [] h) := rn_b (b := b170_374) rfl
theorem e170_377 (E : EV) (d : Nat) (t : Nat) (x1_ : Int32) (o2_ : Option AV) (h : AH) : rn E d 170 377 [some (vR (some t)), some (vI x1_), o2_] [] h =
    some (Sum.inl none, h) := rn_b (b := b170_377) rfl
/-! 171 FastPlaneModel.numeral(II)I -/
theorem c171 (E : EV) (d : Nat) (t : Nat) (x1_ : Int32) (x2_ : Int32) (h : AH) : cal E (d + 1) 171 [vR (some t), vI x1_, vI x2_] h = rn E d 171 0 [some (vR (some t)), some (vI x1_), some (vI x2_), none] [] h := cal_rn rfl rfl
theorem e171_0 (E : EV) (d : Nat) (t : Nat) (x1_ : Int32) (x2_ : Int32) (o3_ : Option AV) (h : AH) : rn E d 171 0 [some (vR (some t)), some (vI x1_), some (vI x2_), o3_] [] h =
    gd (h.kd t == 23) (cI (cal E d 143 [vR (some t)] h) th fun v1 h =>
    if v1 = 0 then
    some (Sum.inl (some (vI x1_)), h)
    else rn E d 171 9 [some (vR (some t)), some (vI x1_), some (vI x2_), o3_] [] h) := rn_b (b := b171_0) rfl
theorem e171_9 (E : EV) (d : Nat) (t : Nat) (x1_ : Int32) (x2_ : Int32) (o3_ : Option AV) (h : AH) : rn E d 171 9 [some (vR (some t)), some (vI x1_), some (vI x2_), o3_] [] h =
    gd (h.kd t == 23) (if (h.I t 112) = 4 then rn E d 171 21 [some (vR (some t)), some (vI x1_), some (vI x2_), o3_] [] h else
    gd (h.kd t == 23) (cV (cal E d 217 [vR (some t)] h) th fun h =>
    rn E d 171 21 [some (vR (some t)), some (vI x1_), some (vI x2_), o3_] [] h)) := rn_b (b := b171_9) rfl
theorem e171_21 (E : EV) (d : Nat) (t : Nat) (x1_ : Int32) (x2_ : Int32) (o3_ : Option AV) (h : AH) : rn E d 171 21 [some (vR (some t)), some (vI x1_), some (vI x2_), o3_] [] h =
    gd (h.kd t == 23) (cI (cal E d 143 [vR (some t)] h) th fun v1 h =>
    if v1 = 0 then rn E d 171 53 [some (vR (some t)), some (vI x1_), some (vI x2_), o3_] [] h else
    gd (h.kd t == 23) (if (h.I t 113) < x1_ then rn E d 171 44 [some (vR (some t)), some (vI x1_), some (vI x2_), o3_] [] h else
    gd (h.kd t == 23) (if (h.I t 113) ≤ x2_ then rn E d 171 53 [some (vR (some t)), some (vI x1_), some (vI x2_), o3_] [] h else
    rn E d 171 44 [some (vR (some t)), some (vI x1_), some (vI x2_), o3_] [] h))) := rn_b (b := b171_21) rfl
theorem e171_44 (E : EV) (d : Nat) (t : Nat) (x1_ : Int32) (x2_ : Int32) (o3_ : Option AV) (h : AH) : rn E d 171 44 [some (vR (some t)), some (vI x1_), some (vI x2_), o3_] [] h =
    gd (h.kd t == 23) (gd (h.kd t == 23) (cV (cal E d 124 [vR (some t), vI 4, vI (h.I t 110)] h) th fun h =>
    rn E d 171 53 [some (vR (some t)), some (vI x1_), some (vI x2_), o3_] [] h)) := rn_b (b := b171_44) rfl
theorem e171_53 (E : EV) (d : Nat) (t : Nat) (x1_ : Int32) (x2_ : Int32) (o3_ : Option AV) (h : AH) : rn E d 171 53 [some (vR (some t)), some (vI x1_), some (vI x2_), o3_] [] h =
    gd (h.kd t == 23) (hs (h.I t 113) fun x1 =>
    gd (h.kd t == 23) (cI (cal E d 143 [vR (some t)] h) th fun v2 h =>
    if v2 = 0 then rn E d 171 69 [some (vR (some t)), some (vI x1_), some (vI x2_), some (vI x1)] [] h else
    gd (h.kd t == 23) (cV (cal E d 170 [vR (some t)] h) th fun h =>
    rn E d 171 69 [some (vR (some t)), some (vI x1_), some (vI x2_), some (vI x1)] [] h))) := rn_b (b := b171_53) rfl
theorem e171_69 (E : EV) (d : Nat) (t : Nat) (x1_ : Int32) (x2_ : Int32) (x3_ : Int32) (h : AH) : rn E d 171 69 [some (vR (some t)), some (vI x1_), some (vI x2_), some (vI x3_)] [] h =
    gd (h.kd t == 23) (cI (cal E d 143 [vR (some t)] h) th fun v1 h =>
    if v1 = 0 then rn E d 171 80 [some (vR (some t)), some (vI x1_), some (vI x2_), some (vI x3_)] [] h else
    rn E d 171 81 [some (vR (some t)), some (vI x1_), some (vI x2_), some (vI x3_)] [vI x3_] h) := rn_b (b := b171_69) rfl
theorem e171_80 (E : EV) (d : Nat) (t : Nat) (x1_ : Int32) (x2_ : Int32) (x3_ : Int32) (h : AH) : rn E d 171 80 [some (vR (some t)), some (vI x1_), some (vI x2_), some (vI x3_)] [] h =
    rn E d 171 81 [some (vR (some t)), some (vI x1_), some (vI x2_), some (vI x3_)] [vI x1_] h := rn_b (b := b171_80) rfl
theorem e171_81 (E : EV) (d : Nat) (t : Nat) (x1_ : Int32) (x2_ : Int32) (x3_ : Int32) (s0_ : Int32) (h : AH) : rn E d 171 81 [some (vR (some t)), some (vI x1_), some (vI x2_), some (vI x3_)] [vI s0_] h =
    some (Sum.inl (some (vI s0_)), h) := rn_b (b := b171_81) rfl
/-! 172 FastPlaneModel.overOf(II)I -/
theorem c172 (E : EV) (d : Nat) (t : Nat) (x1_ : Int32) (x2_ : Int32) (h : AH) : cal E (d + 1) 172 [vR (some t), vI x1_, vI x2_] h = rn E d 172 0 [some (vR (some t)), some (vI x1_), some (vI x2_), none, none] [] h := cal_rn rfl rfl
theorem e172_0 (E : EV) (d : Nat) (t : Nat) (x1_ : Int32) (x2_ : Int32) (o3_ : Option AV) (o4_ : Option AV) (h : AH) : rn E d 172 0 [some (vR (some t)), some (vI x1_), some (vI x2_), o3_, o4_] [] h =
    rn E d 172 5 [some (vR (some t)), some (vI x1_), some (vI x2_), some (vI (-1)), some (vI 0)] [] h := rn_b (b := b172_0) rfl
theorem e172_5 (E : EV) (d : Nat) (t : Nat) (x1_ : Int32) (x2_ : Int32) (x3_ : Int32) (x4_ : Int32) (h : AH) : rn E d 172 5 [some (vR (some t)), some (vI x1_), some (vI x2_), some (vI x3_), some (vI x4_)] [] h =
    gd (h.kd t == 23) (if (h.I t 171) ≤ x4_ then rn E d 172 65 [some (vR (some t)), some (vI x1_), some (vI x2_), some (vI x3_), some (vI x4_)] [] h else
    gd (h.kd t == 23) (cI (cal E d 119 [vR (some t), vI x4_, vI 1, vI x2_] h) th fun v1 h =>
    if v1 = 0 then rn E d 172 59 [some (vR (some t)), some (vI x1_), some (vI x2_), some (vI x3_), some (vI x4_)] [] h else
    gd (h.kd t == 23) (nn (h.R t 166) fun a2 =>
    gd (h.kd a2 == 101 && inb x4_ (h.ln a2)) (if x1_ < (h.I a2 x4_.toNatClampNeg) then rn E d 172 59 [some (vR (some t)), some (vI x1_), some (vI x2_), some (vI x3_), some (vI x4_)] [] h else
    if x3_ < 0 then rn E d 172 56 [some (vR (some t)), some (vI x1_), some (vI x2_), some (vI x3_), some (vI x4_)] [] h else
    gd (h.kd t == 23) (nn (h.R t 166) fun a3 =>
    gd (h.kd a3 == 101 && inb x4_ (h.ln a3)) (gd (h.kd t == 23) (nn (h.R t 166) fun a4 =>
    gd (h.kd a4 == 101 && inb x3_ (h.ln a4)) (if (h.I a3 x4_.toNatClampNeg) < (h.I a4 x3_.toNatClampNeg) then rn E d 172 59 [some (vR (some t)), some (vI x1_), some (vI x2_), some (vI x3_), some (vI x4_)] [] h else
    rn E d 172 56 [some (vR (some t)), some (vI x1_), some (vI x2_), some (vI x3_), some (vI x4_)] [] h)))))))) := rn_b (b := b172_5) rfl
theorem e172_56 (E : EV) (d : Nat) (t : Nat) (x1_ : Int32) (x2_ : Int32) (x3_ : Int32) (x4_ : Int32) (h : AH) : rn E d 172 56 [some (vR (some t)), some (vI x1_), some (vI x2_), some (vI x3_), some (vI x4_)] [] h =
    rn E d 172 59 [some (vR (some t)), some (vI x1_), some (vI x2_), some (vI x4_), some (vI x4_)] [] h := rn_b (b := b172_56) rfl
theorem e172_59 (E : EV) (d : Nat) (t : Nat) (x1_ : Int32) (x2_ : Int32) (x3_ : Int32) (x4_ : Int32) (h : AH) : rn E d 172 59 [some (vR (some t)), some (vI x1_), some (vI x2_), some (vI x3_), some (vI x4_)] [] h =
    hs (x4_ + 1) fun x1 =>
    rn E d 172 5 [some (vR (some t)), some (vI x1_), some (vI x2_), some (vI x3_), some (vI x1)] [] h := rn_b (b := b172_59) rfl
theorem e172_65 (E : EV) (d : Nat) (t : Nat) (x1_ : Int32) (x2_ : Int32) (x3_ : Int32) (x4_ : Int32) (h : AH) : rn E d 172 65 [some (vR (some t)), some (vI x1_), some (vI x2_), some (vI x3_), some (vI x4_)] [] h =
    if x3_ < 0 then rn E d 172 78 [some (vR (some t)), some (vI x1_), some (vI x2_), some (vI x3_), some (vI x4_)] [] h else
    gd (h.kd t == 23) (nn (h.R t 167) fun a1 =>
    gd (h.kd a1 == 101 && inb x3_ (h.ln a1)) (if (h.I a1 x3_.toNatClampNeg) = 0 then
    rn E d 172 78 [some (vR (some t)), some (vI x1_), some (vI x2_), some (vI x3_), some (vI x4_)] [] h
    else rn E d 172 81 [some (vR (some t)), some (vI x1_), some (vI x2_), some (vI x3_), some (vI x4_)] [] h)) := rn_b (b := b172_65) rfl
theorem e172_78 (E : EV) (d : Nat) (t : Nat) (x1_ : Int32) (x2_ : Int32) (x3_ : Int32) (x4_ : Int32) (h : AH) : rn E d 172 78 [some (vR (some t)), some (vI x1_), some (vI x2_), some (vI x3_), some (vI x4_)] [] h =
    some (Sum.inl (some (vI 99)), h) := rn_b (b := b172_78) rfl
theorem e172_81 (E : EV) (d : Nat) (t : Nat) (x1_ : Int32) (x2_ : Int32) (x3_ : Int32) (x4_ : Int32) (h : AH) : rn E d 172 81 [some (vR (some t)), some (vI x1_), some (vI x2_), some (vI x3_), some (vI x4_)] [] h =
    gd (h.kd t == 23) (cV (cal E d 129 [vR (some t), vI x2_] h) th fun h =>
    gd (h.kd t == 23) (cI (cal E d 118 [vR (some t), vI 0, vI x1_] h) th fun v1 h =>
    gd (h.kd t == 23) (nn (h.R t 167) fun a2 =>
    gd (h.kd a2 == 101 && inb x3_ (h.ln a2)) (gd (!decide ((h.I a2 x3_.toNatClampNeg) = 0)) (hs ((v1 * 10) / (h.I a2 x3_.toNatClampNeg)) fun x3 =>
    if x3 ≤ 99 then rn E d 172 116 [some (vR (some t)), some (vI x1_), some (vI x2_), some (vI x3_), some (vI x3)] [] h else
    rn E d 172 118 [some (vR (some t)), some (vI x1_), some (vI x2_), some (vI x3_), some (vI x3)] [vI 99] h))))) := rn_b (b := b172_81) rfl
theorem e172_116 (E : EV) (d : Nat) (t : Nat) (x1_ : Int32) (x2_ : Int32) (x3_ : Int32) (x4_ : Int32) (h : AH) : rn E d 172 116 [some (vR (some t)), some (vI x1_), some (vI x2_), some (vI x3_), some (vI x4_)] [] h =
    rn E d 172 118 [some (vR (some t)), some (vI x1_), some (vI x2_), some (vI x3_), some (vI x4_)] [vI x4_] h := rn_b (b := b172_116) rfl
theorem e172_118 (E : EV) (d : Nat) (t : Nat) (x1_ : Int32) (x2_ : Int32) (x3_ : Int32) (x4_ : Int32) (s0_ : Int32) (h : AH) : rn E d 172 118 [some (vR (some t)), some (vI x1_), some (vI x2_), some (vI x3_), some (vI x4_)] [vI s0_] h =
    some (Sum.inl (some (vI s0_)), h) := rn_b (b := b172_118) rfl
/-! 173 FastPlaneModel.over(II)I -/
theorem c173 (E : EV) (d : Nat) (t : Nat) (x1_ : Int32) (x2_ : Int32) (h : AH) : cal E (d + 1) 173 [vR (some t), vI x1_, vI x2_] h = rn E d 173 0 [some (vR (some t)), some (vI x1_), some (vI x2_)] [] h := cal_rn rfl rfl
theorem e173_0 (E : EV) (d : Nat) (t : Nat) (x1_ : Int32) (x2_ : Int32) (h : AH) : rn E d 173 0 [some (vR (some t)), some (vI x1_), some (vI x2_)] [] h =
    cI (cal E d 148 [vI x1_] h) th fun v1 h =>
    if v1 = 0 then rn E d 173 16 [some (vR (some t)), some (vI x1_), some (vI x2_)] [] h else
    gd (h.kd t == 23) (cI (cal E d 172 [vR (some t), vI x1_, vI x2_] h) th fun v2 h =>
    rn E d 173 17 [some (vR (some t)), some (vI x1_), some (vI x2_)] [vI v2] h) := rn_b (b := b173_0) rfl
theorem e173_16 (E : EV) (d : Nat) (t : Nat) (x1_ : Int32) (x2_ : Int32) (h : AH) : rn E d 173 16 [some (vR (some t)), some (vI x1_), some (vI x2_)] [] h =
    rn E d 173 17 [some (vR (some t)), some (vI x1_), some (vI x2_)] [vI (-1)] h := rn_b (b := b173_16) rfl
theorem e173_17 (E : EV) (d : Nat) (t : Nat) (x1_ : Int32) (x2_ : Int32) (s0_ : Int32) (h : AH) : rn E d 173 17 [some (vR (some t)), some (vI x1_), some (vI x2_)] [vI s0_] h =
    some (Sum.inl (some (vI s0_)), h) := rn_b (b := b173_17) rfl
/-! 174 FastPlaneModel.paid(IIIII)Z -/
theorem c174 (E : EV) (d : Nat) (t : Nat) (x1_ : Int32) (x2_ : Int32) (x3_ : Int32) (x4_ : Int32) (x5_ : Int32) (h : AH) : cal E (d + 1) 174 [vR (some t), vI x1_, vI x2_, vI x3_, vI x4_, vI x5_] h = rn E d 174 0 [some (vR (some t)), some (vI x1_), some (vI x2_), some (vI x3_), some (vI x4_), some (vI x5_)] [] h := cal_rn rfl rfl
theorem e174_0 (E : EV) (d : Nat) (t : Nat) (x1_ : Int32) (x2_ : Int32) (x3_ : Int32) (x4_ : Int32) (x5_ : Int32) (h : AH) : rn E d 174 0 [some (vR (some t)), some (vI x1_), some (vI x2_), some (vI x3_), some (vI x4_), some (vI x5_)] [] h =
    if x4_ < 0 then rn E d 174 50 [some (vR (some t)), some (vI x1_), some (vI x2_), some (vI x3_), some (vI x4_), some (vI x5_)] [] h else
    if x5_ < 0 then rn E d 174 50 [some (vR (some t)), some (vI x1_), some (vI x2_), some (vI x3_), some (vI x4_), some (vI x5_)] [] h else
    gd (h.kd t == 23) (if 0 ≤ x4_ then rn E d 174 26 [some (vR (some t)), some (vI x1_), some (vI x2_), some (vI x3_), some (vI x4_), some (vI x5_)] [vI x3_, vI x2_, vI x1_, vR (h.R t 194)] h else
    rn E d 174 28 [some (vR (some t)), some (vI x1_), some (vI x2_), some (vI x3_), some (vI x4_), some (vI x5_)] [vI 0, vI x3_, vI x2_, vI x1_, vR (h.R t 194)] h) := rn_b (b := b174_0) rfl
theorem e174_26 (E : EV) (d : Nat) (t : Nat) (x1_ : Int32) (x2_ : Int32) (x3_ : Int32) (x4_ : Int32) (x5_ : Int32) (s0_ : Option Nat) (s1_ : Int32) (s2_ : Int32) (s3_ : Int32) (h : AH) : rn E d 174 26 [some (vR (some t)), some (vI x1_), some (vI x2_), some (vI x3_), some (vI x4_), some (vI x5_)] [vI s3_, vI s2_, vI s1_, vR s0_] h =
    rn E d 174 28 [some (vR (some t)), some (vI x1_), some (vI x2_), some (vI x3_), some (vI x4_), some (vI x5_)] [vI x4_, vI s3_, vI s2_, vI s1_, vR s0_] h := rn_b (b := b174_26) rfl
theorem e174_28 (E : EV) (d : Nat) (t : Nat) (x1_ : Int32) (x2_ : Int32) (x3_ : Int32) (x4_ : Int32) (x5_ : Int32) (s0_ : Option Nat) (s1_ : Int32) (s2_ : Int32) (s3_ : Int32) (s4_ : Int32) (h : AH) : rn E d 174 28 [some (vR (some t)), some (vI x1_), some (vI x2_), some (vI x3_), some (vI x4_), some (vI x5_)] [vI s4_, vI s3_, vI s2_, vI s1_, vR s0_] h =
    if 0 ≤ x5_ then rn E d 174 37 [some (vR (some t)), some (vI x1_), some (vI x2_), some (vI x3_), some (vI x4_), some (vI x5_)] [vI s4_, vI s3_, vI s2_, vI s1_, vR s0_] h else
    rn E d 174 39 [some (vR (some t)), some (vI x1_), some (vI x2_), some (vI x3_), some (vI x4_), some (vI x5_)] [vI 0, vI s4_, vI s3_, vI s2_, vI s1_, vR s0_] h := rn_b (b := b174_28) rfl
theorem e174_37 (E : EV) (d : Nat) (t : Nat) (x1_ : Int32) (x2_ : Int32) (x3_ : Int32) (x4_ : Int32) (x5_ : Int32) (s0_ : Option Nat) (s1_ : Int32) (s2_ : Int32) (s3_ : Int32) (s4_ : Int32) (h : AH) : rn E d 174 37 [some (vR (some t)), some (vI x1_), some (vI x2_), some (vI x3_), some (vI x4_), some (vI x5_)] [vI s4_, vI s3_, vI s2_, vI s1_, vR s0_] h =
    rn E d 174 39 [some (vR (some t)), some (vI x1_), some (vI x2_), some (vI x3_), some (vI x4_), some (vI x5_)] [vI x5_, vI s4_, vI s3_, vI s2_, vI s1_, vR s0_] h := rn_b (b := b174_37) rfl
theorem e174_39 (E : EV) (d : Nat) (t : Nat) (x1_ : Int32) (x2_ : Int32) (x3_ : Int32) (x4_ : Int32) (x5_ : Int32) (s0_ : Option Nat) (s1_ : Int32) (s2_ : Int32) (s3_ : Int32) (s4_ : Int32) (s5_ : Int32) (h : AH) : rn E d 174 39 [some (vR (some t)), some (vI x1_), some (vI x2_), some (vI x3_), some (vI x4_), some (vI x5_)] [vI s5_, vI s4_, vI s3_, vI s2_, vI s1_, vR s0_] h =
    cI (cal E d 201 [vI s1_, vI s2_, vI s3_, vI s4_, vI s5_] h) th fun v1 h =>
    nn s0_ fun a2 =>
    gd ((h.kd a2 == 102 || h.kd a2 == 103) && inb v1 (h.ln a2)) (if (h.I a2 v1.toNatClampNeg) = 0 then rn E d 174 50 [some (vR (some t)), some (vI x1_), some (vI x2_), some (vI x3_), some (vI x4_), some (vI x5_)] [] h else
    rn E d 174 51 [some (vR (some t)), some (vI x1_), some (vI x2_), some (vI x3_), some (vI x4_), some (vI x5_)] [vI 1] h) := rn_b (b := b174_39) rfl
theorem e174_50 (E : EV) (d : Nat) (t : Nat) (x1_ : Int32) (x2_ : Int32) (x3_ : Int32) (x4_ : Int32) (x5_ : Int32) (h : AH) : rn E d 174 50 [some (vR (some t)), some (vI x1_), some (vI x2_), some (vI x3_), some (vI x4_), some (vI x5_)] [] h =
    rn E d 174 51 [some (vR (some t)), some (vI x1_), some (vI x2_), some (vI x3_), some (vI x4_), some (vI x5_)] [vI 0] h := rn_b (b := b174_50) rfl
theorem e174_51 (E : EV) (d : Nat) (t : Nat) (x1_ : Int32) (x2_ : Int32) (x3_ : Int32) (x4_ : Int32) (x5_ : Int32) (s0_ : Int32) (h : AH) : rn E d 174 51 [some (vR (some t)), some (vI x1_), some (vI x2_), some (vI x3_), some (vI x4_), some (vI x5_)] [vI s0_] h =
    gd (decide (s0_ = 0) || decide (s0_ = 1)) (some (Sum.inl (some (vI s0_)), h)) := rn_b (b := b174_51) rfl
/-! 175 FastPlaneModel.partNamed(I)I -/
theorem c175 (E : EV) (d : Nat) (t : Nat) (x1_ : Int32) (h : AH) : cal E (d + 1) 175 [vR (some t), vI x1_] h = rn E d 175 0 [some (vR (some t)), some (vI x1_), none, none] [] h := cal_rn rfl rfl
theorem e175_0 (E : EV) (d : Nat) (t : Nat) (x1_ : Int32) (o2_ : Option AV) (o3_ : Option AV) (h : AH) : rn E d 175 0 [some (vR (some t)), some (vI x1_), o2_, o3_] [] h =
    gd (h.kd t == 23) (cI (cal E d 143 [vR (some t)] h) th fun v1 h =>
    if v1 = 0 then
    some (Sum.inl (some (vI 0)), h)
    else rn E d 175 9 [some (vR (some t)), some (vI x1_), o2_, o3_] [] h) := rn_b (b := b175_0) rfl
theorem e175_9 (E : EV) (d : Nat) (t : Nat) (x1_ : Int32) (o2_ : Option AV) (o3_ : Option AV) (h : AH) : rn E d 175 9 [some (vR (some t)), some (vI x1_), o2_, o3_] [] h =
    rn E d 175 13 [some (vR (some t)), some (vI x1_), some (vI (-1)), some (vI 0)] [] h := rn_b (b := b175_9) rfl
theorem e175_13 (E : EV) (d : Nat) (t : Nat) (x1_ : Int32) (x2_ : Int32) (x3_ : Int32) (h : AH) : rn E d 175 13 [some (vR (some t)), some (vI x1_), some (vI x2_), some (vI x3_)] [] h =
    gd (h.kd t == 23) (gd (h.kd t == 23) (nn (h.R t 116) fun a1 =>
    gd (h.kd a1 == 101 && inb (h.I t 136) (h.ln a1)) (if (h.I a1 (h.I t 136).toNatClampNeg) ≤ x3_ then rn E d 175 56 [some (vR (some t)), some (vI x1_), some (vI x2_), some (vI x3_)] [] h else
    gd (h.kd t == 23) (gd (h.kd t == 23) (nn (h.R t 134) fun a2 =>
    gd (h.kd a2 == 104 && inb ((12 * (h.I t 136)) + x3_) (h.ln a2)) (gd (h.kd t == 23) (if (lg_cmp (h.L a2 ((12 * (h.I t 136)) + x3_).toNatClampNeg) (h.L t 114)) = 0 then
    rn E d 175 50 [some (vR (some t)), some (vI x1_), some (vI x3_), some (vI x3_)] [] h
    else rn E d 175 50 [some (vR (some t)), some (vI x1_), some (vI x2_), some (vI x3_)] [] h))))))) := rn_b (b := b175_13) rfl
theorem e175_50 (E : EV) (d : Nat) (t : Nat) (x1_ : Int32) (x2_ : Int32) (x3_ : Int32) (h : AH) : rn E d 175 50 [some (vR (some t)), some (vI x1_), some (vI x2_), some (vI x3_)] [] h =
    hs (x3_ + 1) fun x1 =>
    rn E d 175 13 [some (vR (some t)), some (vI x1_), some (vI x2_), some (vI x1)] [] h := rn_b (b := b175_50) rfl
theorem e175_56 (E : EV) (d : Nat) (t : Nat) (x1_ : Int32) (x2_ : Int32) (x3_ : Int32) (h : AH) : rn E d 175 56 [some (vR (some t)), some (vI x1_), some (vI x2_), some (vI x3_)] [] h =
    gd (h.kd t == 23) (if (h.I t 112) = 2 then rn E d 175 71 [some (vR (some t)), some (vI x1_), some (vI x2_), some (vI x3_)] [] h else
    gd (h.kd t == 23) (cV (cal E d 217 [vR (some t)] h) th fun h =>
    rn E d 175 102 [some (vR (some t)), some (vI x1_), some (vI x2_), some (vI x3_)] [] h)) := rn_b (b := b175_56) rfl
theorem e175_71 (E : EV) (d : Nat) (t : Nat) (x1_ : Int32) (x2_ : Int32) (x3_ : Int32) (h : AH) : rn E d 175 71 [some (vR (some t)), some (vI x1_), some (vI x2_), some (vI x3_)] [] h =
    if 0 ≤ x2_ then rn E d 175 87 [some (vR (some t)), some (vI x1_), some (vI x2_), some (vI x3_)] [] h else
    gd (h.kd t == 23) (gd (h.kd t == 23) (cV (cal E d 124 [vR (some t), vI 5, vI (h.I t 110)] h) th fun h =>
    rn E d 175 102 [some (vR (some t)), some (vI x1_), some (vI x2_), some (vI x3_)] [] h)) := rn_b (b := b175_71) rfl
theorem e175_87 (E : EV) (d : Nat) (t : Nat) (x1_ : Int32) (x2_ : Int32) (x3_ : Int32) (h : AH) : rn E d 175 87 [some (vR (some t)), some (vI x1_), some (vI x2_), some (vI x3_)] [] h =
    if x2_ = x1_ then
    gd (h.kd t == 23) (gd (h.kd t == 23) (cV (cal E d 124 [vR (some t), vI 6, vI (h.I t 110)] h) th fun h =>
    rn E d 175 102 [some (vR (some t)), some (vI x1_), some (vI x2_), some (vI x3_)] [] h))
    else rn E d 175 102 [some (vR (some t)), some (vI x1_), some (vI x2_), some (vI x3_)] [] h := rn_b (b := b175_87) rfl
theorem e175_102 (E : EV) (d : Nat) (t : Nat) (x1_ : Int32) (x2_ : Int32) (x3_ : Int32) (h : AH) : rn E d 175 102 [some (vR (some t)), some (vI x1_), some (vI x2_), some (vI x3_)] [] h =
    gd (h.kd t == 23) (cI (cal E d 143 [vR (some t)] h) th fun v1 h =>
    if v1 = 0 then rn E d 175 113 [some (vR (some t)), some (vI x1_), some (vI x2_), some (vI x3_)] [] h else
    gd (h.kd t == 23) (cV (cal E d 170 [vR (some t)] h) th fun h =>
    rn E d 175 113 [some (vR (some t)), some (vI x1_), some (vI x2_), some (vI x3_)] [] h)) := rn_b (b := b175_102) rfl
theorem e175_113 (E : EV) (d : Nat) (t : Nat) (x1_ : Int32) (x2_ : Int32) (x3_ : Int32) (h : AH) : rn E d 175 113 [some (vR (some t)), some (vI x1_), some (vI x2_), some (vI x3_)] [] h =
    some (Sum.inl (some (vI x2_)), h) := rn_b (b := b175_113) rfl
/-! 176 FastPlaneModel.parts()I -/
theorem c176 (E : EV) (d : Nat) (t : Nat) (h : AH) : cal E (d + 1) 176 [vR (some t)] h = rn E d 176 0 [some (vR (some t))] [] h := cal_rn rfl rfl
theorem e176_0 (E : EV) (d : Nat) (t : Nat) (h : AH) : rn E d 176 0 [some (vR (some t))] [] h =
    gd (h.kd t == 23) (gd (h.kd t == 23) (nn (h.R t 116) fun a1 =>
    gd (h.kd a1 == 101 && inb (h.I t 135) (h.ln a1)) (some (Sum.inl (some (vI (h.I a1 (h.I t 135).toNatClampNeg))), h)))) := rn_b (b := b176_0) rfl
/-! 177 FastPlaneModel.pays(III)I -/
theorem c177 (E : EV) (d : Nat) (t : Nat) (x1_ : Int32) (x2_ : Int32) (x3_ : Int32) (h : AH) : cal E (d + 1) 177 [vR (some t), vI x1_, vI x2_, vI x3_] h = rn E d 177 0 [some (vR (some t)), some (vI x1_), some (vI x2_), some (vI x3_), none, none, none, none] [] h := cal_rn rfl rfl
theorem e177_0 (E : EV) (d : Nat) (t : Nat) (x1_ : Int32) (x2_ : Int32) (x3_ : Int32) (o4_ : Option AV) (o5_ : Option AV) (o6_ : Option AV) (o7_ : Option AV) (h : AH) : rn E d 177 0 [some (vR (some t)), some (vI x1_), some (vI x2_), some (vI x3_), o4_, o5_, o6_, o7_] [] h =
    cI (cal E d 144 [vI x1_, vI 0, vI 1] h) th fun v1 h =>
    if v1 = 0 then rn E d 177 16 [some (vR (some t)), some (vI x1_), some (vI x2_), some (vI x3_), o4_, o5_, o6_, o7_] [] h else
    cI (cal E d 151 [vI x2_] h) th fun v2 h =>
    if v2 = 0 then
    rn E d 177 16 [some (vR (some t)), some (vI x1_), some (vI x2_), some (vI x3_), o4_, o5_, o6_, o7_] [] h
    else rn E d 177 18 [some (vR (some t)), some (vI x1_), some (vI x2_), some (vI x3_), o4_, o5_, o6_, o7_] [] h := rn_b (b := b177_0) rfl
theorem e177_16 (E : EV) (d : Nat) (t : Nat) (x1_ : Int32) (x2_ : Int32) (x3_ : Int32) (o4_ : Option AV) (o5_ : Option AV) (o6_ : Option AV) (o7_ : Option AV) (h : AH) : rn E d 177 16 [some (vR (some t)), some (vI x1_), some (vI x2_), some (vI x3_), o4_, o5_, o6_, o7_] [] h =
    some (Sum.inl (some (vI (-1))), h) := rn_b (b := b177_16) rfl
theorem e177_18 (E : EV) (d : Nat) (t : Nat) (x1_ : Int32) (x2_ : Int32) (x3_ : Int32) (o4_ : Option AV) (o5_ : Option AV) (o6_ : Option AV) (o7_ : Option AV) (h : AH) : rn E d 177 18 [some (vR (some t)), some (vI x1_), some (vI x2_), some (vI x3_), o4_, o5_, o6_, o7_] [] h =
    gd (h.kd t == 23) (cV (cal E d 129 [vR (some t), vI x3_] h) th fun h =>
    rn E d 177 29 [some (vR (some t)), some (vI x1_), some (vI x2_), some (vI x3_), some (vI 0), some (vI 0), o6_, o7_] [] h) := rn_b (b := b177_18) rfl
theorem e177_29 (E : EV) (d : Nat) (t : Nat) (x1_ : Int32) (x2_ : Int32) (x3_ : Int32) (x4_ : Int32) (x5_ : Int32) (o6_ : Option AV) (o7_ : Option AV) (h : AH) : rn E d 177 29 [some (vR (some t)), some (vI x1_), some (vI x2_), some (vI x3_), some (vI x4_), some (vI x5_), o6_, o7_] [] h =
    gd (h.kd t == 23) (cI (cal E d 176 [vR (some t)] h) th fun v1 h =>
    if v1 ≤ x5_ then rn E d 177 177 [some (vR (some t)), some (vI x1_), some (vI x2_), some (vI x3_), some (vI x4_), some (vI x5_), o6_, o7_] [] h else
    gd (h.kd t == 23) (nn (h.R t 170) fun a2 =>
    gd (h.kd a2 == 101 && inb x5_ (h.ln a2)) (if (h.I a2 x5_.toNatClampNeg) < 1000000 then rn E d 177 54 [some (vR (some t)), some (vI x1_), some (vI x2_), some (vI x3_), some (vI x4_), some (vI x5_), o6_, o7_] [] h else
    rn E d 177 171 [some (vR (some t)), some (vI x1_), some (vI x2_), some (vI x3_), some (vI x4_), some (vI x5_), o6_, o7_] [] h))) := rn_b (b := b177_29) rfl
theorem e177_54 (E : EV) (d : Nat) (t : Nat) (x1_ : Int32) (x2_ : Int32) (x3_ : Int32) (x4_ : Int32) (x5_ : Int32) (o6_ : Option AV) (o7_ : Option AV) (h : AH) : rn E d 177 54 [some (vR (some t)), some (vI x1_), some (vI x2_), some (vI x3_), some (vI x4_), some (vI x5_), o6_, o7_] [] h =
    gd (h.kd t == 23) (gd (h.kd t == 23) (nn (h.R t 120) fun a1 =>
    gd (h.kd a1 == 101 && inb ((12 * (h.I t 135)) + x5_) (h.ln a1)) (gd ((h.kd t == 23) && decide (E.bs ≤ t) && true) (hs (h.setI t 154 (h.I a1 ((12 * (h.I t 135)) + x5_).toNatClampNeg)) fun h =>
    gd (h.kd t == 23) (gd (h.kd t == 23) (nn (h.R t 123) fun a2 =>
    gd (h.kd a2 == 101 && inb ((12 * (h.I t 135)) + x5_) (h.ln a2)) (gd ((h.kd t == 23) && decide (E.bs ≤ t) && true) (hs (h.setI t 155 (h.I a2 ((12 * (h.I t 135)) + x5_).toNatClampNeg)) fun h =>
    gd (h.kd t == 23) (nn (h.R t 170) fun a3 =>
    gd (h.kd a3 == 101 && inb x5_ (h.ln a3)) (gd ((h.kd t == 23) && decide (E.bs ≤ t) && true) (hs (h.setI t 156 (h.I a3 x5_.toNatClampNeg)) fun h =>
    gd (h.kd t == 23) (cI (cal E d 216 [vR (some t), vI x2_, vI 0, vI 50] h) th fun v4 h =>
    if 0 ≤ v4 then rn E d 177 122 [some (vR (some t)), some (vI x1_), some (vI x2_), some (vI x3_), some (vI x4_), some (vI x5_), some (vI v4), o7_] [] h else
    rn E d 177 136 [some (vR (some t)), some (vI x1_), some (vI x2_), some (vI x3_), some (vI x4_), some (vI x5_), some (vI v4), o7_] [vI 0] h)))))))))))) := rn_b (b := b177_54) rfl
theorem e177_122 (E : EV) (d : Nat) (t : Nat) (x1_ : Int32) (x2_ : Int32) (x3_ : Int32) (x4_ : Int32) (x5_ : Int32) (x6_ : Int32) (o7_ : Option AV) (h : AH) : rn E d 177 122 [some (vR (some t)), some (vI x1_), some (vI x2_), some (vI x3_), some (vI x4_), some (vI x5_), some (vI x6_), o7_] [] h =
    if x6_ ≤ 100 then rn E d 177 134 [some (vR (some t)), some (vI x1_), some (vI x2_), some (vI x3_), some (vI x4_), some (vI x5_), some (vI x6_), o7_] [] h else
    rn E d 177 136 [some (vR (some t)), some (vI x1_), some (vI x2_), some (vI x3_), some (vI x4_), some (vI x5_), some (vI x6_), o7_] [vI 100] h := rn_b (b := b177_122) rfl
theorem e177_134 (E : EV) (d : Nat) (t : Nat) (x1_ : Int32) (x2_ : Int32) (x3_ : Int32) (x4_ : Int32) (x5_ : Int32) (x6_ : Int32) (o7_ : Option AV) (h : AH) : rn E d 177 134 [some (vR (some t)), some (vI x1_), some (vI x2_), some (vI x3_), some (vI x4_), some (vI x5_), some (vI x6_), o7_] [] h =
    rn E d 177 136 [some (vR (some t)), some (vI x1_), some (vI x2_), some (vI x3_), some (vI x4_), some (vI x5_), some (vI x6_), o7_] [vI x6_] h := rn_b (b := b177_134) rfl
theorem e177_136 (E : EV) (d : Nat) (t : Nat) (x1_ : Int32) (x2_ : Int32) (x3_ : Int32) (x4_ : Int32) (x5_ : Int32) (x6_ : Int32) (o7_ : Option AV) (s0_ : Int32) (h : AH) : rn E d 177 136 [some (vR (some t)), some (vI x1_), some (vI x2_), some (vI x3_), some (vI x4_), some (vI x5_), some (vI x6_), o7_] [vI s0_] h =
    gd (h.kd t == 23) (gd (!decide ((100 : Int32) = 0)) (hs (((h.I t 155) * s0_) / 100) fun x1 =>
    if x1_ = 0 then
    rn E d 177 168 [some (vR (some t)), some (vI x1_), some (vI x2_), some (vI x3_), some (vI x4_), some (vI x5_), some (vI s0_), some (vI x1)] [vI x1, vI x4_] h
    else rn E d 177 161 [some (vR (some t)), some (vI x1_), some (vI x2_), some (vI x3_), some (vI x4_), some (vI x5_), some (vI s0_), some (vI x1)] [vI x4_] h)) := rn_b (b := b177_136) rfl
theorem e177_161 (E : EV) (d : Nat) (t : Nat) (x1_ : Int32) (x2_ : Int32) (x3_ : Int32) (x4_ : Int32) (x5_ : Int32) (x6_ : Int32) (x7_ : Int32) (s0_ : Int32) (h : AH) : rn E d 177 161 [some (vR (some t)), some (vI x1_), some (vI x2_), some (vI x3_), some (vI x4_), some (vI x5_), some (vI x6_), some (vI x7_)] [vI s0_] h =
    gd (h.kd t == 23) (rn E d 177 168 [some (vR (some t)), some (vI x1_), some (vI x2_), some (vI x3_), some (vI x4_), some (vI x5_), some (vI x6_), some (vI x7_)] [vI ((h.I t 155) - x7_), vI s0_] h) := rn_b (b := b177_161) rfl
theorem e177_168 (E : EV) (d : Nat) (t : Nat) (x1_ : Int32) (x2_ : Int32) (x3_ : Int32) (x4_ : Int32) (x5_ : Int32) (x6_ : Int32) (x7_ : Int32) (s0_ : Int32) (s1_ : Int32) (h : AH) : rn E d 177 168 [some (vR (some t)), some (vI x1_), some (vI x2_), some (vI x3_), some (vI x4_), some (vI x5_), some (vI x6_), some (vI x7_)] [vI s1_, vI s0_] h =
    hs (s0_ + s1_) fun x1 =>
    rn E d 177 171 [some (vR (some t)), some (vI x1_), some (vI x2_), some (vI x3_), some (vI x1), some (vI x5_), some (vI x6_), some (vI x7_)] [] h := rn_b (b := b177_168) rfl
theorem e177_171 (E : EV) (d : Nat) (t : Nat) (x1_ : Int32) (x2_ : Int32) (x3_ : Int32) (x4_ : Int32) (x5_ : Int32) (o6_ : Option AV) (o7_ : Option AV) (h : AH) : rn E d 177 171 [some (vR (some t)), some (vI x1_), some (vI x2_), some (vI x3_), some (vI x4_), some (vI x5_), o6_, o7_] [] h =
    hs (x5_ + 1) fun x1 =>
    rn E d 177 29 [some (vR (some t)), some (vI x1_), some (vI x2_), some (vI x3_), some (vI x4_), some (vI x1), o6_, o7_] [] h := rn_b (b := b177_171) rfl
theorem e177_177 (E : EV) (d : Nat) (t : Nat) (x1_ : Int32) (x2_ : Int32) (x3_ : Int32) (x4_ : Int32) (x5_ : Int32) (o6_ : Option AV) (o7_ : Option AV) (h : AH) : rn E d 177 177 [some (vR (some t)), some (vI x1_), some (vI x2_), some (vI x3_), some (vI x4_), some (vI x5_), o6_, o7_] [] h =
    some (Sum.inl (some (vI x4_)), h) := rn_b (b := b177_177) rfl
/-! 178 FastPlaneModel.planOf(III)I -/
theorem c178 (E : EV) (d : Nat) (t : Nat) (x1_ : Int32) (x2_ : Int32) (x3_ : Int32) (h : AH) : cal E (d + 1) 178 [vR (some t), vI x1_, vI x2_, vI x3_] h = rn E d 178 0 [some (vR (some t)), some (vI x1_), some (vI x2_), some (vI x3_), none] [] h := cal_rn rfl rfl
theorem e178_0 (E : EV) (d : Nat) (t : Nat) (x1_ : Int32) (x2_ : Int32) (x3_ : Int32) (o4_ : Option AV) (h : AH) : rn E d 178 0 [some (vR (some t)), some (vI x1_), some (vI x2_), some (vI x3_), o4_] [] h =
    gd (h.kd t == 23) (cI (cal E d 141 [vR (some t), vI 0, vI x1_] h) th fun v1 h =>
    if v1 = 0 then rn E d 178 34 [some (vR (some t)), some (vI x1_), some (vI x2_), some (vI x3_), o4_] [] h else
    gd (h.kd t == 23) (cI (cal E d 141 [vR (some t), vI 1, vI x2_] h) th fun v2 h =>
    if v2 = 0 then rn E d 178 34 [some (vR (some t)), some (vI x1_), some (vI x2_), some (vI x3_), o4_] [] h else
    gd (h.kd t == 23) (cI (cal E d 141 [vR (some t), vI 2, vI x3_] h) th fun v3 h =>
    if v3 = 0 then rn E d 178 34 [some (vR (some t)), some (vI x1_), some (vI x2_), some (vI x3_), o4_] [] h else
    gd (h.kd t == 23) (if (h.I t 177) = 0 then
    rn E d 178 34 [some (vR (some t)), some (vI x1_), some (vI x2_), some (vI x3_), o4_] [] h
    else rn E d 178 36 [some (vR (some t)), some (vI x1_), some (vI x2_), some (vI x3_), o4_] [] h)))) := rn_b (b := b178_0) rfl
theorem e178_34 (E : EV) (d : Nat) (t : Nat) (x1_ : Int32) (x2_ : Int32) (x3_ : Int32) (o4_ : Option AV) (h : AH) : rn E d 178 34 [some (vR (some t)), some (vI x1_), some (vI x2_), some (vI x3_), o4_] [] h =
    some (Sum.inl (some (vI (-1))), h) := rn_b (b := b178_34) rfl
theorem e178_36 (E : EV) (d : Nat) (t : Nat) (x1_ : Int32) (x2_ : Int32) (x3_ : Int32) (o4_ : Option AV) (h : AH) : rn E d 178 36 [some (vR (some t)), some (vI x1_), some (vI x2_), some (vI x3_), o4_] [] h =
    gd (h.kd t == 23) (cV (cal E d 127 [vR (some t)] h) th fun h =>
    gd (h.kd t == 23) (nn (h.R t 175) fun a1 =>
    gd (h.kd a1 == 101 && inb ((x1_ ||| (x2_ <<< (4 &&& 31))) ||| (x3_ <<< (8 &&& 31))) (h.ln a1)) (hs (h.I a1 ((x1_ ||| (x2_ <<< (4 &&& 31))) ||| (x3_ <<< (8 &&& 31))).toNatClampNeg) fun x2 =>
    if x2 < 1000000 then rn E d 178 69 [some (vR (some t)), some (vI x1_), some (vI x2_), some (vI x3_), some (vI x2)] [] h else
    rn E d 178 71 [some (vR (some t)), some (vI x1_), some (vI x2_), some (vI x3_), some (vI x2)] [vI (-1)] h))) := rn_b (b := b178_36) rfl
theorem e178_69 (E : EV) (d : Nat) (t : Nat) (x1_ : Int32) (x2_ : Int32) (x3_ : Int32) (x4_ : Int32) (h : AH) : rn E d 178 69 [some (vR (some t)), some (vI x1_), some (vI x2_), some (vI x3_), some (vI x4_)] [] h =
    rn E d 178 71 [some (vR (some t)), some (vI x1_), some (vI x2_), some (vI x3_), some (vI x4_)] [vI x4_] h := rn_b (b := b178_69) rfl
theorem e178_71 (E : EV) (d : Nat) (t : Nat) (x1_ : Int32) (x2_ : Int32) (x3_ : Int32) (x4_ : Int32) (s0_ : Int32) (h : AH) : rn E d 178 71 [some (vR (some t)), some (vI x1_), some (vI x2_), some (vI x3_), some (vI x4_)] [vI s0_] h =
    some (Sum.inl (some (vI s0_)), h) := rn_b (b := b178_71) rfl
/-! 179 FastPlaneModel.plan(III)I -/
theorem c179 (E : EV) (d : Nat) (t : Nat) (x1_ : Int32) (x2_ : Int32) (x3_ : Int32) (h : AH) : cal E (d + 1) 179 [vR (some t), vI x1_, vI x2_, vI x3_] h = rn E d 179 0 [some (vR (some t)), some (vI x1_), some (vI x2_), some (vI x3_)] [] h := cal_rn rfl rfl
theorem e179_0 (E : EV) (d : Nat) (t : Nat) (x1_ : Int32) (x2_ : Int32) (x3_ : Int32) (h : AH) : rn E d 179 0 [some (vR (some t)), some (vI x1_), some (vI x2_), some (vI x3_)] [] h =
    gd (h.kd t == 23) (cI (cal E d 178 [vR (some t), vI x1_, vI x2_, vI x3_] h) th fun v1 h =>
    some (Sum.inl (some (vI v1)), h)) := rn_b (b := b179_0) rfl
/-! 180 FastPlaneModel.pump(I)Z -/
theorem c180 (E : EV) (d : Nat) (t : Nat) (x1_ : Int32) (h : AH) : cal E (d + 1) 180 [vR (some t), vI x1_] h = rn E d 180 0 [some (vR (some t)), some (vI x1_)] [] h := cal_rn rfl rfl
theorem e180_0 (E : EV) (d : Nat) (t : Nat) (x1_ : Int32) (h : AH) : rn E d 180 0 [some (vR (some t)), some (vI x1_)] [] h =
    cI (cal E d 144 [vI x1_, vI 0, vI 3] h) th fun v1 h =>
    if v1 = 0 then
    some (Sum.inl (some (vI 0)), h)
    else rn E d 180 11 [some (vR (some t)), some (vI x1_)] [] h := rn_b (b := b180_0) rfl
theorem e180_11 (E : EV) (d : Nat) (t : Nat) (x1_ : Int32) (h : AH) : rn E d 180 11 [some (vR (some t)), some (vI x1_)] [] h =
    gd ((h.kd t == 23) && decide (E.bs ≤ t) && true) (hs (h.setI t 178 x1_) fun h =>
    some (Sum.inl (some (vI 1)), h)) := rn_b (b := b180_11) rfl
/-! 181 FastPlaneModel.put(II)V -/
theorem c181 (E : EV) (d : Nat) (t : Nat) (x1_ : Int32) (x2_ : Int32) (h : AH) : cal E (d + 1) 181 [vR (some t), vI x1_, vI x2_] h = rn E d 181 0 [some (vR (some t)), some (vI x1_), some (vI x2_)] [] h := cal_rn rfl rfl
theorem e181_0 (E : EV) (d : Nat) (t : Nat) (x1_ : Int32) (x2_ : Int32) (h : AH) : rn E d 181 0 [some (vR (some t)), some (vI x1_), some (vI x2_)] [] h =
    gd (h.kd t == 23) (gd (h.kd t == 23) (nn (h.R t 145) fun a1 =>
    gd (h.kd a1 == 101 && inb (h.I t 152) (h.ln a1) && decide (E.bs ≤ a1)) (hs (h.setI a1 (h.I t 152).toNatClampNeg x1_) fun h =>
    gd (h.kd t == 23) (gd (h.kd t == 23) (nn (h.R t 146) fun a2 =>
    gd (h.kd a2 == 101 && inb (h.I t 152) (h.ln a2) && decide (E.bs ≤ a2)) (hs (h.setI a2 (h.I t 152).toNatClampNeg x2_) fun h =>
    gd (h.kd t == 23) (gd ((h.kd t == 23) && decide (E.bs ≤ t) && true) (hs (h.setI t 152 ((h.I t 152) + 1)) fun h =>
    some (Sum.inl none, h))))))))) := rn_b (b := b181_0) rfl
/-! 182 FastPlaneModel.rankHere()I -/
theorem c182 (E : EV) (d : Nat) (t : Nat) (h : AH) : cal E (d + 1) 182 [vR (some t)] h = rn E d 182 0 [some (vR (some t))] [] h := cal_rn rfl rfl
theorem e182_0 (E : EV) (d : Nat) (t : Nat) (h : AH) : rn E d 182 0 [some (vR (some t))] [] h =
    gd (h.kd t == 23) (cI (cal E d 152 [vR (some t), vL 6385252] h) th fun v1 h =>
    if v1 = 0 then rn E d 182 12 [some (vR (some t))] [] h else
    some (Sum.inl (some (vI 2)), h)) := rn_b (b := b182_0) rfl
theorem e182_12 (E : EV) (d : Nat) (t : Nat) (h : AH) : rn E d 182 12 [some (vR (some t))] [] h =
    gd (h.kd t == 23) (cI (cal E d 152 [vR (some t), vL 28530] h) th fun v1 h =>
    if v1 = 0 then rn E d 182 24 [some (vR (some t))] [] h else
    some (Sum.inl (some (vI 1)), h)) := rn_b (b := b182_12) rfl
theorem e182_24 (E : EV) (d : Nat) (t : Nat) (h : AH) : rn E d 182 24 [some (vR (some t))] [] h =
    gd (h.kd t == 23) (cI (cal E d 153 [vR (some t), vI 60] h) th fun v1 h =>
    if v1 = 0 then
    gd (h.kd t == 23) (cI (cal E d 153 [vR (some t), vI 62] h) th fun v2 h =>
    if v2 = 0 then
    gd (h.kd t == 23) (cI (cal E d 153 [vR (some t), vI 61] h) th fun v3 h =>
    if v3 = 0 then rn E d 182 53 [some (vR (some t))] [] h else
    rn E d 182 51 [some (vR (some t))] [] h)
    else rn E d 182 51 [some (vR (some t))] [] h)
    else rn E d 182 51 [some (vR (some t))] [] h) := rn_b (b := b182_24) rfl
theorem e182_51 (E : EV) (d : Nat) (t : Nat) (h : AH) : rn E d 182 51 [some (vR (some t))] [] h =
    some (Sum.inl (some (vI 4)), h) := rn_b (b := b182_51) rfl
theorem e182_53 (E : EV) (d : Nat) (t : Nat) (h : AH) : rn E d 182 53 [some (vR (some t))] [] h =
    gd (h.kd t == 23) (cI (cal E d 153 [vR (some t), vI 43] h) th fun v1 h =>
    if v1 = 0 then
    gd (h.kd t == 23) (cI (cal E d 153 [vR (some t), vI 45] h) th fun v2 h =>
    if v2 = 0 then rn E d 182 73 [some (vR (some t))] [] h else
    rn E d 182 71 [some (vR (some t))] [] h)
    else rn E d 182 71 [some (vR (some t))] [] h) := rn_b (b := b182_53) rfl
theorem e182_71 (E : EV) (d : Nat) (t : Nat) (h : AH) : rn E d 182 71 [some (vR (some t))] [] h =
    some (Sum.inl (some (vI 5)), h) := rn_b (b := b182_71) rfl
theorem e182_73 (E : EV) (d : Nat) (t : Nat) (h : AH) : rn E d 182 73 [some (vR (some t))] [] h =
    gd (h.kd t == 23) (cI (cal E d 153 [vR (some t), vI 42] h) th fun v1 h =>
    if v1 = 0 then rn E d 182 87 [some (vR (some t))] [] h else
    rn E d 182 88 [some (vR (some t))] [vI 6] h) := rn_b (b := b182_73) rfl
theorem e182_87 (E : EV) (d : Nat) (t : Nat) (h : AH) : rn E d 182 87 [some (vR (some t))] [] h =
    rn E d 182 88 [some (vR (some t))] [vI 0] h := rn_b (b := b182_87) rfl
theorem e182_88 (E : EV) (d : Nat) (t : Nat) (s0_ : Int32) (h : AH) : rn E d 182 88 [some (vR (some t))] [vI s0_] h =
    some (Sum.inl (some (vI s0_)), h) := rn_b (b := b182_88) rfl
/-! 183 FastPlaneModel.readJoin()V -/
theorem c183 (E : EV) (d : Nat) (t : Nat) (h : AH) : cal E (d + 1) 183 [vR (some t)] h = rn E d 183 0 [some (vR (some t)), none] [] h := cal_rn rfl rfl
theorem e183_0 (E : EV) (d : Nat) (t : Nat) (o1_ : Option AV) (h : AH) : rn E d 183 0 [some (vR (some t)), o1_] [] h =
    gd (h.kd t == 23) (gd (h.kd t == 23) (gd (h.kd t == 23) (nn (h.R t 117) fun a1 =>
    gd (h.kd a1 == 101 && inb (h.I t 136) (h.ln a1)) (hs ((16 * (h.I t 136)) + (h.I a1 (h.I t 136).toNatClampNeg)) fun x2 =>
    gd (h.kd t == 23) (gd (h.kd t == 23) (hs (h.R t 124) fun q4 =>
    cI (cal E d 175 [vR (some t), vI (-1)] h) th fun v3 h =>
    nn q4 fun a5 =>
    gd (h.kd a5 == 101 && inb x2 (h.ln a5) && decide (E.bs ≤ a5)) (hs (h.setI a5 x2.toNatClampNeg v3) fun h =>
    gd (h.kd t == 23) (gd (h.kd t == 23) (nn (h.R t 124) fun a6 =>
    gd (h.kd a6 == 101 && inb x2 (h.ln a6)) (gd (h.kd t == 23) (hs (h.R t 125) fun q8 =>
    cI (cal E d 175 [vR (some t), vI (h.I a6 x2.toNatClampNeg)] h) th fun v7 h =>
    nn q8 fun a9 =>
    gd (h.kd a9 == 101 && inb x2 (h.ln a9) && decide (E.bs ≤ a9)) (hs (h.setI a9 x2.toNatClampNeg v7) fun h =>
    gd (h.kd t == 23) (cI (cal E d 152 [vR (some t), vL 6775152] h) th fun v10 h =>
    gd (h.kd t == 23) (cV (cal E d 169 [vR (some t), vI v10] h) th fun h =>
    gd (h.kd t == 23) (gd (h.kd t == 23) (hs (h.R t 126) fun q12 =>
    cI (cal E d 171 [vR (some t), vI 0, vI 99] h) th fun v11 h =>
    nn q12 fun a13 =>
    gd (h.kd a13 == 101 && inb x2 (h.ln a13) && decide (E.bs ≤ a13)) (hs (h.setI a13 x2.toNatClampNeg v11) fun h =>
    gd (h.kd t == 23) (gd (h.kd t == 23) (nn (h.R t 117) fun a14 =>
    gd (h.kd a14 == 101 && inb (h.I t 136) (h.ln a14)) (nn (h.R t 117) fun a15 =>
    gd (h.kd a15 == 101 && inb (h.I t 136) (h.ln a15) && decide (E.bs ≤ a15)) (hs (h.setI a15 (h.I t 136).toNatClampNeg ((h.I a14 (h.I t 136).toNatClampNeg) + 1)) fun h =>
    some (Sum.inl none, h)))))))))))))))))))))) := rn_b (b := b183_0) rfl
/-! 184 FastPlaneModel.readMachine()V -/
theorem c184 (E : EV) (d : Nat) (t : Nat) (h : AH) : cal E (d + 1) 184 [vR (some t)] h = rn E d 184 0 [some (vR (some t)), none, none, none, none] [] h := cal_rn rfl rfl
theorem e184_0 (E : EV) (d : Nat) (t : Nat) (o1_ : Option AV) (o2_ : Option AV) (o3_ : Option AV) (o4_ : Option AV) (h : AH) : rn E d 184 0 [some (vR (some t)), o1_, o2_, o3_, o4_] [] h =
    gd (h.kd t == 23) (cI (cal E d 152 [vR (some t), vL 1885434484] h) th fun v1 h =>
    gd (h.kd t == 23) (cI (cal E d 152 [vR (some t), vL 1785686382] h) th fun v2 h =>
    gd (h.kd t == 23) (cI (cal E d 152 [vR (some t), vL 470021465459] h) th fun v3 h =>
    gd (h.kd t == 23) (cI (cal E d 152 [vR (some t), vL 1952542315] h) th fun v4 h =>
    gd (h.kd t == 23) (cI (cal E d 142 [vR (some t)] h) th fun v5 h =>
    if v5 = 0 then rn E d 184 44 [some (vR (some t)), some (vI v1), some (vI v2), some (vI v3), some (vI v4)] [] h else
    gd (h.kd t == 23) (cV (cal E d 217 [vR (some t)] h) th fun h =>
    rn E d 184 44 [some (vR (some t)), some (vI v1), some (vI v2), some (vI v3), some (vI v4)] [] h)))))) := rn_b (b := b184_0) rfl
theorem e184_44 (E : EV) (d : Nat) (t : Nat) (x1_ : Int32) (x2_ : Int32) (x3_ : Int32) (x4_ : Int32) (h : AH) : rn E d 184 44 [some (vR (some t)), some (vI x1_), some (vI x2_), some (vI x3_), some (vI x4_)] [] h =
    gd (h.kd t == 23) (cI (cal E d 143 [vR (some t)] h) th fun v1 h =>
    if v1 = 0 then
    some (Sum.inl none, h)
    else rn E d 184 52 [some (vR (some t)), some (vI x1_), some (vI x2_), some (vI x3_), some (vI x4_)] [] h) := rn_b (b := b184_44) rfl
theorem e184_52 (E : EV) (d : Nat) (t : Nat) (x1_ : Int32) (x2_ : Int32) (x3_ : Int32) (x4_ : Int32) (h : AH) : rn E d 184 52 [some (vR (some t)), some (vI x1_), some (vI x2_), some (vI x3_), some (vI x4_)] [] h =
    gd (h.kd t == 23) (cV (cal E d 170 [vR (some t)] h) th fun h =>
    if x1_ = 0 then rn E d 184 67 [some (vR (some t)), some (vI x1_), some (vI x2_), some (vI x3_), some (vI x4_)] [] h else
    gd (h.kd t == 23) (cV (cal E d 186 [vR (some t)] h) th fun h =>
    rn E d 184 105 [some (vR (some t)), some (vI x1_), some (vI x2_), some (vI x3_), some (vI x4_)] [] h)) := rn_b (b := b184_52) rfl
theorem e184_67 (E : EV) (d : Nat) (t : Nat) (x1_ : Int32) (x2_ : Int32) (x3_ : Int32) (x4_ : Int32) (h : AH) : rn E d 184 67 [some (vR (some t)), some (vI x1_), some (vI x2_), some (vI x3_), some (vI x4_)] [] h =
    if x2_ = 0 then rn E d 184 78 [some (vR (some t)), some (vI x1_), some (vI x2_), some (vI x3_), some (vI x4_)] [] h else
    gd (h.kd t == 23) (cV (cal E d 183 [vR (some t)] h) th fun h =>
    rn E d 184 105 [some (vR (some t)), some (vI x1_), some (vI x2_), some (vI x3_), some (vI x4_)] [] h) := rn_b (b := b184_67) rfl
theorem e184_78 (E : EV) (d : Nat) (t : Nat) (x1_ : Int32) (x2_ : Int32) (x3_ : Int32) (x4_ : Int32) (h : AH) : rn E d 184 78 [some (vR (some t)), some (vI x1_), some (vI x2_), some (vI x3_), some (vI x4_)] [] h =
    if x3_ = 0 then rn E d 184 89 [some (vR (some t)), some (vI x1_), some (vI x2_), some (vI x3_), some (vI x4_)] [] h else
    gd (h.kd t == 23) (cV (cal E d 185 [vR (some t)] h) th fun h =>
    rn E d 184 105 [some (vR (some t)), some (vI x1_), some (vI x2_), some (vI x3_), some (vI x4_)] [] h) := rn_b (b := b184_78) rfl
theorem e184_89 (E : EV) (d : Nat) (t : Nat) (x1_ : Int32) (x2_ : Int32) (x3_ : Int32) (x4_ : Int32) (h : AH) : rn E d 184 89 [some (vR (some t)), some (vI x1_), some (vI x2_), some (vI x3_), some (vI x4_)] [] h =
    if x4_ = 0 then rn E d 184 101 [some (vR (some t)), some (vI x1_), some (vI x2_), some (vI x3_), some (vI x4_)] [] h else
    gd (h.kd t == 23) (cV (cal E d 188 [vR (some t)] h) th fun h =>
    rn E d 184 105 [some (vR (some t)), some (vI x1_), some (vI x2_), some (vI x3_), some (vI x4_)] [] h) := rn_b (b := b184_89) rfl
theorem e184_101 (E : EV) (d : Nat) (t : Nat) (x1_ : Int32) (x2_ : Int32) (x3_ : Int32) (x4_ : Int32) (h : AH) : rn E d 184 101 [some (vR (some t)), some (vI x1_), some (vI x2_), some (vI x3_), some (vI x4_)] [] h =
    gd (h.kd t == 23) (cV (cal E d 187 [vR (some t)] h) th fun h =>
    rn E d 184 105 [some (vR (some t)), some (vI x1_), some (vI x2_), some (vI x3_), some (vI x4_)] [] h) := rn_b (b := b184_101) rfl
theorem e184_105 (E : EV) (d : Nat) (t : Nat) (x1_ : Int32) (x2_ : Int32) (x3_ : Int32) (x4_ : Int32) (h : AH) : rn E d 184 105 [some (vR (some t)), some (vI x1_), some (vI x2_), some (vI x3_), some (vI x4_)] [] h =
    gd (h.kd t == 23) (cI (cal E d 153 [vR (some t), vI 59] h) th fun v1 h =>
    gd (h.kd t == 23) (cV (cal E d 169 [vR (some t), vI v1] h) th fun h =>
    gd (h.kd t == 23) (gd (h.kd t == 23) (nn (h.R t 115) fun a2 =>
    gd (h.kd a2 == 101 && inb (h.I t 136) (h.ln a2)) (nn (h.R t 115) fun a3 =>
    gd (h.kd a3 == 101 && inb (h.I t 136) (h.ln a3) && decide (E.bs ≤ a3)) (hs (h.setI a3 (h.I t 136).toNatClampNeg ((h.I a2 (h.I t 136).toNatClampNeg) + 1)) fun h =>
    some (Sum.inl none, h))))))) := rn_b (b := b184_105) rfl
/-! 185 FastPlaneModel.readMoves()V -/
theorem c185 (E : EV) (d : Nat) (t : Nat) (h : AH) : cal E (d + 1) 185 [vR (some t)] h = rn E d 185 0 [some (vR (some t)), none] [] h := cal_rn rfl rfl
theorem e185_0 (E : EV) (d : Nat) (t : Nat) (o1_ : Option AV) (h : AH) : rn E d 185 0 [some (vR (some t)), o1_] [] h =
    gd (h.kd t == 23) (gd (h.kd t == 23) (gd (h.kd t == 23) (nn (h.R t 118) fun a1 =>
    gd (h.kd a1 == 101 && inb (h.I t 136) (h.ln a1)) (hs ((16 * (h.I t 136)) + (h.I a1 (h.I t 136).toNatClampNeg)) fun x2 =>
    gd (h.kd t == 23) (gd (h.kd t == 23) (hs (h.R t 127) fun q4 =>
    cI (cal E d 175 [vR (some t), vI (-1)] h) th fun v3 h =>
    nn q4 fun a5 =>
    gd (h.kd a5 == 101 && inb x2 (h.ln a5) && decide (E.bs ≤ a5)) (hs (h.setI a5 x2.toNatClampNeg v3) fun h =>
    gd (h.kd t == 23) (gd (h.kd t == 23) (nn (h.R t 127) fun a6 =>
    gd (h.kd a6 == 101 && inb x2 (h.ln a6)) (gd (h.kd t == 23) (hs (h.R t 128) fun q8 =>
    cI (cal E d 175 [vR (some t), vI (h.I a6 x2.toNatClampNeg)] h) th fun v7 h =>
    nn q8 fun a9 =>
    gd (h.kd a9 == 101 && inb x2 (h.ln a9) && decide (E.bs ≤ a9)) (hs (h.setI a9 x2.toNatClampNeg v7) fun h =>
    gd (h.kd t == 23) (cI (cal E d 152 [vR (some t), vL 418330731890] h) th fun v10 h =>
    gd (h.kd t == 23) (cV (cal E d 169 [vR (some t), vI v10] h) th fun h =>
    gd (h.kd t == 23) (gd (h.kd t == 23) (hs (h.R t 129) fun q12 =>
    cI (cal E d 171 [vR (some t), vI 0, vI 24] h) th fun v11 h =>
    nn q12 fun a13 =>
    gd (h.kd a13 == 101 && inb x2 (h.ln a13) && decide (E.bs ≤ a13)) (hs (h.setI a13 x2.toNatClampNeg v11) fun h =>
    gd (h.kd t == 23) (gd (h.kd t == 23) (nn (h.R t 118) fun a14 =>
    gd (h.kd a14 == 101 && inb (h.I t 136) (h.ln a14)) (nn (h.R t 118) fun a15 =>
    gd (h.kd a15 == 101 && inb (h.I t 136) (h.ln a15) && decide (E.bs ≤ a15)) (hs (h.setI a15 (h.I t 136).toNatClampNeg ((h.I a14 (h.I t 136).toNatClampNeg) + 1)) fun h =>
    some (Sum.inl none, h)))))))))))))))))))))) := rn_b (b := b185_0) rfl
/-! 186 FastPlaneModel.readPart()V -/
theorem c186 (E : EV) (d : Nat) (t : Nat) (h : AH) : cal E (d + 1) 186 [vR (some t)] h = rn E d 186 0 [some (vR (some t)), none, none, none] [] h := cal_rn rfl rfl
theorem e186_0 (E : EV) (d : Nat) (t : Nat) (o1_ : Option AV) (o2_ : Option AV) (o3_ : Option AV) (h : AH) : rn E d 186 0 [some (vR (some t)), o1_, o2_, o3_] [] h =
    gd (h.kd t == 23) (gd (h.kd t == 23) (gd (h.kd t == 23) (nn (h.R t 116) fun a1 =>
    gd (h.kd a1 == 101 && inb (h.I t 136) (h.ln a1)) (hs ((12 * (h.I t 136)) + (h.I a1 (h.I t 136).toNatClampNeg)) fun x2 =>
    gd (h.kd t == 23) (hs (12 * (h.I t 136)) fun x3 =>
    rn E d 186 26 [some (vR (some t)), some (vI x2), some (vI x3), o3_] [] h))))) := rn_b (b := b186_0) rfl
theorem e186_26 (E : EV) (d : Nat) (t : Nat) (x1_ : Int32) (x2_ : Int32) (o3_ : Option AV) (h : AH) : rn E d 186 26 [some (vR (some t)), some (vI x1_), some (vI x2_), o3_] [] h =
    if x1_ ≤ x2_ then rn E d 186 68 [some (vR (some t)), some (vI x1_), some (vI x2_), o3_] [] h else
    gd (h.kd t == 23) (if (h.I t 112) = 2 then
    gd (h.kd t == 23) (nn (h.R t 134) fun a1 =>
    gd (h.kd a1 == 104 && inb x2_ (h.ln a1)) (gd (h.kd t == 23) (if (lg_cmp (h.L a1 x2_.toNatClampNeg) (h.L t 114)) = 0 then
    gd (h.kd t == 23) (gd (h.kd t == 23) (cV (cal E d 124 [vR (some t), vI 3, vI (h.I t 110)] h) th fun h =>
    rn E d 186 62 [some (vR (some t)), some (vI x1_), some (vI x2_), o3_] [] h))
    else rn E d 186 62 [some (vR (some t)), some (vI x1_), some (vI x2_), o3_] [] h)))
    else rn E d 186 62 [some (vR (some t)), some (vI x1_), some (vI x2_), o3_] [] h) := rn_b (b := b186_26) rfl
theorem e186_62 (E : EV) (d : Nat) (t : Nat) (x1_ : Int32) (x2_ : Int32) (o3_ : Option AV) (h : AH) : rn E d 186 62 [some (vR (some t)), some (vI x1_), some (vI x2_), o3_] [] h =
    hs (x2_ + 1) fun x1 =>
    rn E d 186 26 [some (vR (some t)), some (vI x1_), some (vI x1), o3_] [] h := rn_b (b := b186_62) rfl
theorem e186_68 (E : EV) (d : Nat) (t : Nat) (x1_ : Int32) (x2_ : Int32) (o3_ : Option AV) (h : AH) : rn E d 186 68 [some (vR (some t)), some (vI x1_), some (vI x2_), o3_] [] h =
    gd (h.kd t == 23) (gd (h.kd t == 23) (nn (h.R t 134) fun a1 =>
    gd (h.kd a1 == 104 && inb x1_ (h.ln a1) && decide (E.bs ≤ a1)) (hs (h.setL a1 x1_.toNatClampNeg (h.L t 114)) fun h =>
    gd (h.kd t == 23) (if (h.I t 112) = 2 then
    rn E d 186 92 [some (vR (some t)), some (vI x1_), some (vI x2_), o3_] [vI 1, vR (some t)] h
    else rn E d 186 91 [some (vR (some t)), some (vI x1_), some (vI x2_), o3_] [vR (some t)] h)))) := rn_b (b := b186_68) rfl
theorem e186_91 (E : EV) (d : Nat) (t : Nat) (x1_ : Int32) (x2_ : Int32) (o3_ : Option AV) (s0_ : Option Nat) (h : AH) : rn E d 186 91 [some (vR (some t)), some (vI x1_), some (vI x2_), o3_] [vR s0_] h =
    rn E d 186 92 [some (vR (some t)), some (vI x1_), some (vI x2_), o3_] [vI 0, vR s0_] h := rn_b (b := b186_91) rfl
theorem e186_92 (E : EV) (d : Nat) (t : Nat) (x1_ : Int32) (x2_ : Int32) (o3_ : Option AV) (s0_ : Option Nat) (s1_ : Int32) (h : AH) : rn E d 186 92 [some (vR (some t)), some (vI x1_), some (vI x2_), o3_] [vI s1_, vR s0_] h =
    gd (rcO 179 [vR s0_, vI s1_] h) (cV (cal E d 169 [vR s0_, vI s1_] h) th fun h =>
    gd (h.kd t == 23) (cI (cal E d 152 [vR (some t), vL 25209] h) th fun v1 h =>
    gd (h.kd t == 23) (cV (cal E d 169 [vR (some t), vI v1] h) th fun h =>
    gd (h.kd t == 23) (gd (h.kd t == 23) (hs (h.R t 120) fun q3 =>
    cI (cal E d 171 [vR (some t), vI 0, vI 1] h) th fun v2 h =>
    nn q3 fun a4 =>
    gd (h.kd a4 == 101 && inb x1_ (h.ln a4) && decide (E.bs ≤ a4)) (hs (h.setI a4 x1_.toNatClampNeg v2) fun h =>
    gd (h.kd t == 23) (cI (cal E d 152 [vR (some t), vL 1819242087] h) th fun v5 h =>
    gd (h.kd t == 23) (cV (cal E d 169 [vR (some t), vI v5] h) th fun h =>
    gd (h.kd t == 23) (cI (cal E d 171 [vR (some t), vI 1, vI 999] h) th fun v6 h =>
    gd (h.kd t == 23) (cI (cal E d 152 [vR (some t), vL 1768842088] h) th fun v7 h =>
    if v7 = 0 then
    gd (h.kd t == 23) (cI (cal E d 152 [vR (some t), vL 25453] h) th fun v8 h =>
    if v8 = 0 then rn E d 186 165 [some (vR (some t)), some (vI x1_), some (vI v6), some (vI v7)] [vR (some t)] h else
    rn E d 186 161 [some (vR (some t)), some (vI x1_), some (vI v6), some (vI v7)] [vR (some t)] h)
    else rn E d 186 161 [some (vR (some t)), some (vI x1_), some (vI v6), some (vI v7)] [vR (some t)] h)))))))))) := rn_b (b := b186_92) rfl
theorem e186_161 (E : EV) (d : Nat) (t : Nat) (x1_ : Int32) (x2_ : Int32) (x3_ : Int32) (s0_ : Option Nat) (h : AH) : rn E d 186 161 [some (vR (some t)), some (vI x1_), some (vI x2_), some (vI x3_)] [vR s0_] h =
    rn E d 186 166 [some (vR (some t)), some (vI x1_), some (vI x2_), some (vI x3_)] [vI 1, vR s0_] h := rn_b (b := b186_161) rfl
theorem e186_165 (E : EV) (d : Nat) (t : Nat) (x1_ : Int32) (x2_ : Int32) (x3_ : Int32) (s0_ : Option Nat) (h : AH) : rn E d 186 165 [some (vR (some t)), some (vI x1_), some (vI x2_), some (vI x3_)] [vR s0_] h =
    rn E d 186 166 [some (vR (some t)), some (vI x1_), some (vI x2_), some (vI x3_)] [vI 0, vR s0_] h := rn_b (b := b186_165) rfl
theorem e186_166 (E : EV) (d : Nat) (t : Nat) (x1_ : Int32) (x2_ : Int32) (x3_ : Int32) (s0_ : Option Nat) (s1_ : Int32) (h : AH) : rn E d 186 166 [some (vR (some t)), some (vI x1_), some (vI x2_), some (vI x3_)] [vI s1_, vR s0_] h =
    gd (rcO 179 [vR s0_, vI s1_] h) (cV (cal E d 169 [vR s0_, vI s1_] h) th fun h =>
    gd (h.kd t == 23) (if x3_ = 0 then rn E d 186 189 [some (vR (some t)), some (vI x1_), some (vI x2_), some (vI x3_)] [vI x1_, vR (h.R t 121)] h else
    gd (!decide ((10 : Int32) = 0)) (rn E d 186 193 [some (vR (some t)), some (vI x1_), some (vI x2_), some (vI x3_)] [vI ((x2_ * 254) / 10), vI x1_, vR (h.R t 121)] h))) := rn_b (b := b186_166) rfl
theorem e186_189 (E : EV) (d : Nat) (t : Nat) (x1_ : Int32) (x2_ : Int32) (x3_ : Int32) (s0_ : Option Nat) (s1_ : Int32) (h : AH) : rn E d 186 189 [some (vR (some t)), some (vI x1_), some (vI x2_), some (vI x3_)] [vI s1_, vR s0_] h =
    rn E d 186 193 [some (vR (some t)), some (vI x1_), some (vI x2_), some (vI x3_)] [vI (x2_ * 10), vI s1_, vR s0_] h := rn_b (b := b186_189) rfl
theorem e186_193 (E : EV) (d : Nat) (t : Nat) (x1_ : Int32) (x2_ : Int32) (x3_ : Int32) (s0_ : Option Nat) (s1_ : Int32) (s2_ : Int32) (h : AH) : rn E d 186 193 [some (vR (some t)), some (vI x1_), some (vI x2_), some (vI x3_)] [vI s2_, vI s1_, vR s0_] h =
    nn s0_ fun a1 =>
    gd (h.kd a1 == 101 && inb s1_ (h.ln a1) && decide (E.bs ≤ a1)) (hs (h.setI a1 s1_.toNatClampNeg s2_) fun h =>
    gd (h.kd t == 23) (cI (cal E d 152 [vR (some t), vL 444301539187] h) th fun v2 h =>
    gd (h.kd t == 23) (cV (cal E d 169 [vR (some t), vI v2] h) th fun h =>
    gd (h.kd t == 23) (gd (h.kd t == 23) (hs (h.R t 122) fun q4 =>
    cI (cal E d 171 [vR (some t), vI 0, vI 99] h) th fun v3 h =>
    nn q4 fun a5 =>
    gd (h.kd a5 == 101 && inb x1_ (h.ln a5) && decide (E.bs ≤ a5)) (hs (h.setI a5 x1_.toNatClampNeg v3) fun h =>
    gd (h.kd t == 23) (cI (cal E d 152 [vR (some t), vL 427071599731] h) th fun v6 h =>
    gd (h.kd t == 23) (cV (cal E d 169 [vR (some t), vI v6] h) th fun h =>
    gd (h.kd t == 23) (gd (h.kd t == 23) (hs (h.R t 123) fun q8 =>
    cI (cal E d 171 [vR (some t), vI 0, vI 999] h) th fun v7 h =>
    nn q8 fun a9 =>
    gd (h.kd a9 == 101 && inb x1_ (h.ln a9) && decide (E.bs ≤ a9)) (hs (h.setI a9 x1_.toNatClampNeg v7) fun h =>
    gd (h.kd t == 23) (gd (h.kd t == 23) (nn (h.R t 116) fun a10 =>
    gd (h.kd a10 == 101 && inb (h.I t 136) (h.ln a10)) (nn (h.R t 116) fun a11 =>
    gd (h.kd a11 == 101 && inb (h.I t 136) (h.ln a11) && decide (E.bs ≤ a11)) (hs (h.setI a11 (h.I t 136).toNatClampNeg ((h.I a10 (h.I t 136).toNatClampNeg) + 1)) fun h =>
    some (Sum.inl none, h)))))))))))))))) := rn_b (b := b186_193) rfl
/-! 187 FastPlaneModel.readRow()V -/
theorem c187 (E : EV) (d : Nat) (t : Nat) (h : AH) : cal E (d + 1) 187 [vR (some t)] h = rn E d 187 0 [some (vR (some t)), none, none, none] [] h := cal_rn rfl rfl
theorem e187_0 (E : EV) (d : Nat) (t : Nat) (o1_ : Option AV) (o2_ : Option AV) (o3_ : Option AV) (h : AH) : rn E d 187 0 [some (vR (some t)), o1_, o2_, o3_] [] h =
    gd (h.kd t == 23) (if (h.I t 112) = 4 then
    gd (h.kd t == 23) (if 8 ≤ (h.I t 113) then rn E d 187 46 [some (vR (some t)), o1_, o2_, o3_] [] h else
    gd (h.kd t == 23) (gd (h.kd t == 23) (gd (h.kd t == 23) (nn (h.R t 133) fun a1 =>
    gd ((h.kd a1 == 102 || h.kd a1 == 103) && inb ((8 * (h.I t 136)) + (h.I t 113)) (h.ln a1)) (if (h.I a1 ((8 * (h.I t 136)) + (h.I t 113)).toNatClampNeg) = 0 then rn E d 187 46 [some (vR (some t)), o1_, o2_, o3_] [] h else
    gd (h.kd t == 23) (gd (h.kd t == 23) (cV (cal E d 124 [vR (some t), vI 3, vI (h.I t 110)] h) th fun h =>
    rn E d 187 46 [some (vR (some t)), o1_, o2_, o3_] [] h)))))))
    else rn E d 187 46 [some (vR (some t)), o1_, o2_, o3_] [] h) := rn_b (b := b187_0) rfl
theorem e187_46 (E : EV) (d : Nat) (t : Nat) (o1_ : Option AV) (o2_ : Option AV) (o3_ : Option AV) (h : AH) : rn E d 187 46 [some (vR (some t)), o1_, o2_, o3_] [] h =
    gd (h.kd t == 23) (cI (cal E d 171 [vR (some t), vI 0, vI 7] h) th fun v1 h =>
    gd (h.kd t == 23) (cI (cal E d 143 [vR (some t)] h) th fun v2 h =>
    if v2 = 0 then
    some (Sum.inl none, h)
    else rn E d 187 62 [some (vR (some t)), some (vI v1), o2_, o3_] [] h)) := rn_b (b := b187_46) rfl
theorem e187_62 (E : EV) (d : Nat) (t : Nat) (x1_ : Int32) (o2_ : Option AV) (o3_ : Option AV) (h : AH) : rn E d 187 62 [some (vR (some t)), some (vI x1_), o2_, o3_] [] h =
    gd (h.kd t == 23) (gd (h.kd t == 23) (nn (h.R t 133) fun a1 =>
    gd ((h.kd a1 == 102 || h.kd a1 == 103) && inb ((8 * (h.I t 136)) + x1_) (h.ln a1) && decide (E.bs ≤ a1)) (hs (h.setI a1 ((8 * (h.I t 136)) + x1_).toNatClampNeg (if h.kd a1 = 102 then (1 : Int32).toInt8.toInt32 else (1 : Int32) &&& 1)) fun h =>
    gd (h.kd t == 23) (if (h.I t 112) = 2 then rn E d 187 97 [some (vR (some t)), some (vI x1_), o2_, o3_] [] h else
    gd (h.kd t == 23) (if (h.I t 112) = 3 then rn E d 187 97 [some (vR (some t)), some (vI x1_), o2_, o3_] [] h else
    gd (h.kd t == 23) (cV (cal E d 217 [vR (some t)] h) th fun h =>
    rn E d 187 97 [some (vR (some t)), some (vI x1_), o2_, o3_] [] h)))))) := rn_b (b := b187_62) rfl
theorem e187_97 (E : EV) (d : Nat) (t : Nat) (x1_ : Int32) (o2_ : Option AV) (o3_ : Option AV) (h : AH) : rn E d 187 97 [some (vR (some t)), some (vI x1_), o2_, o3_] [] h =
    gd (h.kd t == 23) (gd (h.kd t == 23) (if ((h.I t 111) - (h.I t 110)) = 8 then
    rn E d 187 116 [some (vR (some t)), some (vI x1_), o2_, o3_] [vI 1] h
    else rn E d 187 115 [some (vR (some t)), some (vI x1_), o2_, o3_] [] h)) := rn_b (b := b187_97) rfl
theorem e187_115 (E : EV) (d : Nat) (t : Nat) (x1_ : Int32) (o2_ : Option AV) (o3_ : Option AV) (h : AH) : rn E d 187 115 [some (vR (some t)), some (vI x1_), o2_, o3_] [] h =
    rn E d 187 116 [some (vR (some t)), some (vI x1_), o2_, o3_] [vI 0] h := rn_b (b := b187_115) rfl
theorem e187_116 (E : EV) (d : Nat) (t : Nat) (x1_ : Int32) (o2_ : Option AV) (o3_ : Option AV) (s0_ : Int32) (h : AH) : rn E d 187 116 [some (vR (some t)), some (vI x1_), o2_, o3_] [vI s0_] h =
    gd (h.kd t == 23) (hs (h.I t 110) fun x1 =>
    rn E d 187 122 [some (vR (some t)), some (vI x1_), some (vI s0_), some (vI x1)] [] h) := rn_b (b := b187_116) rfl
theorem e187_122 (E : EV) (d : Nat) (t : Nat) (x1_ : Int32) (x2_ : Int32) (x3_ : Int32) (h : AH) : rn E d 187 122 [some (vR (some t)), some (vI x1_), some (vI x2_), some (vI x3_)] [] h =
    gd (h.kd t == 23) (if (h.I t 111) ≤ x3_ then rn E d 187 156 [some (vR (some t)), some (vI x1_), some (vI x2_), some (vI x3_)] [] h else
    if x2_ = 0 then rn E d 187 148 [some (vR (some t)), some (vI x1_), some (vI x2_), some (vI x3_)] [] h else
    gd (h.kd t == 23) (cI (cal E d 197 [vR (some t), vI x3_] h) th fun v1 h =>
    if 104 < v1 then rn E d 187 148 [some (vR (some t)), some (vI x1_), some (vI x2_), some (vI x3_)] [] h else
    rn E d 187 149 [some (vR (some t)), some (vI x1_), some (vI x2_), some (vI x3_)] [vI 1] h)) := rn_b (b := b187_122) rfl
theorem e187_148 (E : EV) (d : Nat) (t : Nat) (x1_ : Int32) (x2_ : Int32) (x3_ : Int32) (h : AH) : rn E d 187 148 [some (vR (some t)), some (vI x1_), some (vI x2_), some (vI x3_)] [] h =
    rn E d 187 149 [some (vR (some t)), some (vI x1_), some (vI x2_), some (vI x3_)] [vI 0] h := rn_b (b := b187_148) rfl
theorem e187_149 (E : EV) (d : Nat) (t : Nat) (x1_ : Int32) (x2_ : Int32) (x3_ : Int32) (s0_ : Int32) (h : AH) : rn E d 187 149 [some (vR (some t)), some (vI x1_), some (vI x2_), some (vI x3_)] [vI s0_] h =
    hs (x3_ + 1) fun x1 =>
    rn E d 187 122 [some (vR (some t)), some (vI x1_), some (vI s0_), some (vI x1)] [] h := rn_b (b := b187_149) rfl
theorem e187_156 (E : EV) (d : Nat) (t : Nat) (x1_ : Int32) (x2_ : Int32) (x3_ : Int32) (h : AH) : rn E d 187 156 [some (vR (some t)), some (vI x1_), some (vI x2_), some (vI x3_)] [] h =
    gd (h.kd t == 23) (cI (cal E d 143 [vR (some t)] h) th fun v1 h =>
    if v1 = 0 then rn E d 187 176 [some (vR (some t)), some (vI x1_), some (vI x2_), some (vI x3_)] [] h else
    if x2_ = 0 then
    gd (h.kd t == 23) (gd (h.kd t == 23) (cV (cal E d 124 [vR (some t), vI 4, vI (h.I t 110)] h) th fun h =>
    rn E d 187 176 [some (vR (some t)), some (vI x1_), some (vI x2_), some (vI x3_)] [] h))
    else rn E d 187 176 [some (vR (some t)), some (vI x1_), some (vI x2_), some (vI x3_)] [] h) := rn_b (b := b187_156) rfl
theorem e187_176 (E : EV) (d : Nat) (t : Nat) (x1_ : Int32) (x2_ : Int32) (x3_ : Int32) (h : AH) : rn E d 187 176 [some (vR (some t)), some (vI x1_), some (vI x2_), some (vI x3_)] [] h =
    gd (h.kd t == 23) (cI (cal E d 143 [vR (some t)] h) th fun v1 h =>
    if v1 = 0 then
    some (Sum.inl none, h)
    else rn E d 187 184 [some (vR (some t)), some (vI x1_), some (vI x2_), some (vI x3_)] [] h) := rn_b (b := b187_176) rfl
theorem e187_184 (E : EV) (d : Nat) (t : Nat) (x1_ : Int32) (x2_ : Int32) (x3_ : Int32) (h : AH) : rn E d 187 184 [some (vR (some t)), some (vI x1_), some (vI x2_), some (vI x3_)] [] h =
    rn E d 187 186 [some (vR (some t)), some (vI x1_), some (vI x2_), some (vI 0)] [] h := rn_b (b := b187_184) rfl
theorem e187_186 (E : EV) (d : Nat) (t : Nat) (x1_ : Int32) (x2_ : Int32) (x3_ : Int32) (h : AH) : rn E d 187 186 [some (vR (some t)), some (vI x1_), some (vI x2_), some (vI x3_)] [] h =
    if 8 ≤ x3_ then rn E d 187 230 [some (vR (some t)), some (vI x1_), some (vI x2_), some (vI x3_)] [] h else
    gd (h.kd t == 23) (gd (h.kd t == 23) (gd (h.kd t == 23) (gd (h.kd t == 23) (hs (h.R t 132) fun q2 =>
    hs (((64 * (h.I t 136)) + (8 * x1_)) + x3_) fun y3 =>
    cI (cal E d 197 [vR (some t), vI ((h.I t 110) + x3_)] h) th fun v1 h =>
    nn q2 fun a4 =>
    gd (h.kd a4 == 101 && inb y3 (h.ln a4) && decide (E.bs ≤ a4)) (hs (h.setI a4 y3.toNatClampNeg (v1 - 97)) fun h =>
    hs (x3_ + 1) fun x5 =>
    rn E d 187 186 [some (vR (some t)), some (vI x1_), some (vI x2_), some (vI x5)] [] h))))) := rn_b (b := b187_186) rfl
theorem e187_230 (E : EV) (d : Nat) (t : Nat) (x1_ : Int32) (x2_ : Int32) (x3_ : Int32) (h : AH) : rn E d 187 230 [some (vR (some t)), some (vI x1_), some (vI x2_), some (vI x3_)] [] h =
    gd (h.kd t == 23) (cV (cal E d 170 [vR (some t)] h) th fun h =>
    some (Sum.inl none, h)) := rn_b (b := b187_230) rfl
/-! 188 FastPlaneModel.readTank()V -/
theorem c188 (E : EV) (d : Nat) (t : Nat) (h : AH) : cal E (d + 1) 188 [vR (some t)] h = rn E d 188 0 [some (vR (some t)), none] [] h := cal_rn rfl rfl
theorem e188_0 (E : EV) (d : Nat) (t : Nat) (o1_ : Option AV) (h : AH) : rn E d 188 0 [some (vR (some t)), o1_] [] h =
    gd (h.kd t == 23) (gd (h.kd t == 23) (gd (h.kd t == 23) (nn (h.R t 119) fun a1 =>
    gd (h.kd a1 == 101 && inb (h.I t 136) (h.ln a1)) (hs ((3 * (h.I t 136)) + (h.I a1 (h.I t 136).toNatClampNeg)) fun x2 =>
    gd (h.kd t == 23) (cI (cal E d 152 [vR (some t), vL 24948] h) th fun v3 h =>
    gd (h.kd t == 23) (cV (cal E d 169 [vR (some t), vI v3] h) th fun h =>
    gd (h.kd t == 23) (gd (h.kd t == 23) (hs (h.R t 130) fun q5 =>
    cI (cal E d 171 [vR (some t), vI 0, vI 99] h) th fun v4 h =>
    nn q5 fun a6 =>
    gd (h.kd a6 == 101 && inb x2 (h.ln a6) && decide (E.bs ≤ a6)) (hs (h.setI a6 x2.toNatClampNeg v4) fun h =>
    gd (h.kd t == 23) (cI (cal E d 152 [vR (some t), vL 448545973363] h) th fun v7 h =>
    gd (h.kd t == 23) (cV (cal E d 169 [vR (some t), vI v7] h) th fun h =>
    gd (h.kd t == 23) (gd (h.kd t == 23) (hs (h.R t 131) fun q9 =>
    cI (cal E d 171 [vR (some t), vI 1, vI 15] h) th fun v8 h =>
    nn q9 fun a10 =>
    gd (h.kd a10 == 101 && inb x2 (h.ln a10) && decide (E.bs ≤ a10)) (hs (h.setI a10 x2.toNatClampNeg v8) fun h =>
    gd (h.kd t == 23) (gd (h.kd t == 23) (nn (h.R t 119) fun a11 =>
    gd (h.kd a11 == 101 && inb (h.I t 136) (h.ln a11)) (nn (h.R t 119) fun a12 =>
    gd (h.kd a12 == 101 && inb (h.I t 136) (h.ln a12) && decide (E.bs ≤ a12)) (hs (h.setI a12 (h.I t 136).toNatClampNeg ((h.I a11 (h.I t 136).toNatClampNeg) + 1)) fun h =>
    some (Sum.inl none, h))))))))))))))))))) := rn_b (b := b188_0) rfl
/-! 189 FastPlaneModel.readTreaty()V -/
theorem c189 (E : EV) (d : Nat) (t : Nat) (h : AH) : cal E (d + 1) 189 [vR (some t)] h = rn E d 189 0 [some (vR (some t)), none] [] h := cal_rn rfl rfl
theorem e189_0 (E : EV) (d : Nat) (t : Nat) (o1_ : Option AV) (h : AH) : rn E d 189 0 [some (vR (some t)), o1_] [] h =
    gd (h.kd t == 23) (cI (cal E d 152 [vR (some t), vL 495672455781] h) th fun v1 h =>
    if v1 = 0 then rn E d 189 14 [some (vR (some t)), o1_] [] h else
    rn E d 189 57 [some (vR (some t)), o1_] [vI 0] h) := rn_b (b := b189_0) rfl
theorem e189_14 (E : EV) (d : Nat) (t : Nat) (o1_ : Option AV) (h : AH) : rn E d 189 14 [some (vR (some t)), o1_] [] h =
    gd (h.kd t == 23) (cI (cal E d 152 [vR (some t), vL 465557354085] h) th fun v1 h =>
    if v1 = 0 then rn E d 189 28 [some (vR (some t)), o1_] [] h else
    rn E d 189 57 [some (vR (some t)), o1_] [vI 1] h) := rn_b (b := b189_14) rfl
theorem e189_28 (E : EV) (d : Nat) (t : Nat) (o1_ : Option AV) (h : AH) : rn E d 189 28 [some (vR (some t)), o1_] [] h =
    gd (h.kd t == 23) (cI (cal E d 152 [vR (some t), vL 6712441] h) th fun v1 h =>
    if v1 = 0 then rn E d 189 42 [some (vR (some t)), o1_] [] h else
    rn E d 189 57 [some (vR (some t)), o1_] [vI 2] h) := rn_b (b := b189_28) rfl
theorem e189_42 (E : EV) (d : Nat) (t : Nat) (o1_ : Option AV) (h : AH) : rn E d 189 42 [some (vR (some t)), o1_] [] h =
    gd (h.kd t == 23) (cI (cal E d 152 [vR (some t), vL 1801807216] h) th fun v1 h =>
    if v1 = 0 then rn E d 189 56 [some (vR (some t)), o1_] [] h else
    rn E d 189 57 [some (vR (some t)), o1_] [vI 3] h) := rn_b (b := b189_42) rfl
theorem e189_56 (E : EV) (d : Nat) (t : Nat) (o1_ : Option AV) (h : AH) : rn E d 189 56 [some (vR (some t)), o1_] [] h =
    rn E d 189 57 [some (vR (some t)), o1_] [vI (-1)] h := rn_b (b := b189_56) rfl
theorem e189_57 (E : EV) (d : Nat) (t : Nat) (o1_ : Option AV) (s0_ : Int32) (h : AH) : rn E d 189 57 [some (vR (some t)), o1_] [vI s0_] h =
    if s0_ < 0 then rn E d 189 82 [some (vR (some t)), some (vI s0_)] [] h else
    gd (h.kd t == 23) (if 0 ≤ s0_ then rn E d 189 76 [some (vR (some t)), some (vI s0_)] [vI 12, vR (h.R t 148)] h else
    rn E d 189 77 [some (vR (some t)), some (vI s0_)] [vI 0, vI 12, vR (h.R t 148)] h) := rn_b (b := b189_57) rfl
theorem e189_76 (E : EV) (d : Nat) (t : Nat) (x1_ : Int32) (s0_ : Option Nat) (s1_ : Int32) (h : AH) : rn E d 189 76 [some (vR (some t)), some (vI x1_)] [vI s1_, vR s0_] h =
    rn E d 189 77 [some (vR (some t)), some (vI x1_)] [vI x1_, vI s1_, vR s0_] h := rn_b (b := b189_76) rfl
theorem e189_77 (E : EV) (d : Nat) (t : Nat) (x1_ : Int32) (s0_ : Option Nat) (s1_ : Int32) (s2_ : Int32) (h : AH) : rn E d 189 77 [some (vR (some t)), some (vI x1_)] [vI s2_, vI s1_, vR s0_] h =
    nn s0_ fun a1 =>
    gd ((h.kd a1 == 102 || h.kd a1 == 103) && inb (s1_ + s2_) (h.ln a1)) (if (h.I a1 (s1_ + s2_).toNatClampNeg) = 0 then rn E d 189 86 [some (vR (some t)), some (vI x1_)] [] h else
    rn E d 189 82 [some (vR (some t)), some (vI x1_)] [] h) := rn_b (b := b189_77) rfl
theorem e189_82 (E : EV) (d : Nat) (t : Nat) (x1_ : Int32) (h : AH) : rn E d 189 82 [some (vR (some t)), some (vI x1_)] [] h =
    gd (h.kd t == 23) (cV (cal E d 217 [vR (some t)] h) th fun h =>
    rn E d 189 86 [some (vR (some t)), some (vI x1_)] [] h) := rn_b (b := b189_82) rfl
theorem e189_86 (E : EV) (d : Nat) (t : Nat) (x1_ : Int32) (h : AH) : rn E d 189 86 [some (vR (some t)), some (vI x1_)] [] h =
    gd (h.kd t == 23) (cI (cal E d 143 [vR (some t)] h) th fun v1 h =>
    if v1 = 0 then
    some (Sum.inl none, h)
    else rn E d 189 94 [some (vR (some t)), some (vI x1_)] [] h) := rn_b (b := b189_86) rfl
theorem e189_94 (E : EV) (d : Nat) (t : Nat) (x1_ : Int32) (h : AH) : rn E d 189 94 [some (vR (some t)), some (vI x1_)] [] h =
    gd (h.kd t == 23) (cV (cal E d 170 [vR (some t)] h) th fun h =>
    if x1_ = 0 then rn E d 189 113 [some (vR (some t)), some (vI x1_)] [] h else
    gd (h.kd t == 23) (cI (cal E d 152 [vR (some t), vL 2003330414] h) th fun v1 h =>
    gd (h.kd t == 23) (cV (cal E d 169 [vR (some t), vI v1] h) th fun h =>
    rn E d 189 113 [some (vR (some t)), some (vI x1_)] [] h))) := rn_b (b := b189_94) rfl
theorem e189_113 (E : EV) (d : Nat) (t : Nat) (x1_ : Int32) (h : AH) : rn E d 189 113 [some (vR (some t)), some (vI x1_)] [] h =
    gd ((h.kd t == 23) && decide (E.bs ≤ t) && true) (hs (h.setI t 153 x1_) fun h =>
    gd (h.kd t == 23) (gd (h.kd t == 23) (nn (h.R t 141) fun a1 =>
    gd (h.kd a1 == 101 && inb (12 + x1_) (h.ln a1) && decide (E.bs ≤ a1)) (hs (h.setI a1 (12 + x1_).toNatClampNeg (h.I t 149)) fun h =>
    gd (h.kd t == 23) (cI (cal E d 143 [vR (some t)] h) th fun v2 h =>
    if v2 = 0 then rn E d 189 142 [some (vR (some t)), some (vI x1_)] [] h else
    gd (h.kd t == 23) (cV (cal E d 120 [vR (some t)] h) th fun h =>
    rn E d 189 142 [some (vR (some t)), some (vI x1_)] [] h)))))) := rn_b (b := b189_113) rfl
theorem e189_142 (E : EV) (d : Nat) (t : Nat) (x1_ : Int32) (h : AH) : rn E d 189 142 [some (vR (some t)), some (vI x1_)] [] h =
    gd (h.kd t == 23) (gd (h.kd t == 23) (nn (h.R t 142) fun a1 =>
    gd (h.kd a1 == 101 && inb (12 + x1_) (h.ln a1) && decide (E.bs ≤ a1)) (hs (h.setI a1 (12 + x1_).toNatClampNeg (h.I t 149)) fun h =>
    gd (h.kd t == 23) (nn (h.R t 148) fun a2 =>
    gd ((h.kd a2 == 102 || h.kd a2 == 103) && inb (12 + x1_) (h.ln a2) && decide (E.bs ≤ a2)) (hs (h.setI a2 (12 + x1_).toNatClampNeg (if h.kd a2 = 102 then (1 : Int32).toInt8.toInt32 else (1 : Int32) &&& 1)) fun h =>
    gd (h.kd t == 23) (cI (cal E d 153 [vR (some t), vI 59] h) th fun v3 h =>
    gd (h.kd t == 23) (cV (cal E d 169 [vR (some t), vI v3] h) th fun h =>
    gd (h.kd t == 23) (nn (h.R t 140) fun a4 =>
    gd (h.kd a4 == 101 && inb 3 (h.ln a4)) (nn (h.R t 140) fun a5 =>
    gd (h.kd a5 == 101 && inb 3 (h.ln a5) && decide (E.bs ≤ a5)) (hs (h.setI a5 (3 : Int32).toNatClampNeg ((h.I a4 (3 : Int32).toNatClampNeg) + 1)) fun h =>
    some (Sum.inl none, h))))))))))) := rn_b (b := b189_142) rfl
/-! 190 FastPlaneModel.rounds(III)I -/
theorem c190 (E : EV) (d : Nat) (t : Nat) (x1_ : Int32) (x2_ : Int32) (x3_ : Int32) (h : AH) : cal E (d + 1) 190 [vR (some t), vI x1_, vI x2_, vI x3_] h = rn E d 190 0 [some (vR (some t)), some (vI x1_), some (vI x2_), some (vI x3_), none, none, none, none, none, none] [] h := cal_rn rfl rfl
theorem e190_0 (E : EV) (d : Nat) (t : Nat) (x1_ : Int32) (x2_ : Int32) (x3_ : Int32) (o4_ : Option AV) (o5_ : Option AV) (o6_ : Option AV) (o7_ : Option AV) (o8_ : Option AV) (o9_ : Option AV) (h : AH) : rn E d 190 0 [some (vR (some t)), some (vI x1_), some (vI x2_), some (vI x3_), o4_, o5_, o6_, o7_, o8_, o9_] [] h =
    gd ((h.kd t == 23) && decide (E.bs ≤ t) && true) (hs (h.setI t 162 0) fun h =>
    gd ((h.kd t == 23) && decide (E.bs ≤ t) && true) (hs (h.setI t 156 x1_) fun h =>
    rn E d 190 19 [some (vR (some t)), some (vI x1_), some (vI x2_), some (vI x3_), some (vI 0), some (vI 0), some (vI 0), o7_, o8_, o9_] [] h)) := rn_b (b := b190_0) rfl
theorem e190_19 (E : EV) (d : Nat) (t : Nat) (x1_ : Int32) (x2_ : Int32) (x3_ : Int32) (x4_ : Int32) (x5_ : Int32) (x6_ : Int32) (o7_ : Option AV) (o8_ : Option AV) (o9_ : Option AV) (h : AH) : rn E d 190 19 [some (vR (some t)), some (vI x1_), some (vI x2_), some (vI x3_), some (vI x4_), some (vI x5_), some (vI x6_), o7_, o8_, o9_] [] h =
    gd (h.kd t == 23) (if (h.I t 171) ≤ x6_ then rn E d 190 72 [some (vR (some t)), some (vI x1_), some (vI x2_), some (vI x3_), some (vI x4_), some (vI x5_), some (vI x6_), o7_, o8_, o9_] [] h else
    gd (h.kd t == 23) (cI (cal E d 119 [vR (some t), vI x6_, vI 2, vI x3_] h) th fun v1 h =>
    if v1 = 0 then rn E d 190 66 [some (vR (some t)), some (vI x1_), some (vI x2_), some (vI x3_), some (vI x4_), some (vI x5_), some (vI x6_), o7_, o8_, o9_] [] h else
    gd (h.kd t == 23) (nn (h.R t 166) fun a2 =>
    gd (h.kd a2 == 101 && inb x6_ (h.ln a2)) (if x1_ < (h.I a2 x6_.toNatClampNeg) then rn E d 190 66 [some (vR (some t)), some (vI x1_), some (vI x2_), some (vI x3_), some (vI x4_), some (vI x5_), some (vI x6_), o7_, o8_, o9_] [] h else
    gd (h.kd t == 23) (gd (h.kd t == 23) (nn (h.R t 167) fun a3 =>
    gd (h.kd a3 == 101 && inb x6_ (h.ln a3)) (gd ((h.kd t == 23) && decide (E.bs ≤ t) && true) (hs (h.setI t 162 ((h.I t 162) ||| (h.I a3 x6_.toNatClampNeg))) fun h =>
    rn E d 190 66 [some (vR (some t)), some (vI x1_), some (vI x2_), some (vI x3_), some (vI x4_), some (vI x5_), some (vI x6_), o7_, o8_, o9_] [] h)))))))) := rn_b (b := b190_19) rfl
theorem e190_66 (E : EV) (d : Nat) (t : Nat) (x1_ : Int32) (x2_ : Int32) (x3_ : Int32) (x4_ : Int32) (x5_ : Int32) (x6_ : Int32) (o7_ : Option AV) (o8_ : Option AV) (o9_ : Option AV) (h : AH) : rn E d 190 66 [some (vR (some t)), some (vI x1_), some (vI x2_), some (vI x3_), some (vI x4_), some (vI x5_), some (vI x6_), o7_, o8_, o9_] [] h =
    hs (x6_ + 1) fun x1 =>
    rn E d 190 19 [some (vR (some t)), some (vI x1_), some (vI x2_), some (vI x3_), some (vI x4_), some (vI x5_), some (vI x1), o7_, o8_, o9_] [] h := rn_b (b := b190_66) rfl
theorem e190_72 (E : EV) (d : Nat) (t : Nat) (x1_ : Int32) (x2_ : Int32) (x3_ : Int32) (x4_ : Int32) (x5_ : Int32) (x6_ : Int32) (o7_ : Option AV) (o8_ : Option AV) (o9_ : Option AV) (h : AH) : rn E d 190 72 [some (vR (some t)), some (vI x1_), some (vI x2_), some (vI x3_), some (vI x4_), some (vI x5_), some (vI x6_), o7_, o8_, o9_] [] h =
    rn E d 190 75 [some (vR (some t)), some (vI x1_), some (vI x2_), some (vI x3_), some (vI x4_), some (vI x5_), some (vI 0), o7_, o8_, o9_] [] h := rn_b (b := b190_72) rfl
theorem e190_75 (E : EV) (d : Nat) (t : Nat) (x1_ : Int32) (x2_ : Int32) (x3_ : Int32) (x4_ : Int32) (x5_ : Int32) (x6_ : Int32) (o7_ : Option AV) (o8_ : Option AV) (o9_ : Option AV) (h : AH) : rn E d 190 75 [some (vR (some t)), some (vI x1_), some (vI x2_), some (vI x3_), some (vI x4_), some (vI x5_), some (vI x6_), o7_, o8_, o9_] [] h =
    gd (h.kd t == 23) (if (h.I t 185) ≤ x6_ then rn E d 190 158 [some (vR (some t)), some (vI x1_), some (vI x2_), some (vI x3_), some (vI x4_), some (vI x5_), some (vI x6_), o7_, o8_, o9_] [] h else
    gd (h.kd t == 23) (nn (h.R t 183) fun a1 =>
    gd (h.kd a1 == 101 && inb x6_ (h.ln a1)) (if (h.I a1 x6_.toNatClampNeg) ≤ x1_ then rn E d 190 99 [some (vR (some t)), some (vI x1_), some (vI x2_), some (vI x3_), some (vI x4_), some (vI x5_), some (vI x6_), o7_, o8_, o9_] [] h else
    rn E d 190 100 [some (vR (some t)), some (vI x1_), some (vI x2_), some (vI x3_), some (vI x4_), some (vI x5_), some (vI x6_), o7_, o8_, o9_] [vI 1] h))) := rn_b (b := b190_75) rfl
theorem e190_99 (E : EV) (d : Nat) (t : Nat) (x1_ : Int32) (x2_ : Int32) (x3_ : Int32) (x4_ : Int32) (x5_ : Int32) (x6_ : Int32) (o7_ : Option AV) (o8_ : Option AV) (o9_ : Option AV) (h : AH) : rn E d 190 99 [some (vR (some t)), some (vI x1_), some (vI x2_), some (vI x3_), some (vI x4_), some (vI x5_), some (vI x6_), o7_, o8_, o9_] [] h =
    rn E d 190 100 [some (vR (some t)), some (vI x1_), some (vI x2_), some (vI x3_), some (vI x4_), some (vI x5_), some (vI x6_), o7_, o8_, o9_] [vI 0] h := rn_b (b := b190_99) rfl
theorem e190_100 (E : EV) (d : Nat) (t : Nat) (x1_ : Int32) (x2_ : Int32) (x3_ : Int32) (x4_ : Int32) (x5_ : Int32) (x6_ : Int32) (o7_ : Option AV) (o8_ : Option AV) (o9_ : Option AV) (s0_ : Int32) (h : AH) : rn E d 190 100 [some (vR (some t)), some (vI x1_), some (vI x2_), some (vI x3_), some (vI x4_), some (vI x5_), some (vI x6_), o7_, o8_, o9_] [vI s0_] h =
    if s0_ = 0 then rn E d 190 116 [some (vR (some t)), some (vI x1_), some (vI x2_), some (vI x3_), some (vI x4_), some (vI x5_), some (vI x6_), some (vI s0_), o8_, o9_] [vI x4_] h else
    rn E d 190 117 [some (vR (some t)), some (vI x1_), some (vI x2_), some (vI x3_), some (vI x4_), some (vI x5_), some (vI x6_), some (vI s0_), o8_, o9_] [vI (1 <<< (x6_ &&& 31)), vI x4_] h := rn_b (b := b190_100) rfl
theorem e190_116 (E : EV) (d : Nat) (t : Nat) (x1_ : Int32) (x2_ : Int32) (x3_ : Int32) (x4_ : Int32) (x5_ : Int32) (x6_ : Int32) (x7_ : Int32) (o8_ : Option AV) (o9_ : Option AV) (s0_ : Int32) (h : AH) : rn E d 190 116 [some (vR (some t)), some (vI x1_), some (vI x2_), some (vI x3_), some (vI x4_), some (vI x5_), some (vI x6_), some (vI x7_), o8_, o9_] [vI s0_] h =
    rn E d 190 117 [some (vR (some t)), some (vI x1_), some (vI x2_), some (vI x3_), some (vI x4_), some (vI x5_), some (vI x6_), some (vI x7_), o8_, o9_] [vI 0, vI s0_] h := rn_b (b := b190_116) rfl
theorem e190_117 (E : EV) (d : Nat) (t : Nat) (x1_ : Int32) (x2_ : Int32) (x3_ : Int32) (x4_ : Int32) (x5_ : Int32) (x6_ : Int32) (x7_ : Int32) (o8_ : Option AV) (o9_ : Option AV) (s0_ : Int32) (s1_ : Int32) (h : AH) : rn E d 190 117 [some (vR (some t)), some (vI x1_), some (vI x2_), some (vI x3_), some (vI x4_), some (vI x5_), some (vI x6_), some (vI x7_), o8_, o9_] [vI s1_, vI s0_] h =
    hs (s0_ ||| s1_) fun x1 =>
    if x7_ = 0 then rn E d 190 131 [some (vR (some t)), some (vI x1_), some (vI x2_), some (vI x3_), some (vI x1), some (vI x5_), some (vI x6_), some (vI x7_), o8_, o9_] [vI x5_] h else
    rn E d 190 132 [some (vR (some t)), some (vI x1_), some (vI x2_), some (vI x3_), some (vI x1), some (vI x5_), some (vI x6_), some (vI x7_), o8_, o9_] [vI 1, vI x5_] h := rn_b (b := b190_117) rfl
theorem e190_131 (E : EV) (d : Nat) (t : Nat) (x1_ : Int32) (x2_ : Int32) (x3_ : Int32) (x4_ : Int32) (x5_ : Int32) (x6_ : Int32) (x7_ : Int32) (o8_ : Option AV) (o9_ : Option AV) (s0_ : Int32) (h : AH) : rn E d 190 131 [some (vR (some t)), some (vI x1_), some (vI x2_), some (vI x3_), some (vI x4_), some (vI x5_), some (vI x6_), some (vI x7_), o8_, o9_] [vI s0_] h =
    rn E d 190 132 [some (vR (some t)), some (vI x1_), some (vI x2_), some (vI x3_), some (vI x4_), some (vI x5_), some (vI x6_), some (vI x7_), o8_, o9_] [vI 0, vI s0_] h := rn_b (b := b190_131) rfl
theorem e190_132 (E : EV) (d : Nat) (t : Nat) (x1_ : Int32) (x2_ : Int32) (x3_ : Int32) (x4_ : Int32) (x5_ : Int32) (x6_ : Int32) (x7_ : Int32) (o8_ : Option AV) (o9_ : Option AV) (s0_ : Int32) (s1_ : Int32) (h : AH) : rn E d 190 132 [some (vR (some t)), some (vI x1_), some (vI x2_), some (vI x3_), some (vI x4_), some (vI x5_), some (vI x6_), some (vI x7_), o8_, o9_] [vI s1_, vI s0_] h =
    hs (s0_ + s1_) fun x1 =>
    gd (h.kd t == 23) (if x7_ = 0 then rn E d 190 150 [some (vR (some t)), some (vI x1_), some (vI x2_), some (vI x3_), some (vI x4_), some (vI x1), some (vI x6_), some (vI x7_), o8_, o9_] [vI x6_, vR (h.R t 184)] h else
    rn E d 190 151 [some (vR (some t)), some (vI x1_), some (vI x2_), some (vI x3_), some (vI x4_), some (vI x1), some (vI x6_), some (vI x7_), o8_, o9_] [vI 0, vI x6_, vR (h.R t 184)] h) := rn_b (b := b190_132) rfl
theorem e190_150 (E : EV) (d : Nat) (t : Nat) (x1_ : Int32) (x2_ : Int32) (x3_ : Int32) (x4_ : Int32) (x5_ : Int32) (x6_ : Int32) (x7_ : Int32) (o8_ : Option AV) (o9_ : Option AV) (s0_ : Option Nat) (s1_ : Int32) (h : AH) : rn E d 190 150 [some (vR (some t)), some (vI x1_), some (vI x2_), some (vI x3_), some (vI x4_), some (vI x5_), some (vI x6_), some (vI x7_), o8_, o9_] [vI s1_, vR s0_] h =
    rn E d 190 151 [some (vR (some t)), some (vI x1_), some (vI x2_), some (vI x3_), some (vI x4_), some (vI x5_), some (vI x6_), some (vI x7_), o8_, o9_] [vI (-1), vI s1_, vR s0_] h := rn_b (b := b190_150) rfl
theorem e190_151 (E : EV) (d : Nat) (t : Nat) (x1_ : Int32) (x2_ : Int32) (x3_ : Int32) (x4_ : Int32) (x5_ : Int32) (x6_ : Int32) (x7_ : Int32) (o8_ : Option AV) (o9_ : Option AV) (s0_ : Option Nat) (s1_ : Int32) (s2_ : Int32) (h : AH) : rn E d 190 151 [some (vR (some t)), some (vI x1_), some (vI x2_), some (vI x3_), some (vI x4_), some (vI x5_), some (vI x6_), some (vI x7_), o8_, o9_] [vI s2_, vI s1_, vR s0_] h =
    nn s0_ fun a1 =>
    gd (h.kd a1 == 101 && inb s1_ (h.ln a1) && decide (E.bs ≤ a1)) (hs (h.setI a1 s1_.toNatClampNeg s2_) fun h =>
    hs (x6_ + 1) fun x2 =>
    rn E d 190 75 [some (vR (some t)), some (vI x1_), some (vI x2_), some (vI x3_), some (vI x4_), some (vI x5_), some (vI x2), some (vI x7_), o8_, o9_] [] h) := rn_b (b := b190_151) rfl
theorem e190_158 (E : EV) (d : Nat) (t : Nat) (x1_ : Int32) (x2_ : Int32) (x3_ : Int32) (x4_ : Int32) (x5_ : Int32) (x6_ : Int32) (o7_ : Option AV) (o8_ : Option AV) (o9_ : Option AV) (h : AH) : rn E d 190 158 [some (vR (some t)), some (vI x1_), some (vI x2_), some (vI x3_), some (vI x4_), some (vI x5_), some (vI x6_), o7_, o8_, o9_] [] h =
    rn E d 190 164 [some (vR (some t)), some (vI x1_), some (vI x2_), some (vI x3_), some (vI x4_), some (vI x5_), some (vI 1), some (vI 1), o8_, o9_] [] h := rn_b (b := b190_158) rfl
theorem e190_164 (E : EV) (d : Nat) (t : Nat) (x1_ : Int32) (x2_ : Int32) (x3_ : Int32) (x4_ : Int32) (x5_ : Int32) (x6_ : Int32) (x7_ : Int32) (o8_ : Option AV) (o9_ : Option AV) (h : AH) : rn E d 190 164 [some (vR (some t)), some (vI x1_), some (vI x2_), some (vI x3_), some (vI x4_), some (vI x5_), some (vI x6_), some (vI x7_), o8_, o9_] [] h =
    if x6_ = 0 then rn E d 190 314 [some (vR (some t)), some (vI x1_), some (vI x2_), some (vI x3_), some (vI x4_), some (vI x5_), some (vI x6_), some (vI x7_), o8_, o9_] [] h else
    rn E d 190 175 [some (vR (some t)), some (vI x1_), some (vI x2_), some (vI x3_), some (vI x4_), some (vI x5_), some (vI x6_), some (vI x7_), some (vI 0), some (vI 0)] [] h := rn_b (b := b190_164) rfl
theorem e190_175 (E : EV) (d : Nat) (t : Nat) (x1_ : Int32) (x2_ : Int32) (x3_ : Int32) (x4_ : Int32) (x5_ : Int32) (x6_ : Int32) (x7_ : Int32) (x8_ : Int32) (x9_ : Int32) (h : AH) : rn E d 190 175 [some (vR (some t)), some (vI x1_), some (vI x2_), some (vI x3_), some (vI x4_), some (vI x5_), some (vI x6_), some (vI x7_), some (vI x8_), some (vI x9_)] [] h =
    gd (h.kd t == 23) (if (h.I t 185) ≤ x9_ then rn E d 190 259 [some (vR (some t)), some (vI x1_), some (vI x2_), some (vI x3_), some (vI x4_), some (vI x5_), some (vI x6_), some (vI x7_), some (vI x8_), some (vI x9_)] [] h else
    if ((x4_ >>> (x9_ &&& 31)) &&& 1) = 0 then
    rn E d 190 253 [some (vR (some t)), some (vI x1_), some (vI x2_), some (vI x3_), some (vI x4_), some (vI x5_), some (vI x6_), some (vI x7_), some (vI x8_), some (vI x9_)] [] h
    else rn E d 190 197 [some (vR (some t)), some (vI x1_), some (vI x2_), some (vI x3_), some (vI x4_), some (vI x5_), some (vI x6_), some (vI x7_), some (vI x8_), some (vI x9_)] [] h) := rn_b (b := b190_175) rfl
theorem e190_197 (E : EV) (d : Nat) (t : Nat) (x1_ : Int32) (x2_ : Int32) (x3_ : Int32) (x4_ : Int32) (x5_ : Int32) (x6_ : Int32) (x7_ : Int32) (x8_ : Int32) (x9_ : Int32) (h : AH) : rn E d 190 197 [some (vR (some t)), some (vI x1_), some (vI x2_), some (vI x3_), some (vI x4_), some (vI x5_), some (vI x6_), some (vI x7_), some (vI x8_), some (vI x9_)] [] h =
    gd ((h.kd t == 23) && decide (E.bs ≤ t) && true) (hs (h.setI t 161 x9_) fun h =>
    gd (h.kd t == 23) (nn (h.R t 182) fun a1 =>
    gd (h.kd a1 == 101 && inb x9_ (h.ln a1)) (gd ((h.kd t == 23) && decide (E.bs ≤ t) && true) (hs (h.setI t 164 (h.I a1 x9_.toNatClampNeg)) fun h =>
    gd ((h.kd t == 23) && decide (E.bs ≤ t) && true) (hs (h.setI t 163 (x5_ - 1)) fun h =>
    gd (h.kd t == 23) (cI (cal E d 216 [vR (some t), vI x2_, vI 3, vI 1] h) th fun v2 h =>
    if v2 = 0 then rn E d 190 235 [some (vR (some t)), some (vI x1_), some (vI x2_), some (vI x3_), some (vI x4_), some (vI x5_), some (vI x6_), some (vI x7_), some (vI x8_), some (vI x9_)] [] h else
    rn E d 190 253 [some (vR (some t)), some (vI x1_), some (vI x2_), some (vI x3_), some (vI x4_), some (vI x5_), some (vI x6_), some (vI x7_), some (vI x8_), some (vI x9_)] [] h)))))) := rn_b (b := b190_197) rfl
theorem e190_235 (E : EV) (d : Nat) (t : Nat) (x1_ : Int32) (x2_ : Int32) (x3_ : Int32) (x4_ : Int32) (x5_ : Int32) (x6_ : Int32) (x7_ : Int32) (x8_ : Int32) (x9_ : Int32) (h : AH) : rn E d 190 235 [some (vR (some t)), some (vI x1_), some (vI x2_), some (vI x3_), some (vI x4_), some (vI x5_), some (vI x6_), some (vI x7_), some (vI x8_), some (vI x9_)] [] h =
    hs (x8_ ||| (1 <<< (x9_ &&& 31))) fun x1 =>
    gd (h.kd t == 23) (nn (h.R t 184) fun a2 =>
    gd (h.kd a2 == 101 && inb x9_ (h.ln a2) && decide (E.bs ≤ a2)) (hs (h.setI a2 x9_.toNatClampNeg x7_) fun h =>
    rn E d 190 253 [some (vR (some t)), some (vI x1_), some (vI x2_), some (vI x3_), some (vI x4_), some (vI x5_), some (vI x6_), some (vI x7_), some (vI x1), some (vI x9_)] [] h)) := rn_b (b := b190_235) rfl
theorem e190_253 (E : EV) (d : Nat) (t : Nat) (x1_ : Int32) (x2_ : Int32) (x3_ : Int32) (x4_ : Int32) (x5_ : Int32) (x6_ : Int32) (x7_ : Int32) (x8_ : Int32) (x9_ : Int32) (h : AH) : rn E d 190 253 [some (vR (some t)), some (vI x1_), some (vI x2_), some (vI x3_), some (vI x4_), some (vI x5_), some (vI x6_), some (vI x7_), some (vI x8_), some (vI x9_)] [] h =
    hs (x9_ + 1) fun x1 =>
    rn E d 190 175 [some (vR (some t)), some (vI x1_), some (vI x2_), some (vI x3_), some (vI x4_), some (vI x5_), some (vI x6_), some (vI x7_), some (vI x8_), some (vI x1)] [] h := rn_b (b := b190_253) rfl
theorem e190_259 (E : EV) (d : Nat) (t : Nat) (x1_ : Int32) (x2_ : Int32) (x3_ : Int32) (x4_ : Int32) (x5_ : Int32) (x6_ : Int32) (x7_ : Int32) (x8_ : Int32) (x9_ : Int32) (h : AH) : rn E d 190 259 [some (vR (some t)), some (vI x1_), some (vI x2_), some (vI x3_), some (vI x4_), some (vI x5_), some (vI x6_), some (vI x7_), some (vI x8_), some (vI x9_)] [] h =
    rn E d 190 262 [some (vR (some t)), some (vI x1_), some (vI x2_), some (vI x3_), some (vI x4_), some (vI x5_), some (vI x6_), some (vI x7_), some (vI x8_), some (vI 0)] [] h := rn_b (b := b190_259) rfl
theorem e190_262 (E : EV) (d : Nat) (t : Nat) (x1_ : Int32) (x2_ : Int32) (x3_ : Int32) (x4_ : Int32) (x5_ : Int32) (x6_ : Int32) (x7_ : Int32) (x8_ : Int32) (x9_ : Int32) (h : AH) : rn E d 190 262 [some (vR (some t)), some (vI x1_), some (vI x2_), some (vI x3_), some (vI x4_), some (vI x5_), some (vI x6_), some (vI x7_), some (vI x8_), some (vI x9_)] [] h =
    gd (h.kd t == 23) (if (h.I t 185) ≤ x9_ then rn E d 190 289 [some (vR (some t)), some (vI x1_), some (vI x2_), some (vI x3_), some (vI x4_), some (vI x5_), some (vI x6_), some (vI x7_), some (vI x8_), some (vI x9_)] [] h else
    hs (x5_ - ((x8_ >>> (x9_ &&& 31)) &&& 1)) fun x1 =>
    hs (x9_ + 1) fun x2 =>
    rn E d 190 262 [some (vR (some t)), some (vI x1_), some (vI x2_), some (vI x3_), some (vI x4_), some (vI x1), some (vI x6_), some (vI x7_), some (vI x8_), some (vI x2)] [] h) := rn_b (b := b190_262) rfl
theorem e190_289 (E : EV) (d : Nat) (t : Nat) (x1_ : Int32) (x2_ : Int32) (x3_ : Int32) (x4_ : Int32) (x5_ : Int32) (x6_ : Int32) (x7_ : Int32) (x8_ : Int32) (x9_ : Int32) (h : AH) : rn E d 190 289 [some (vR (some t)), some (vI x1_), some (vI x2_), some (vI x3_), some (vI x4_), some (vI x5_), some (vI x6_), some (vI x7_), some (vI x8_), some (vI x9_)] [] h =
    hs (x4_ - x8_) fun x1 =>
    if x8_ = 0 then rn E d 190 305 [some (vR (some t)), some (vI x1_), some (vI x2_), some (vI x3_), some (vI x1), some (vI x5_), some (vI x6_), some (vI x7_), some (vI x8_), some (vI x9_)] [] h else
    rn E d 190 306 [some (vR (some t)), some (vI x1_), some (vI x2_), some (vI x3_), some (vI x1), some (vI x5_), some (vI x6_), some (vI x7_), some (vI x8_), some (vI x9_)] [vI 1] h := rn_b (b := b190_289) rfl
theorem e190_305 (E : EV) (d : Nat) (t : Nat) (x1_ : Int32) (x2_ : Int32) (x3_ : Int32) (x4_ : Int32) (x5_ : Int32) (x6_ : Int32) (x7_ : Int32) (x8_ : Int32) (x9_ : Int32) (h : AH) : rn E d 190 305 [some (vR (some t)), some (vI x1_), some (vI x2_), some (vI x3_), some (vI x4_), some (vI x5_), some (vI x6_), some (vI x7_), some (vI x8_), some (vI x9_)] [] h =
    rn E d 190 306 [some (vR (some t)), some (vI x1_), some (vI x2_), some (vI x3_), some (vI x4_), some (vI x5_), some (vI x6_), some (vI x7_), some (vI x8_), some (vI x9_)] [vI 0] h := rn_b (b := b190_305) rfl
theorem e190_306 (E : EV) (d : Nat) (t : Nat) (x1_ : Int32) (x2_ : Int32) (x3_ : Int32) (x4_ : Int32) (x5_ : Int32) (x6_ : Int32) (x7_ : Int32) (x8_ : Int32) (x9_ : Int32) (s0_ : Int32) (h : AH) : rn E d 190 306 [some (vR (some t)), some (vI x1_), some (vI x2_), some (vI x3_), some (vI x4_), some (vI x5_), some (vI x6_), some (vI x7_), some (vI x8_), some (vI x9_)] [vI s0_] h =
    hs (x7_ + 1) fun x1 =>
    rn E d 190 164 [some (vR (some t)), some (vI x1_), some (vI x2_), some (vI x3_), some (vI x4_), some (vI x5_), some (vI s0_), some (vI x1), some (vI x8_), some (vI x9_)] [] h := rn_b (b := b190_306) rfl
theorem e190_314 (E : EV) (d : Nat) (t : Nat) (x1_ : Int32) (x2_ : Int32) (x3_ : Int32) (x4_ : Int32) (x5_ : Int32) (x6_ : Int32) (x7_ : Int32) (o8_ : Option AV) (o9_ : Option AV) (h : AH) : rn E d 190 314 [some (vR (some t)), some (vI x1_), some (vI x2_), some (vI x3_), some (vI x4_), some (vI x5_), some (vI x6_), some (vI x7_), o8_, o9_] [] h =
    some (Sum.inl (some (vI x4_)), h) := rn_b (b := b190_314) rfl
/-! 191 FastPlaneModel.safe(III)I -/
theorem c191 (E : EV) (d : Nat) (t : Nat) (x1_ : Int32) (x2_ : Int32) (x3_ : Int32) (h : AH) : cal E (d + 1) 191 [vR (some t), vI x1_, vI x2_, vI x3_] h = rn E d 191 0 [some (vR (some t)), some (vI x1_), some (vI x2_), some (vI x3_)] [] h := cal_rn rfl rfl
theorem e191_0 (E : EV) (d : Nat) (t : Nat) (x1_ : Int32) (x2_ : Int32) (x3_ : Int32) (h : AH) : rn E d 191 0 [some (vR (some t)), some (vI x1_), some (vI x2_), some (vI x3_)] [] h =
    cI (cal E d 147 [vI x1_, vI x2_] h) th fun v1 h =>
    if v1 = 0 then rn E d 191 18 [some (vR (some t)), some (vI x1_), some (vI x2_), some (vI x3_)] [] h else
    cI (cal E d 144 [vI x3_, vI 0, vI 6] h) th fun v2 h =>
    if v2 = 0 then
    rn E d 191 18 [some (vR (some t)), some (vI x1_), some (vI x2_), some (vI x3_)] [] h
    else rn E d 191 20 [some (vR (some t)), some (vI x1_), some (vI x2_), some (vI x3_)] [] h := rn_b (b := b191_0) rfl
theorem e191_18 (E : EV) (d : Nat) (t : Nat) (x1_ : Int32) (x2_ : Int32) (x3_ : Int32) (h : AH) : rn E d 191 18 [some (vR (some t)), some (vI x1_), some (vI x2_), some (vI x3_)] [] h =
    some (Sum.inl (some (vI (-1))), h) := rn_b (b := b191_18) rfl
theorem e191_20 (E : EV) (d : Nat) (t : Nat) (x1_ : Int32) (x2_ : Int32) (x3_ : Int32) (h : AH) : rn E d 191 20 [some (vR (some t)), some (vI x1_), some (vI x2_), some (vI x3_)] [] h =
    gd (h.kd t == 23) (cV (cal E d 158 [vR (some t)] h) th fun h =>
    gd (h.kd t == 23) (gd (h.kd t == 23) (hs (h.R t 194) fun q2 =>
    cI (cal E d 201 [vI 0, vI (h.I t 197), vI x3_, vI x1_, vI x2_] h) th fun v1 h =>
    nn q2 fun a3 =>
    gd ((h.kd a3 == 102 || h.kd a3 == 103) && inb v1 (h.ln a3)) (if (h.I a3 v1.toNatClampNeg) = 0 then rn E d 191 47 [some (vR (some t)), some (vI x1_), some (vI x2_), some (vI x3_)] [] h else
    rn E d 191 48 [some (vR (some t)), some (vI x1_), some (vI x2_), some (vI x3_)] [vI 1] h)))) := rn_b (b := b191_20) rfl
theorem e191_47 (E : EV) (d : Nat) (t : Nat) (x1_ : Int32) (x2_ : Int32) (x3_ : Int32) (h : AH) : rn E d 191 47 [some (vR (some t)), some (vI x1_), some (vI x2_), some (vI x3_)] [] h =
    rn E d 191 48 [some (vR (some t)), some (vI x1_), some (vI x2_), some (vI x3_)] [vI 0] h := rn_b (b := b191_47) rfl
theorem e191_48 (E : EV) (d : Nat) (t : Nat) (x1_ : Int32) (x2_ : Int32) (x3_ : Int32) (s0_ : Int32) (h : AH) : rn E d 191 48 [some (vR (some t)), some (vI x1_), some (vI x2_), some (vI x3_)] [vI s0_] h =
    some (Sum.inl (some (vI s0_)), h) := rn_b (b := b191_48) rfl
/-! 192 FastPlaneModel.seekMend()V -/
theorem c192 (E : EV) (d : Nat) (t : Nat) (h : AH) : cal E (d + 1) 192 [vR (some t)] h = rn E d 192 0 [some (vR (some t)), none, none, none, none, none, none] [] h := cal_rn rfl rfl
theorem e192_0 (E : EV) (d : Nat) (t : Nat) (o1_ : Option AV) (o2_ : Option AV) (o3_ : Option AV) (o4_ : Option AV) (o5_ : Option AV) (o6_ : Option AV) (h : AH) : rn E d 192 0 [some (vR (some t)), o1_, o2_, o3_, o4_, o5_, o6_] [] h =
    gd ((h.kd t == 23) && decide (E.bs ≤ t) && true) (hs (h.setI t 137 (-1)) fun h =>
    gd ((h.kd t == 23) && decide (E.bs ≤ t) && true) (hs (h.setI t 138 (-1)) fun h =>
    gd (h.kd t == 23) (cI (cal E d 131 [vR (some t), vI (-1), vI 0] h) th fun v1 h =>
    gd ((h.kd t == 23) && decide (E.bs ≤ t) && true) (hs (h.setI t 139 v1) fun h =>
    rn E d 192 24 [some (vR (some t)), some (vI 0), some (vI 0), o3_, o4_, o5_, o6_] [] h)))) := rn_b (b := b192_0) rfl
theorem e192_24 (E : EV) (d : Nat) (t : Nat) (x1_ : Int32) (x2_ : Int32) (o3_ : Option AV) (o4_ : Option AV) (o5_ : Option AV) (o6_ : Option AV) (h : AH) : rn E d 192 24 [some (vR (some t)), some (vI x1_), some (vI x2_), o3_, o4_, o5_, o6_] [] h =
    gd (h.kd t == 23) (cI (cal E d 176 [vR (some t)] h) th fun v1 h =>
    if v1 ≤ x2_ then rn E d 192 144 [some (vR (some t)), some (vI x1_), some (vI x2_), o3_, o4_, o5_, o6_] [] h else
    gd (h.kd t == 23) (cI (cal E d 165 [vR (some t), vI x2_, vI 0] h) th fun v2 h =>
    rn E d 192 42 [some (vR (some t)), some (vI x1_), some (vI x2_), some (vI v2), some (vI 1), o5_, o6_] [] h)) := rn_b (b := b192_24) rfl
theorem e192_42 (E : EV) (d : Nat) (t : Nat) (x1_ : Int32) (x2_ : Int32) (x3_ : Int32) (x4_ : Int32) (o5_ : Option AV) (o6_ : Option AV) (h : AH) : rn E d 192 42 [some (vR (some t)), some (vI x1_), some (vI x2_), some (vI x3_), some (vI x4_), o5_, o6_] [] h =
    if 30000 < x4_ then rn E d 192 138 [some (vR (some t)), some (vI x1_), some (vI x2_), some (vI x3_), some (vI x4_), o5_, o6_] [] h else
    gd (h.kd t == 23) (cI (cal E d 131 [vR (some t), vI x2_, vI x4_] h) th fun v1 h =>
    if x3_ ≤ x4_ then rn E d 192 72 [some (vR (some t)), some (vI x1_), some (vI x2_), some (vI x3_), some (vI x4_), some (vI v1), o6_] [] h else
    rn E d 192 76 [some (vR (some t)), some (vI x1_), some (vI x2_), some (vI x3_), some (vI x4_), some (vI v1), o6_] [vI (x3_ - x4_)] h) := rn_b (b := b192_42) rfl
theorem e192_72 (E : EV) (d : Nat) (t : Nat) (x1_ : Int32) (x2_ : Int32) (x3_ : Int32) (x4_ : Int32) (x5_ : Int32) (o6_ : Option AV) (h : AH) : rn E d 192 72 [some (vR (some t)), some (vI x1_), some (vI x2_), some (vI x3_), some (vI x4_), some (vI x5_), o6_] [] h =
    rn E d 192 76 [some (vR (some t)), some (vI x1_), some (vI x2_), some (vI x3_), some (vI x4_), some (vI x5_), o6_] [vI (x4_ - x3_)] h := rn_b (b := b192_72) rfl
theorem e192_76 (E : EV) (d : Nat) (t : Nat) (x1_ : Int32) (x2_ : Int32) (x3_ : Int32) (x4_ : Int32) (x5_ : Int32) (o6_ : Option AV) (s0_ : Int32) (h : AH) : rn E d 192 76 [some (vR (some t)), some (vI x1_), some (vI x2_), some (vI x3_), some (vI x4_), some (vI x5_), o6_] [vI s0_] h =
    gd (h.kd t == 23) (if x5_ < (h.I t 139) then rn E d 192 132 [some (vR (some t)), some (vI x1_), some (vI x2_), some (vI x3_), some (vI x4_), some (vI x5_), some (vI s0_)] [] h else
    gd (h.kd t == 23) (if x5_ = (h.I t 139) then
    gd (h.kd t == 23) (if (h.I t 137) < 0 then rn E d 192 132 [some (vR (some t)), some (vI x1_), some (vI x2_), some (vI x3_), some (vI x4_), some (vI x5_), some (vI s0_)] [] h else
    if s0_ < x1_ then rn E d 192 112 [some (vR (some t)), some (vI x1_), some (vI x2_), some (vI x3_), some (vI x4_), some (vI x5_), some (vI s0_)] [] h else
    rn E d 192 132 [some (vR (some t)), some (vI x1_), some (vI x2_), some (vI x3_), some (vI x4_), some (vI x5_), some (vI s0_)] [] h)
    else rn E d 192 112 [some (vR (some t)), some (vI x1_), some (vI x2_), some (vI x3_), some (vI x4_), some (vI x5_), some (vI s0_)] [] h)) := rn_b (b := b192_76) rfl
theorem e192_112 (E : EV) (d : Nat) (t : Nat) (x1_ : Int32) (x2_ : Int32) (x3_ : Int32) (x4_ : Int32) (x5_ : Int32) (x6_ : Int32) (h : AH) : rn E d 192 112 [some (vR (some t)), some (vI x1_), some (vI x2_), some (vI x3_), some (vI x4_), some (vI x5_), some (vI x6_)] [] h =
    gd ((h.kd t == 23) && decide (E.bs ≤ t) && true) (hs (h.setI t 137 x2_) fun h =>
    gd ((h.kd t == 23) && decide (E.bs ≤ t) && true) (hs (h.setI t 138 x4_) fun h =>
    gd ((h.kd t == 23) && decide (E.bs ≤ t) && true) (hs (h.setI t 139 x5_) fun h =>
    rn E d 192 132 [some (vR (some t)), some (vI x6_), some (vI x2_), some (vI x3_), some (vI x4_), some (vI x5_), some (vI x6_)] [] h))) := rn_b (b := b192_112) rfl
theorem e192_132 (E : EV) (d : Nat) (t : Nat) (x1_ : Int32) (x2_ : Int32) (x3_ : Int32) (x4_ : Int32) (x5_ : Int32) (x6_ : Int32) (h : AH) : rn E d 192 132 [some (vR (some t)), some (vI x1_), some (vI x2_), some (vI x3_), some (vI x4_), some (vI x5_), some (vI x6_)] [] h =
    hs (x4_ + 1) fun x1 =>
    rn E d 192 42 [some (vR (some t)), some (vI x1_), some (vI x2_), some (vI x3_), some (vI x1), some (vI x5_), some (vI x6_)] [] h := rn_b (b := b192_132) rfl
theorem e192_138 (E : EV) (d : Nat) (t : Nat) (x1_ : Int32) (x2_ : Int32) (x3_ : Int32) (x4_ : Int32) (o5_ : Option AV) (o6_ : Option AV) (h : AH) : rn E d 192 138 [some (vR (some t)), some (vI x1_), some (vI x2_), some (vI x3_), some (vI x4_), o5_, o6_] [] h =
    hs (x2_ + 1) fun x1 =>
    rn E d 192 24 [some (vR (some t)), some (vI x1_), some (vI x1), some (vI x3_), some (vI x4_), o5_, o6_] [] h := rn_b (b := b192_138) rfl
theorem e192_144 (E : EV) (d : Nat) (t : Nat) (x1_ : Int32) (x2_ : Int32) (o3_ : Option AV) (o4_ : Option AV) (o5_ : Option AV) (o6_ : Option AV) (h : AH) : rn E d 192 144 [some (vR (some t)), some (vI x1_), some (vI x2_), o3_, o4_, o5_, o6_] [] h =
    some (Sum.inl none, h) := rn_b (b := b192_144) rfl
/-! 193 FastPlaneModel.seekShared(I)V -/
theorem c193 (E : EV) (d : Nat) (t : Nat) (x1_ : Int32) (h : AH) : cal E (d + 1) 193 [vR (some t), vI x1_] h = rn E d 193 0 [some (vR (some t)), some (vI x1_), none, none, none] [] h := cal_rn rfl rfl
theorem e193_0 (E : EV) (d : Nat) (t : Nat) (x1_ : Int32) (o2_ : Option AV) (o3_ : Option AV) (o4_ : Option AV) (h : AH) : rn E d 193 0 [some (vR (some t)), some (vI x1_), o2_, o3_, o4_] [] h =
    rn E d 193 4 [some (vR (some t)), some (vI x1_), some (vI 0), some (vI 0), o4_] [] h := rn_b (b := b193_0) rfl
theorem e193_4 (E : EV) (d : Nat) (t : Nat) (x1_ : Int32) (x2_ : Int32) (x3_ : Int32) (o4_ : Option AV) (h : AH) : rn E d 193 4 [some (vR (some t)), some (vI x1_), some (vI x2_), some (vI x3_), o4_] [] h =
    gd (h.kd t == 23) (cI (cal E d 176 [vR (some t)] h) th fun v1 h =>
    if v1 ≤ x3_ then rn E d 193 35 [some (vR (some t)), some (vI x1_), some (vI x2_), some (vI x3_), o4_] [] h else
    gd (h.kd t == 23) (gd (h.kd t == 23) (nn (h.R t 123) fun a2 =>
    gd (h.kd a2 == 101 && inb ((12 * (h.I t 135)) + x3_) (h.ln a2)) (hs (x2_ + (h.I a2 ((12 * (h.I t 135)) + x3_).toNatClampNeg)) fun x3 =>
    hs (x3_ + 1) fun x4 =>
    rn E d 193 4 [some (vR (some t)), some (vI x1_), some (vI x3), some (vI x4), o4_] [] h)))) := rn_b (b := b193_4) rfl
theorem e193_35 (E : EV) (d : Nat) (t : Nat) (x1_ : Int32) (x2_ : Int32) (x3_ : Int32) (o4_ : Option AV) (h : AH) : rn E d 193 35 [some (vR (some t)), some (vI x1_), some (vI x2_), some (vI x3_), o4_] [] h =
    gd (h.kd t == 23) (cI (cal E d 176 [vR (some t)] h) th fun v1 h =>
    if v1 = 0 then
    rn E d 193 48 [some (vR (some t)), some (vI x1_), some (vI x2_), some (vI x3_), o4_] [vI 0, vR (some t)] h
    else rn E d 193 47 [some (vR (some t)), some (vI x1_), some (vI x2_), some (vI x3_), o4_] [vR (some t)] h) := rn_b (b := b193_35) rfl
theorem e193_47 (E : EV) (d : Nat) (t : Nat) (x1_ : Int32) (x2_ : Int32) (x3_ : Int32) (o4_ : Option AV) (s0_ : Option Nat) (h : AH) : rn E d 193 47 [some (vR (some t)), some (vI x1_), some (vI x2_), some (vI x3_), o4_] [vR s0_] h =
    rn E d 193 48 [some (vR (some t)), some (vI x1_), some (vI x2_), some (vI x3_), o4_] [vI (-1), vR s0_] h := rn_b (b := b193_47) rfl
theorem e193_48 (E : EV) (d : Nat) (t : Nat) (x1_ : Int32) (x2_ : Int32) (x3_ : Int32) (o4_ : Option AV) (s0_ : Option Nat) (s1_ : Int32) (h : AH) : rn E d 193 48 [some (vR (some t)), some (vI x1_), some (vI x2_), some (vI x3_), o4_] [vI s1_, vR s0_] h =
    nn s0_ fun a1 =>
    gd ((h.kd a1 == 23) && decide (E.bs ≤ a1) && true) (hs (h.setI a1 188 s1_) fun h =>
    gd ((h.kd t == 23) && decide (E.bs ≤ t) && true) (hs (h.setI t 189 0) fun h =>
    gd ((h.kd t == 23) && decide (E.bs ≤ t) && true) (hs (h.setI t 190 0) fun h =>
    gd ((h.kd t == 23) && decide (E.bs ≤ t) && true) (hs (h.setI t 191 0) fun h =>
    gd (h.kd t == 23) (cI (cal E d 176 [vR (some t)] h) th fun v2 h =>
    if v2 = 0 then
    rn E d 193 78 [some (vR (some t)), some (vI x1_), some (vI x2_), some (vI x3_), o4_] [vI (-1)] h
    else rn E d 193 77 [some (vR (some t)), some (vI x1_), some (vI x2_), some (vI x3_), o4_] [] h))))) := rn_b (b := b193_48) rfl
theorem e193_77 (E : EV) (d : Nat) (t : Nat) (x1_ : Int32) (x2_ : Int32) (x3_ : Int32) (o4_ : Option AV) (h : AH) : rn E d 193 77 [some (vR (some t)), some (vI x1_), some (vI x2_), some (vI x3_), o4_] [] h =
    rn E d 193 78 [some (vR (some t)), some (vI x1_), some (vI x2_), some (vI x3_), o4_] [vI 0] h := rn_b (b := b193_77) rfl
theorem e193_78 (E : EV) (d : Nat) (t : Nat) (x1_ : Int32) (x2_ : Int32) (x3_ : Int32) (o4_ : Option AV) (s0_ : Int32) (h : AH) : rn E d 193 78 [some (vR (some t)), some (vI x1_), some (vI x2_), some (vI x3_), o4_] [vI s0_] h =
    gd (h.kd t == 23) (nn (h.R t 186) fun a1 =>
    gd (h.kd a1 == 101 && inb 0 (h.ln a1) && decide (E.bs ≤ a1)) (hs (h.setI a1 (0 : Int32).toNatClampNeg (-1)) fun h =>
    rn E d 193 86 [some (vR (some t)), some (vI x1_), some (vI x2_), some (vI s0_), o4_] [] h)) := rn_b (b := b193_78) rfl
theorem e193_86 (E : EV) (d : Nat) (t : Nat) (x1_ : Int32) (x2_ : Int32) (x3_ : Int32) (o4_ : Option AV) (h : AH) : rn E d 193 86 [some (vR (some t)), some (vI x1_), some (vI x2_), some (vI x3_), o4_] [] h =
    if x3_ < 0 then rn E d 193 253 [some (vR (some t)), some (vI x1_), some (vI x2_), some (vI x3_), o4_] [] h else
    gd (h.kd t == 23) (nn (h.R t 186) fun a1 =>
    gd (h.kd a1 == 101 && inb x3_ (h.ln a1)) (if (h.I a1 x3_.toNatClampNeg) < 0 then rn E d 193 105 [some (vR (some t)), some (vI x1_), some (vI x2_), some (vI x3_), o4_] [] h else
    gd (h.kd t == 23) (cV (cal E d 134 [vR (some t), vI x3_, vI (-1)] h) th fun h =>
    rn E d 193 105 [some (vR (some t)), some (vI x1_), some (vI x2_), some (vI x3_), o4_] [] h))) := rn_b (b := b193_86) rfl
theorem e193_105 (E : EV) (d : Nat) (t : Nat) (x1_ : Int32) (x2_ : Int32) (x3_ : Int32) (o4_ : Option AV) (h : AH) : rn E d 193 105 [some (vR (some t)), some (vI x1_), some (vI x2_), some (vI x3_), o4_] [] h =
    gd (h.kd t == 23) (nn (h.R t 186) fun a1 =>
    gd (h.kd a1 == 101 && inb x3_ (h.ln a1)) (nn (h.R t 186) fun a2 =>
    gd (h.kd a2 == 101 && inb x3_ (h.ln a2) && decide (E.bs ≤ a2)) (hs (h.setI a2 x3_.toNatClampNeg ((h.I a1 x3_.toNatClampNeg) + 1)) fun h =>
    gd (h.kd t == 23) (nn (h.R t 186) fun a3 =>
    gd (h.kd a3 == 101 && inb x3_ (h.ln a3)) (if (h.I a3 x3_.toNatClampNeg) = 3 then
    hs (x3_ + (-1)) fun x4 =>
    rn E d 193 86 [some (vR (some t)), some (vI x1_), some (vI x2_), some (vI x4), o4_] [] h
    else rn E d 193 131 [some (vR (some t)), some (vI x1_), some (vI x2_), some (vI x3_), o4_] [] h))))) := rn_b (b := b193_105) rfl
theorem e193_131 (E : EV) (d : Nat) (t : Nat) (x1_ : Int32) (x2_ : Int32) (x3_ : Int32) (o4_ : Option AV) (h : AH) : rn E d 193 131 [some (vR (some t)), some (vI x1_), some (vI x2_), some (vI x3_), o4_] [] h =
    gd (h.kd t == 23) (cV (cal E d 134 [vR (some t), vI x3_, vI 1] h) th fun h =>
    gd (h.kd t == 23) (if (h.I t 188) < 0 then rn E d 193 158 [some (vR (some t)), some (vI x1_), some (vI x2_), some (vI x3_), o4_] [] h else
    gd (h.kd t == 23) (gd (h.kd t == 23) (if (h.I t 191) < (h.I t 188) then rn E d 193 158 [some (vR (some t)), some (vI x1_), some (vI x2_), some (vI x3_), o4_] [] h else
    rn E d 193 86 [some (vR (some t)), some (vI x1_), some (vI x2_), some (vI x3_), o4_] [] h)))) := rn_b (b := b193_131) rfl
theorem e193_158 (E : EV) (d : Nat) (t : Nat) (x1_ : Int32) (x2_ : Int32) (x3_ : Int32) (o4_ : Option AV) (h : AH) : rn E d 193 158 [some (vR (some t)), some (vI x1_), some (vI x2_), some (vI x3_), o4_] [] h =
    gd (h.kd t == 23) (cI (cal E d 176 [vR (some t)] h) th fun v1 h =>
    if v1 ≤ (x3_ + 1) then rn E d 193 181 [some (vR (some t)), some (vI x1_), some (vI x2_), some (vI x3_), o4_] [] h else
    hs (x3_ + 1) fun x2 =>
    gd (h.kd t == 23) (nn (h.R t 186) fun a3 =>
    gd (h.kd a3 == 101 && inb x2 (h.ln a3) && decide (E.bs ≤ a3)) (hs (h.setI a3 x2.toNatClampNeg (-1)) fun h =>
    rn E d 193 86 [some (vR (some t)), some (vI x1_), some (vI x2_), some (vI x2), o4_] [] h))) := rn_b (b := b193_158) rfl
theorem e193_181 (E : EV) (d : Nat) (t : Nat) (x1_ : Int32) (x2_ : Int32) (x3_ : Int32) (o4_ : Option AV) (h : AH) : rn E d 193 181 [some (vR (some t)), some (vI x1_), some (vI x2_), some (vI x3_), o4_] [] h =
    gd (h.kd t == 23) (if ((h.I t 189) * 100) < (x1_ * x2_) then rn E d 193 86 [some (vR (some t)), some (vI x1_), some (vI x2_), some (vI x3_), o4_] [] h else
    gd (h.kd t == 23) (if (x1_ * x2_) ≤ ((h.I t 190) * 100) then rn E d 193 210 [some (vR (some t)), some (vI x1_), some (vI x2_), some (vI x3_), o4_] [] h else
    rn E d 193 86 [some (vR (some t)), some (vI x1_), some (vI x2_), some (vI x3_), o4_] [] h)) := rn_b (b := b193_181) rfl
theorem e193_210 (E : EV) (d : Nat) (t : Nat) (x1_ : Int32) (x2_ : Int32) (x3_ : Int32) (o4_ : Option AV) (h : AH) : rn E d 193 210 [some (vR (some t)), some (vI x1_), some (vI x2_), some (vI x3_), o4_] [] h =
    gd (h.kd t == 23) (gd ((h.kd t == 23) && decide (E.bs ≤ t) && true) (hs (h.setI t 188 (h.I t 191)) fun h =>
    rn E d 193 221 [some (vR (some t)), some (vI x1_), some (vI x2_), some (vI x3_), some (vI 0)] [] h)) := rn_b (b := b193_210) rfl
theorem e193_221 (E : EV) (d : Nat) (t : Nat) (x1_ : Int32) (x2_ : Int32) (x3_ : Int32) (x4_ : Int32) (h : AH) : rn E d 193 221 [some (vR (some t)), some (vI x1_), some (vI x2_), some (vI x3_), some (vI x4_)] [] h =
    gd (h.kd t == 23) (cI (cal E d 176 [vR (some t)] h) th fun v1 h =>
    if v1 ≤ x4_ then rn E d 193 250 [some (vR (some t)), some (vI x1_), some (vI x2_), some (vI x3_), some (vI x4_)] [] h else
    gd (h.kd t == 23) (gd (h.kd t == 23) (nn (h.R t 186) fun a2 =>
    gd (h.kd a2 == 101 && inb x4_ (h.ln a2)) (nn (h.R t 187) fun a3 =>
    gd (h.kd a3 == 101 && inb x4_ (h.ln a3) && decide (E.bs ≤ a3)) (hs (h.setI a3 x4_.toNatClampNeg (h.I a2 x4_.toNatClampNeg)) fun h =>
    hs (x4_ + 1) fun x4 =>
    rn E d 193 221 [some (vR (some t)), some (vI x1_), some (vI x2_), some (vI x3_), some (vI x4)] [] h))))) := rn_b (b := b193_221) rfl
theorem e193_250 (E : EV) (d : Nat) (t : Nat) (x1_ : Int32) (x2_ : Int32) (x3_ : Int32) (x4_ : Int32) (h : AH) : rn E d 193 250 [some (vR (some t)), some (vI x1_), some (vI x2_), some (vI x3_), some (vI x4_)] [] h =
    rn E d 193 86 [some (vR (some t)), some (vI x1_), some (vI x2_), some (vI x3_), some (vI x4_)] [] h := rn_b (b := b193_250) rfl
theorem e193_253 (E : EV) (d : Nat) (t : Nat) (x1_ : Int32) (x2_ : Int32) (x3_ : Int32) (o4_ : Option AV) (h : AH) : rn E d 193 253 [some (vR (some t)), some (vI x1_), some (vI x2_), some (vI x3_), o4_] [] h =
    some (Sum.inl none, h) := rn_b (b := b193_253) rfl
/-! 194 FastPlaneModel.shared(I)I -/
theorem c194 (E : EV) (d : Nat) (t : Nat) (x1_ : Int32) (h : AH) : cal E (d + 1) 194 [vR (some t), vI x1_] h = rn E d 194 0 [some (vR (some t)), some (vI x1_)] [] h := cal_rn rfl rfl
theorem e194_0 (E : EV) (d : Nat) (t : Nat) (x1_ : Int32) (h : AH) : rn E d 194 0 [some (vR (some t)), some (vI x1_)] [] h =
    cI (cal E d 144 [vI x1_, vI 0, vI 100] h) th fun v1 h =>
    if v1 = 0 then
    some (Sum.inl (some (vI (-1))), h)
    else rn E d 194 12 [some (vR (some t)), some (vI x1_)] [] h := rn_b (b := b194_0) rfl
theorem e194_12 (E : EV) (d : Nat) (t : Nat) (x1_ : Int32) (h : AH) : rn E d 194 12 [some (vR (some t)), some (vI x1_)] [] h =
    gd (h.kd t == 23) (cV (cal E d 193 [vR (some t), vI x1_] h) th fun h =>
    gd (h.kd t == 23) (some (Sum.inl (some (vI (h.I t 188))), h))) := rn_b (b := b194_12) rfl
/-! 195 FastPlaneModel.should(III)I -/
theorem c195 (E : EV) (d : Nat) (t : Nat) (x1_ : Int32) (x2_ : Int32) (x3_ : Int32) (h : AH) : cal E (d + 1) 195 [vR (some t), vI x1_, vI x2_, vI x3_] h = rn E d 195 0 [some (vR (some t)), some (vI x1_), some (vI x2_), some (vI x3_)] [] h := cal_rn rfl rfl
theorem e195_0 (E : EV) (d : Nat) (t : Nat) (x1_ : Int32) (x2_ : Int32) (x3_ : Int32) (h : AH) : rn E d 195 0 [some (vR (some t)), some (vI x1_), some (vI x2_), some (vI x3_)] [] h =
    gd (h.kd t == 23) (if (h.I t 195) = 0 then rn E d 195 18 [some (vR (some t)), some (vI x1_), some (vI x2_), some (vI x3_)] [] h else
    gd (h.kd t == 23) (cI (cal E d 191 [vR (some t), vI x1_, vI x2_, vI x3_] h) th fun v1 h =>
    if 1 ≤ v1 then rn E d 195 20 [some (vR (some t)), some (vI x1_), some (vI x2_), some (vI x3_)] [] h else
    rn E d 195 18 [some (vR (some t)), some (vI x1_), some (vI x2_), some (vI x3_)] [] h)) := rn_b (b := b195_0) rfl
theorem e195_18 (E : EV) (d : Nat) (t : Nat) (x1_ : Int32) (x2_ : Int32) (x3_ : Int32) (h : AH) : rn E d 195 18 [some (vR (some t)), some (vI x1_), some (vI x2_), some (vI x3_)] [] h =
    some (Sum.inl (some (vI (-1))), h) := rn_b (b := b195_18) rfl
theorem e195_20 (E : EV) (d : Nat) (t : Nat) (x1_ : Int32) (x2_ : Int32) (x3_ : Int32) (h : AH) : rn E d 195 20 [some (vR (some t)), some (vI x1_), some (vI x2_), some (vI x3_)] [] h =
    gd (h.kd t == 23) (gd (h.kd t == 23) (cI (cal E d 135 [vR (some t), vI 0, vI (h.I t 197), vI x3_, vI x1_, vI x2_] h) th fun v1 h =>
    if v1 = 0 then rn E d 195 39 [some (vR (some t)), some (vI x1_), some (vI x2_), some (vI x3_)] [] h else
    rn E d 195 40 [some (vR (some t)), some (vI x1_), some (vI x2_), some (vI x3_)] [vI 1] h)) := rn_b (b := b195_20) rfl
theorem e195_39 (E : EV) (d : Nat) (t : Nat) (x1_ : Int32) (x2_ : Int32) (x3_ : Int32) (h : AH) : rn E d 195 39 [some (vR (some t)), some (vI x1_), some (vI x2_), some (vI x3_)] [] h =
    rn E d 195 40 [some (vR (some t)), some (vI x1_), some (vI x2_), some (vI x3_)] [vI 0] h := rn_b (b := b195_39) rfl
theorem e195_40 (E : EV) (d : Nat) (t : Nat) (x1_ : Int32) (x2_ : Int32) (x3_ : Int32) (s0_ : Int32) (h : AH) : rn E d 195 40 [some (vR (some t)), some (vI x1_), some (vI x2_), some (vI x3_)] [vI s0_] h =
    some (Sum.inl (some (vI s0_)), h) := rn_b (b := b195_40) rfl
/-! 196 FastPlaneModel.show(II)I -/
theorem c196 (E : EV) (d : Nat) (t : Nat) (x1_ : Int32) (x2_ : Int32) (h : AH) : cal E (d + 1) 196 [vR (some t), vI x1_, vI x2_] h = rn E d 196 0 [some (vR (some t)), some (vI x1_), some (vI x2_)] [] h := cal_rn rfl rfl
theorem e196_0 (E : EV) (d : Nat) (t : Nat) (x1_ : Int32) (x2_ : Int32) (h : AH) : rn E d 196 0 [some (vR (some t)), some (vI x1_), some (vI x2_)] [] h =
    cI (cal E d 148 [vI x1_] h) th fun v1 h =>
    if v1 = 0 then rn E d 196 28 [some (vR (some t)), some (vI x1_), some (vI x2_)] [] h else
    cI (cal E d 144 [vI x2_, vI 1, vI 255] h) th fun v2 h =>
    if v2 = 0 then rn E d 196 28 [some (vR (some t)), some (vI x1_), some (vI x2_)] [] h else
    gd (h.kd t == 23) (cI (cal E d 205 [vR (some t), vI 2, vI x1_, vI x2_] h) th fun v3 h =>
    rn E d 196 29 [some (vR (some t)), some (vI x1_), some (vI x2_)] [vI v3] h) := rn_b (b := b196_0) rfl
theorem e196_28 (E : EV) (d : Nat) (t : Nat) (x1_ : Int32) (x2_ : Int32) (h : AH) : rn E d 196 28 [some (vR (some t)), some (vI x1_), some (vI x2_)] [] h =
    rn E d 196 29 [some (vR (some t)), some (vI x1_), some (vI x2_)] [vI (-1)] h := rn_b (b := b196_28) rfl
theorem e196_29 (E : EV) (d : Nat) (t : Nat) (x1_ : Int32) (x2_ : Int32) (s0_ : Int32) (h : AH) : rn E d 196 29 [some (vR (some t)), some (vI x1_), some (vI x2_)] [vI s0_] h =
    some (Sum.inl (some (vI s0_)), h) := rn_b (b := b196_29) rfl
/-! 197 FastPlaneModel.sign(I)I -/
theorem c197 (E : EV) (d : Nat) (t : Nat) (x1_ : Int32) (h : AH) : cal E (d + 1) 197 [vR (some t), vI x1_] h = rn E d 197 0 [some (vR (some t)), some (vI x1_)] [] h := cal_rn rfl rfl
theorem e197_0 (E : EV) (d : Nat) (t : Nat) (x1_ : Int32) (h : AH) : rn E d 197 0 [some (vR (some t)), some (vI x1_)] [] h =
    gd (h.kd t == 23) (if (h.I t 107) ≤ x1_ then rn E d 197 21 [some (vR (some t)), some (vI x1_)] [] h else
    gd (h.kd t == 23) (nn (h.R t 105) fun a1 =>
    gd ((h.kd a1 == 102 || h.kd a1 == 103) && inb x1_ (h.ln a1)) (rn E d 197 22 [some (vR (some t)), some (vI x1_)] [vI ((h.I a1 x1_.toNatClampNeg) &&& 255)] h))) := rn_b (b := b197_0) rfl
theorem e197_21 (E : EV) (d : Nat) (t : Nat) (x1_ : Int32) (h : AH) : rn E d 197 21 [some (vR (some t)), some (vI x1_)] [] h =
    rn E d 197 22 [some (vR (some t)), some (vI x1_)] [vI 0] h := rn_b (b := b197_21) rfl
theorem e197_22 (E : EV) (d : Nat) (t : Nat) (x1_ : Int32) (s0_ : Int32) (h : AH) : rn E d 197 22 [some (vR (some t)), some (vI x1_)] [vI s0_] h =
    some (Sum.inl (some (vI s0_)), h) := rn_b (b := b197_22) rfl
/-! 198 FastPlaneModel.soonest(IIIIII)I -/
theorem c198 (E : EV) (d : Nat) (t : Nat) (x1_ : Int32) (x2_ : Int32) (x3_ : Int32) (x4_ : Int32) (x5_ : Int32) (x6_ : Int32) (h : AH) : cal E (d + 1) 198 [vR (some t), vI x1_, vI x2_, vI x3_, vI x4_, vI x5_, vI x6_] h = rn E d 198 0 [some (vR (some t)), some (vI x1_), some (vI x2_), some (vI x3_), some (vI x4_), some (vI x5_), some (vI x6_), none, none, none] [] h := cal_rn rfl rfl
theorem e198_0 (E : EV) (d : Nat) (t : Nat) (x1_ : Int32) (x2_ : Int32) (x3_ : Int32) (x4_ : Int32) (x5_ : Int32) (x6_ : Int32) (o7_ : Option AV) (o8_ : Option AV) (o9_ : Option AV) (h : AH) : rn E d 198 0 [some (vR (some t)), some (vI x1_), some (vI x2_), some (vI x3_), some (vI x4_), some (vI x5_), some (vI x6_), o7_, o8_, o9_] [] h =
    cI (cal E d 144 [vI x1_, vI 0, vI 63] h) th fun v1 h =>
    if v1 = 0 then rn E d 198 61 [some (vR (some t)), some (vI x1_), some (vI x2_), some (vI x3_), some (vI x4_), some (vI x5_), some (vI x6_), o7_, o8_, o9_] [] h else
    cI (cal E d 144 [vI x2_, vI 0, vI 63] h) th fun v2 h =>
    if v2 = 0 then rn E d 198 61 [some (vR (some t)), some (vI x1_), some (vI x2_), some (vI x3_), some (vI x4_), some (vI x5_), some (vI x6_), o7_, o8_, o9_] [] h else
    cI (cal E d 151 [vI x3_] h) th fun v3 h =>
    if v3 = 0 then rn E d 198 61 [some (vR (some t)), some (vI x1_), some (vI x2_), some (vI x3_), some (vI x4_), some (vI x5_), some (vI x6_), o7_, o8_, o9_] [] h else
    cI (cal E d 144 [vI x4_, vI 0, vI 23] h) th fun v4 h =>
    if v4 = 0 then rn E d 198 61 [some (vR (some t)), some (vI x1_), some (vI x2_), some (vI x3_), some (vI x4_), some (vI x5_), some (vI x6_), o7_, o8_, o9_] [] h else
    cI (cal E d 144 [vI x5_, vI 0, vI 255] h) th fun v5 h =>
    if v5 = 0 then rn E d 198 61 [some (vR (some t)), some (vI x1_), some (vI x2_), some (vI x3_), some (vI x4_), some (vI x5_), some (vI x6_), o7_, o8_, o9_] [] h else
    cI (cal E d 144 [vI x6_, vI 0, vI 99] h) th fun v6 h =>
    if v6 = 0 then
    rn E d 198 61 [some (vR (some t)), some (vI x1_), some (vI x2_), some (vI x3_), some (vI x4_), some (vI x5_), some (vI x6_), o7_, o8_, o9_] [] h
    else rn E d 198 63 [some (vR (some t)), some (vI x1_), some (vI x2_), some (vI x3_), some (vI x4_), some (vI x5_), some (vI x6_), o7_, o8_, o9_] [] h := rn_b (b := b198_0) rfl
theorem e198_61 (E : EV) (d : Nat) (t : Nat) (x1_ : Int32) (x2_ : Int32) (x3_ : Int32) (x4_ : Int32) (x5_ : Int32) (x6_ : Int32) (o7_ : Option AV) (o8_ : Option AV) (o9_ : Option AV) (h : AH) : rn E d 198 61 [some (vR (some t)), some (vI x1_), some (vI x2_), some (vI x3_), some (vI x4_), some (vI x5_), some (vI x6_), o7_, o8_, o9_] [] h =
    some (Sum.inl (some (vI (-1))), h) := rn_b (b := b198_61) rfl
theorem e198_63 (E : EV) (d : Nat) (t : Nat) (x1_ : Int32) (x2_ : Int32) (x3_ : Int32) (x4_ : Int32) (x5_ : Int32) (x6_ : Int32) (o7_ : Option AV) (o8_ : Option AV) (o9_ : Option AV) (h : AH) : rn E d 198 63 [some (vR (some t)), some (vI x1_), some (vI x2_), some (vI x3_), some (vI x4_), some (vI x5_), some (vI x6_), o7_, o8_, o9_] [] h =
    rn E d 198 66 [some (vR (some t)), some (vI x1_), some (vI x2_), some (vI x3_), some (vI x4_), some (vI x5_), some (vI x6_), some (vI 0), o8_, o9_] [] h := rn_b (b := b198_63) rfl
theorem e198_66 (E : EV) (d : Nat) (t : Nat) (x1_ : Int32) (x2_ : Int32) (x3_ : Int32) (x4_ : Int32) (x5_ : Int32) (x6_ : Int32) (x7_ : Int32) (o8_ : Option AV) (o9_ : Option AV) (h : AH) : rn E d 198 66 [some (vR (some t)), some (vI x1_), some (vI x2_), some (vI x3_), some (vI x4_), some (vI x5_), some (vI x6_), some (vI x7_), o8_, o9_] [] h =
    if 6400 ≤ x7_ then rn E d 198 90 [some (vR (some t)), some (vI x1_), some (vI x2_), some (vI x3_), some (vI x4_), some (vI x5_), some (vI x6_), some (vI x7_), o8_, o9_] [] h else
    gd (h.kd t == 23) (nn (h.R t 181) fun a1 =>
    gd (h.kd a1 == 101 && inb x7_ (h.ln a1) && decide (E.bs ≤ a1)) (hs (h.setI a1 x7_.toNatClampNeg 1000000) fun h =>
    hs (x7_ + 1) fun x2 =>
    rn E d 198 66 [some (vR (some t)), some (vI x1_), some (vI x2_), some (vI x3_), some (vI x4_), some (vI x5_), some (vI x6_), some (vI x2), o8_, o9_] [] h)) := rn_b (b := b198_66) rfl
theorem e198_90 (E : EV) (d : Nat) (t : Nat) (x1_ : Int32) (x2_ : Int32) (x3_ : Int32) (x4_ : Int32) (x5_ : Int32) (x6_ : Int32) (x7_ : Int32) (o8_ : Option AV) (o9_ : Option AV) (h : AH) : rn E d 198 90 [some (vR (some t)), some (vI x1_), some (vI x2_), some (vI x3_), some (vI x4_), some (vI x5_), some (vI x6_), some (vI x7_), o8_, o9_] [] h =
    gd (h.kd t == 23) (nn (h.R t 181) fun a1 =>
    gd (h.kd a1 == 101 && inb (100 * x1_) (h.ln a1) && decide (E.bs ≤ a1)) (hs (h.setI a1 (100 * x1_).toNatClampNeg 0) fun h =>
    rn E d 198 103 [some (vR (some t)), some (vI x1_), some (vI x2_), some (vI x3_), some (vI x4_), some (vI x5_), some (vI x6_), some (vI 0), o8_, o9_] [] h)) := rn_b (b := b198_90) rfl
theorem e198_103 (E : EV) (d : Nat) (t : Nat) (x1_ : Int32) (x2_ : Int32) (x3_ : Int32) (x4_ : Int32) (x5_ : Int32) (x6_ : Int32) (x7_ : Int32) (o8_ : Option AV) (o9_ : Option AV) (h : AH) : rn E d 198 103 [some (vR (some t)), some (vI x1_), some (vI x2_), some (vI x3_), some (vI x4_), some (vI x5_), some (vI x6_), some (vI x7_), o8_, o9_] [] h =
    if x6_ < x7_ then rn E d 198 268 [some (vR (some t)), some (vI x1_), some (vI x2_), some (vI x3_), some (vI x4_), some (vI x5_), some (vI x6_), some (vI x7_), o8_, o9_] [] h else
    rn E d 198 113 [some (vR (some t)), some (vI x1_), some (vI x2_), some (vI x3_), some (vI x4_), some (vI x5_), some (vI x6_), some (vI x7_), some (vI 0), o9_] [] h := rn_b (b := b198_103) rfl
theorem e198_113 (E : EV) (d : Nat) (t : Nat) (x1_ : Int32) (x2_ : Int32) (x3_ : Int32) (x4_ : Int32) (x5_ : Int32) (x6_ : Int32) (x7_ : Int32) (x8_ : Int32) (o9_ : Option AV) (h : AH) : rn E d 198 113 [some (vR (some t)), some (vI x1_), some (vI x2_), some (vI x3_), some (vI x4_), some (vI x5_), some (vI x6_), some (vI x7_), some (vI x8_), o9_] [] h =
    if 64 ≤ x8_ then rn E d 198 262 [some (vR (some t)), some (vI x1_), some (vI x2_), some (vI x3_), some (vI x4_), some (vI x5_), some (vI x6_), some (vI x7_), some (vI x8_), o9_] [] h else
    gd (h.kd t == 23) (nn (h.R t 181) fun a1 =>
    gd (h.kd a1 == 101 && inb ((100 * x8_) + x7_) (h.ln a1)) (hs (h.I a1 ((100 * x8_) + x7_).toNatClampNeg) fun x2 =>
    if x2 < 1000000 then rn E d 198 146 [some (vR (some t)), some (vI x1_), some (vI x2_), some (vI x3_), some (vI x4_), some (vI x5_), some (vI x6_), some (vI x7_), some (vI x8_), some (vI x2)] [] h else
    rn E d 198 256 [some (vR (some t)), some (vI x1_), some (vI x2_), some (vI x3_), some (vI x4_), some (vI x5_), some (vI x6_), some (vI x7_), some (vI x8_), some (vI x2)] [] h)) := rn_b (b := b198_113) rfl
theorem e198_146 (E : EV) (d : Nat) (t : Nat) (x1_ : Int32) (x2_ : Int32) (x3_ : Int32) (x4_ : Int32) (x5_ : Int32) (x6_ : Int32) (x7_ : Int32) (x8_ : Int32) (x9_ : Int32) (h : AH) : rn E d 198 146 [some (vR (some t)), some (vI x1_), some (vI x2_), some (vI x3_), some (vI x4_), some (vI x5_), some (vI x6_), some (vI x7_), some (vI x8_), some (vI x9_)] [] h =
    gd (!decide ((8 : Int32) = 0)) (if (x8_ - x8_ / 8 * 8) ≤ 0 then rn E d 198 173 [some (vR (some t)), some (vI x1_), some (vI x2_), some (vI x3_), some (vI x4_), some (vI x5_), some (vI x6_), some (vI x7_), some (vI x8_), some (vI x9_)] [] h else
    gd (h.kd t == 23) (cV (cal E d 122 [vR (some t), vI (x8_ - 1), vI x7_, vI x9_, vI x3_, vI x4_, vI x5_, vI x6_] h) th fun h =>
    rn E d 198 173 [some (vR (some t)), some (vI x1_), some (vI x2_), some (vI x3_), some (vI x4_), some (vI x5_), some (vI x6_), some (vI x7_), some (vI x8_), some (vI x9_)] [] h)) := rn_b (b := b198_146) rfl
theorem e198_173 (E : EV) (d : Nat) (t : Nat) (x1_ : Int32) (x2_ : Int32) (x3_ : Int32) (x4_ : Int32) (x5_ : Int32) (x6_ : Int32) (x7_ : Int32) (x8_ : Int32) (x9_ : Int32) (h : AH) : rn E d 198 173 [some (vR (some t)), some (vI x1_), some (vI x2_), some (vI x3_), some (vI x4_), some (vI x5_), some (vI x6_), some (vI x7_), some (vI x8_), some (vI x9_)] [] h =
    gd (!decide ((8 : Int32) = 0)) (if 7 ≤ (x8_ - x8_ / 8 * 8) then rn E d 198 202 [some (vR (some t)), some (vI x1_), some (vI x2_), some (vI x3_), some (vI x4_), some (vI x5_), some (vI x6_), some (vI x7_), some (vI x8_), some (vI x9_)] [] h else
    gd (h.kd t == 23) (cV (cal E d 122 [vR (some t), vI (x8_ + 1), vI x7_, vI x9_, vI x3_, vI x4_, vI x5_, vI x6_] h) th fun h =>
    rn E d 198 202 [some (vR (some t)), some (vI x1_), some (vI x2_), some (vI x3_), some (vI x4_), some (vI x5_), some (vI x6_), some (vI x7_), some (vI x8_), some (vI x9_)] [] h)) := rn_b (b := b198_173) rfl
theorem e198_202 (E : EV) (d : Nat) (t : Nat) (x1_ : Int32) (x2_ : Int32) (x3_ : Int32) (x4_ : Int32) (x5_ : Int32) (x6_ : Int32) (x7_ : Int32) (x8_ : Int32) (x9_ : Int32) (h : AH) : rn E d 198 202 [some (vR (some t)), some (vI x1_), some (vI x2_), some (vI x3_), some (vI x4_), some (vI x5_), some (vI x6_), some (vI x7_), some (vI x8_), some (vI x9_)] [] h =
    if x8_ ≤ 7 then rn E d 198 229 [some (vR (some t)), some (vI x1_), some (vI x2_), some (vI x3_), some (vI x4_), some (vI x5_), some (vI x6_), some (vI x7_), some (vI x8_), some (vI x9_)] [] h else
    gd (h.kd t == 23) (cV (cal E d 122 [vR (some t), vI (x8_ - 8), vI x7_, vI x9_, vI x3_, vI x4_, vI x5_, vI x6_] h) th fun h =>
    rn E d 198 229 [some (vR (some t)), some (vI x1_), some (vI x2_), some (vI x3_), some (vI x4_), some (vI x5_), some (vI x6_), some (vI x7_), some (vI x8_), some (vI x9_)] [] h) := rn_b (b := b198_202) rfl
theorem e198_229 (E : EV) (d : Nat) (t : Nat) (x1_ : Int32) (x2_ : Int32) (x3_ : Int32) (x4_ : Int32) (x5_ : Int32) (x6_ : Int32) (x7_ : Int32) (x8_ : Int32) (x9_ : Int32) (h : AH) : rn E d 198 229 [some (vR (some t)), some (vI x1_), some (vI x2_), some (vI x3_), some (vI x4_), some (vI x5_), some (vI x6_), some (vI x7_), some (vI x8_), some (vI x9_)] [] h =
    if 56 ≤ x8_ then rn E d 198 256 [some (vR (some t)), some (vI x1_), some (vI x2_), some (vI x3_), some (vI x4_), some (vI x5_), some (vI x6_), some (vI x7_), some (vI x8_), some (vI x9_)] [] h else
    gd (h.kd t == 23) (cV (cal E d 122 [vR (some t), vI (x8_ + 8), vI x7_, vI x9_, vI x3_, vI x4_, vI x5_, vI x6_] h) th fun h =>
    rn E d 198 256 [some (vR (some t)), some (vI x1_), some (vI x2_), some (vI x3_), some (vI x4_), some (vI x5_), some (vI x6_), some (vI x7_), some (vI x8_), some (vI x9_)] [] h) := rn_b (b := b198_229) rfl
theorem e198_256 (E : EV) (d : Nat) (t : Nat) (x1_ : Int32) (x2_ : Int32) (x3_ : Int32) (x4_ : Int32) (x5_ : Int32) (x6_ : Int32) (x7_ : Int32) (x8_ : Int32) (x9_ : Int32) (h : AH) : rn E d 198 256 [some (vR (some t)), some (vI x1_), some (vI x2_), some (vI x3_), some (vI x4_), some (vI x5_), some (vI x6_), some (vI x7_), some (vI x8_), some (vI x9_)] [] h =
    hs (x8_ + 1) fun x1 =>
    rn E d 198 113 [some (vR (some t)), some (vI x1_), some (vI x2_), some (vI x3_), some (vI x4_), some (vI x5_), some (vI x6_), some (vI x7_), some (vI x1), some (vI x9_)] [] h := rn_b (b := b198_256) rfl
theorem e198_262 (E : EV) (d : Nat) (t : Nat) (x1_ : Int32) (x2_ : Int32) (x3_ : Int32) (x4_ : Int32) (x5_ : Int32) (x6_ : Int32) (x7_ : Int32) (x8_ : Int32) (o9_ : Option AV) (h : AH) : rn E d 198 262 [some (vR (some t)), some (vI x1_), some (vI x2_), some (vI x3_), some (vI x4_), some (vI x5_), some (vI x6_), some (vI x7_), some (vI x8_), o9_] [] h =
    hs (x7_ + 1) fun x1 =>
    rn E d 198 103 [some (vR (some t)), some (vI x1_), some (vI x2_), some (vI x3_), some (vI x4_), some (vI x5_), some (vI x6_), some (vI x1), some (vI x8_), o9_] [] h := rn_b (b := b198_262) rfl
theorem e198_268 (E : EV) (d : Nat) (t : Nat) (x1_ : Int32) (x2_ : Int32) (x3_ : Int32) (x4_ : Int32) (x5_ : Int32) (x6_ : Int32) (x7_ : Int32) (o8_ : Option AV) (o9_ : Option AV) (h : AH) : rn E d 198 268 [some (vR (some t)), some (vI x1_), some (vI x2_), some (vI x3_), some (vI x4_), some (vI x5_), some (vI x6_), some (vI x7_), o8_, o9_] [] h =
    rn E d 198 274 [some (vR (some t)), some (vI x1_), some (vI x2_), some (vI x3_), some (vI x4_), some (vI x5_), some (vI x6_), some (vI (-1)), some (vI 0), o9_] [] h := rn_b (b := b198_268) rfl
theorem e198_274 (E : EV) (d : Nat) (t : Nat) (x1_ : Int32) (x2_ : Int32) (x3_ : Int32) (x4_ : Int32) (x5_ : Int32) (x6_ : Int32) (x7_ : Int32) (x8_ : Int32) (o9_ : Option AV) (h : AH) : rn E d 198 274 [some (vR (some t)), some (vI x1_), some (vI x2_), some (vI x3_), some (vI x4_), some (vI x5_), some (vI x6_), some (vI x7_), some (vI x8_), o9_] [] h =
    if x6_ < x8_ then rn E d 198 341 [some (vR (some t)), some (vI x1_), some (vI x2_), some (vI x3_), some (vI x4_), some (vI x5_), some (vI x6_), some (vI x7_), some (vI x8_), o9_] [] h else
    gd (h.kd t == 23) (nn (h.R t 181) fun a1 =>
    gd (h.kd a1 == 101 && inb ((100 * x2_) + x8_) (h.ln a1)) (if 1000000 ≤ (h.I a1 ((100 * x2_) + x8_).toNatClampNeg) then rn E d 198 335 [some (vR (some t)), some (vI x1_), some (vI x2_), some (vI x3_), some (vI x4_), some (vI x5_), some (vI x6_), some (vI x7_), some (vI x8_), o9_] [] h else
    if x7_ < 0 then rn E d 198 331 [some (vR (some t)), some (vI x1_), some (vI x2_), some (vI x3_), some (vI x4_), some (vI x5_), some (vI x6_), some (vI x7_), some (vI x8_), o9_] [] h else
    gd (h.kd t == 23) (nn (h.R t 181) fun a2 =>
    gd (h.kd a2 == 101 && inb ((100 * x2_) + x8_) (h.ln a2)) (gd (h.kd t == 23) (nn (h.R t 181) fun a3 =>
    gd (h.kd a3 == 101 && inb ((100 * x2_) + x7_) (h.ln a3)) (if (h.I a3 ((100 * x2_) + x7_).toNatClampNeg) ≤ (h.I a2 ((100 * x2_) + x8_).toNatClampNeg) then rn E d 198 335 [some (vR (some t)), some (vI x1_), some (vI x2_), some (vI x3_), some (vI x4_), some (vI x5_), some (vI x6_), some (vI x7_), some (vI x8_), o9_] [] h else
    rn E d 198 331 [some (vR (some t)), some (vI x1_), some (vI x2_), some (vI x3_), some (vI x4_), some (vI x5_), some (vI x6_), some (vI x7_), some (vI x8_), o9_] [] h)))))) := rn_b (b := b198_274) rfl
theorem e198_331 (E : EV) (d : Nat) (t : Nat) (x1_ : Int32) (x2_ : Int32) (x3_ : Int32) (x4_ : Int32) (x5_ : Int32) (x6_ : Int32) (x7_ : Int32) (x8_ : Int32) (o9_ : Option AV) (h : AH) : rn E d 198 331 [some (vR (some t)), some (vI x1_), some (vI x2_), some (vI x3_), some (vI x4_), some (vI x5_), some (vI x6_), some (vI x7_), some (vI x8_), o9_] [] h =
    rn E d 198 335 [some (vR (some t)), some (vI x1_), some (vI x2_), some (vI x3_), some (vI x4_), some (vI x5_), some (vI x6_), some (vI x8_), some (vI x8_), o9_] [] h := rn_b (b := b198_331) rfl
theorem e198_335 (E : EV) (d : Nat) (t : Nat) (x1_ : Int32) (x2_ : Int32) (x3_ : Int32) (x4_ : Int32) (x5_ : Int32) (x6_ : Int32) (x7_ : Int32) (x8_ : Int32) (o9_ : Option AV) (h : AH) : rn E d 198 335 [some (vR (some t)), some (vI x1_), some (vI x2_), some (vI x3_), some (vI x4_), some (vI x5_), some (vI x6_), some (vI x7_), some (vI x8_), o9_] [] h =
    hs (x8_ + 1) fun x1 =>
    rn E d 198 274 [some (vR (some t)), some (vI x1_), some (vI x2_), some (vI x3_), some (vI x4_), some (vI x5_), some (vI x6_), some (vI x7_), some (vI x1), o9_] [] h := rn_b (b := b198_335) rfl
theorem e198_341 (E : EV) (d : Nat) (t : Nat) (x1_ : Int32) (x2_ : Int32) (x3_ : Int32) (x4_ : Int32) (x5_ : Int32) (x6_ : Int32) (x7_ : Int32) (x8_ : Int32) (o9_ : Option AV) (h : AH) : rn E d 198 341 [some (vR (some t)), some (vI x1_), some (vI x2_), some (vI x3_), some (vI x4_), some (vI x5_), some (vI x6_), some (vI x7_), some (vI x8_), o9_] [] h =
    if 0 ≤ x7_ then rn E d 198 350 [some (vR (some t)), some (vI x1_), some (vI x2_), some (vI x3_), some (vI x4_), some (vI x5_), some (vI x6_), some (vI x7_), some (vI x8_), o9_] [] h else
    rn E d 198 368 [some (vR (some t)), some (vI x1_), some (vI x2_), some (vI x3_), some (vI x4_), some (vI x5_), some (vI x6_), some (vI x7_), some (vI x8_), o9_] [vI (-1)] h := rn_b (b := b198_341) rfl
theorem e198_350 (E : EV) (d : Nat) (t : Nat) (x1_ : Int32) (x2_ : Int32) (x3_ : Int32) (x4_ : Int32) (x5_ : Int32) (x6_ : Int32) (x7_ : Int32) (x8_ : Int32) (o9_ : Option AV) (h : AH) : rn E d 198 350 [some (vR (some t)), some (vI x1_), some (vI x2_), some (vI x3_), some (vI x4_), some (vI x5_), some (vI x6_), some (vI x7_), some (vI x8_), o9_] [] h =
    gd (h.kd t == 23) (nn (h.R t 181) fun a1 =>
    gd (h.kd a1 == 101 && inb ((100 * x2_) + x7_) (h.ln a1)) (rn E d 198 368 [some (vR (some t)), some (vI x1_), some (vI x2_), some (vI x3_), some (vI x4_), some (vI x5_), some (vI x6_), some (vI x7_), some (vI x8_), o9_] [vI ((100 * (h.I a1 ((100 * x2_) + x7_).toNatClampNeg)) + x7_)] h)) := rn_b (b := b198_350) rfl
theorem e198_368 (E : EV) (d : Nat) (t : Nat) (x1_ : Int32) (x2_ : Int32) (x3_ : Int32) (x4_ : Int32) (x5_ : Int32) (x6_ : Int32) (x7_ : Int32) (x8_ : Int32) (o9_ : Option AV) (s0_ : Int32) (h : AH) : rn E d 198 368 [some (vR (some t)), some (vI x1_), some (vI x2_), some (vI x3_), some (vI x4_), some (vI x5_), some (vI x6_), some (vI x7_), some (vI x8_), o9_] [vI s0_] h =
    some (Sum.inl (some (vI s0_)), h) := rn_b (b := b198_368) rfl
/-! 199 FastPlaneModel.stage(II)I -/
theorem c199 (E : EV) (d : Nat) (t : Nat) (x1_ : Int32) (x2_ : Int32) (h : AH) : cal E (d + 1) 199 [vR (some t), vI x1_, vI x2_] h = rn E d 199 0 [some (vR (some t)), some (vI x1_), some (vI x2_)] [] h := cal_rn rfl rfl
theorem e199_0 (E : EV) (d : Nat) (t : Nat) (x1_ : Int32) (x2_ : Int32) (h : AH) : rn E d 199 0 [some (vR (some t)), some (vI x1_), some (vI x2_)] [] h =
    cI (cal E d 144 [vI x1_, vI 0, vI 30] h) th fun v1 h =>
    if v1 = 0 then rn E d 199 29 [some (vR (some t)), some (vI x1_), some (vI x2_)] [] h else
    cI (cal E d 144 [vI x2_, vI 0, vI 10] h) th fun v2 h =>
    if v2 = 0 then rn E d 199 29 [some (vR (some t)), some (vI x1_), some (vI x2_)] [] h else
    gd (h.kd t == 23) (if (h.I t 195) = 8 then
    rn E d 199 29 [some (vR (some t)), some (vI x1_), some (vI x2_)] [] h
    else rn E d 199 31 [some (vR (some t)), some (vI x1_), some (vI x2_)] [] h) := rn_b (b := b199_0) rfl
theorem e199_29 (E : EV) (d : Nat) (t : Nat) (x1_ : Int32) (x2_ : Int32) (h : AH) : rn E d 199 29 [some (vR (some t)), some (vI x1_), some (vI x2_)] [] h =
    some (Sum.inl (some (vI (-1))), h) := rn_b (b := b199_29) rfl
theorem e199_31 (E : EV) (d : Nat) (t : Nat) (x1_ : Int32) (x2_ : Int32) (h : AH) : rn E d 199 31 [some (vR (some t)), some (vI x1_), some (vI x2_)] [] h =
    gd (h.kd t == 23) (gd (h.kd t == 23) (nn (h.R t 192) fun a1 =>
    gd (h.kd a1 == 101 && inb (h.I t 195) (h.ln a1) && decide (E.bs ≤ a1)) (hs (h.setI a1 (h.I t 195).toNatClampNeg x1_) fun h =>
    gd (h.kd t == 23) (gd (h.kd t == 23) (nn (h.R t 193) fun a2 =>
    gd (h.kd a2 == 101 && inb (h.I t 195) (h.ln a2) && decide (E.bs ≤ a2)) (hs (h.setI a2 (h.I t 195).toNatClampNeg x2_) fun h =>
    gd (h.kd t == 23) (gd ((h.kd t == 23) && decide (E.bs ≤ t) && true) (hs (h.setI t 195 ((h.I t 195) + 1)) fun h =>
    gd (h.kd t == 23) (some (Sum.inl (some (vI ((h.I t 195) - 1))), h)))))))))) := rn_b (b := b199_31) rfl
/-! 200 FastPlaneModel.stateNow()I -/
theorem c200 (E : EV) (d : Nat) (t : Nat) (h : AH) : cal E (d + 1) 200 [vR (some t)] h = rn E d 200 0 [some (vR (some t))] [] h := cal_rn rfl rfl
theorem e200_0 (E : EV) (d : Nat) (t : Nat) (h : AH) : rn E d 200 0 [some (vR (some t))] [] h =
    gd (h.kd t == 23) (nn (h.R t 176) fun a1 =>
    gd (h.kd a1 == 101 && inb 0 (h.ln a1)) (gd (h.kd t == 23) (nn (h.R t 176) fun a2 =>
    gd (h.kd a2 == 101 && inb 1 (h.ln a2)) (gd (h.kd t == 23) (nn (h.R t 176) fun a3 =>
    gd (h.kd a3 == 101 && inb 2 (h.ln a3)) (some (Sum.inl (some (vI (((h.I a1 (0 : Int32).toNatClampNeg) ||| ((h.I a2 (1 : Int32).toNatClampNeg) <<< (4 &&& 31))) ||| ((h.I a3 (2 : Int32).toNatClampNeg) <<< (8 &&& 31))))), h))))))) := rn_b (b := b200_0) rfl
/-! 201 FastPlaneModel.stateOf(IIIII)I -/
theorem c201 (E : EV) (d : Nat) (x0_ : Int32) (x1_ : Int32) (x2_ : Int32) (x3_ : Int32) (x4_ : Int32) (h : AH) : cal E (d + 1) 201 [vI x0_, vI x1_, vI x2_, vI x3_, vI x4_] h = rn E d 201 0 [some (vI x0_), some (vI x1_), some (vI x2_), some (vI x3_), some (vI x4_)] [] h := cal_rn rfl rfl
theorem e201_0 (E : EV) (d : Nat) (x0_ : Int32) (x1_ : Int32) (x2_ : Int32) (x3_ : Int32) (x4_ : Int32) (h : AH) : rn E d 201 0 [some (vI x0_), some (vI x1_), some (vI x2_), some (vI x3_), some (vI x4_)] [] h =
    some (Sum.inl (some (vI ((((((((x0_ * 5) + x1_) * 7) + x2_) * 31) + x3_) * 31) + x4_))), h) := rn_b (b := b201_0) rfl
/-! 202 FastPlaneModel.step(II)V -/
theorem c202 (E : EV) (d : Nat) (t : Nat) (x1_ : Int32) (x2_ : Int32) (h : AH) : cal E (d + 1) 202 [vR (some t), vI x1_, vI x2_] h = rn E d 202 0 [some (vR (some t)), some (vI x1_), some (vI x2_)] [] h := cal_rn rfl rfl
theorem e202_0 (E : EV) (d : Nat) (t : Nat) (x1_ : Int32) (x2_ : Int32) (h : AH) : rn E d 202 0 [some (vR (some t)), some (vI x1_), some (vI x2_)] [] h =
    gd (h.kd t == 23) (gd (h.kd t == 23) (nn (h.R t 143) fun a1 =>
    gd (h.kd a1 == 101 && inb (2100 + (h.I t 149)) (h.ln a1) && decide (E.bs ≤ a1)) (hs (h.setI a1 (2100 + (h.I t 149)).toNatClampNeg x1_) fun h =>
    gd (h.kd t == 23) (gd (h.kd t == 23) (nn (h.R t 144) fun a2 =>
    gd (h.kd a2 == 101 && inb (2100 + (h.I t 149)) (h.ln a2) && decide (E.bs ≤ a2)) (hs (h.setI a2 (2100 + (h.I t 149)).toNatClampNeg x2_) fun h =>
    gd (h.kd t == 23) (gd ((h.kd t == 23) && decide (E.bs ≤ t) && true) (hs (h.setI t 149 ((h.I t 149) + 1)) fun h =>
    some (Sum.inl none, h))))))))) := rn_b (b := b202_0) rfl
/-! 203 FastPlaneModel.takeTape()V -/
theorem c203 (E : EV) (d : Nat) (t : Nat) (h : AH) : cal E (d + 1) 203 [vR (some t)] h = rn E d 203 0 [some (vR (some t)), none] [] h := cal_rn rfl rfl
theorem e203_0 (E : EV) (d : Nat) (t : Nat) (o1_ : Option AV) (h : AH) : rn E d 203 0 [some (vR (some t)), o1_] [] h =
    gd ((h.kd t == 23) && decide (E.bs ≤ t) && true) (hs (h.setI t 108 0) fun h =>
    gd ((h.kd t == 23) && decide (E.bs ≤ t) && true) (hs (h.setI t 109 (-1)) fun h =>
    gd (h.kd t == 23) (gd ((h.kd t == 23) && decide (E.bs ≤ t) && true) (hs (h.setI t 107 (h.I t 106)) fun h =>
    rn E d 203 20 [some (vR (some t)), some (vI 0)] [] h)))) := rn_b (b := b203_0) rfl
theorem e203_20 (E : EV) (d : Nat) (t : Nat) (x1_ : Int32) (h : AH) : rn E d 203 20 [some (vR (some t)), some (vI x1_)] [] h =
    gd (h.kd t == 23) (if (h.I t 107) ≤ x1_ then rn E d 203 46 [some (vR (some t)), some (vI x1_)] [] h else
    gd (h.kd t == 23) (gd (h.kd t == 23) (nn (h.R t 104) fun a1 =>
    gd ((h.kd a1 == 102 || h.kd a1 == 103) && inb x1_ (h.ln a1)) (nn (h.R t 105) fun a2 =>
    gd ((h.kd a2 == 102 || h.kd a2 == 103) && inb x1_ (h.ln a2) && decide (E.bs ≤ a2)) (hs (h.setI a2 x1_.toNatClampNeg (if h.kd a2 = 102 then (h.I a1 x1_.toNatClampNeg).toInt8.toInt32 else (h.I a1 x1_.toNatClampNeg) &&& 1)) fun h =>
    hs (x1_ + 1) fun x3 =>
    rn E d 203 20 [some (vR (some t)), some (vI x3)] [] h))))) := rn_b (b := b203_20) rfl
theorem e203_46 (E : EV) (d : Nat) (t : Nat) (x1_ : Int32) (h : AH) : rn E d 203 46 [some (vR (some t)), some (vI x1_)] [] h =
    gd ((h.kd t == 23) && decide (E.bs ≤ t) && true) (hs (h.setI t 106 0) fun h =>
    gd ((h.kd t == 23) && decide (E.bs ≤ t) && true) (hs (h.setI t 111 0) fun h =>
    some (Sum.inl none, h))) := rn_b (b := b203_46) rfl
/-! 204 FastPlaneModel.tanks()I -/
theorem c204 (E : EV) (d : Nat) (t : Nat) (h : AH) : cal E (d + 1) 204 [vR (some t)] h = rn E d 204 0 [some (vR (some t))] [] h := cal_rn rfl rfl
theorem e204_0 (E : EV) (d : Nat) (t : Nat) (h : AH) : rn E d 204 0 [some (vR (some t))] [] h =
    gd (h.kd t == 23) (gd (h.kd t == 23) (nn (h.R t 119) fun a1 =>
    gd (h.kd a1 == 101 && inb (h.I t 135) (h.ln a1)) (some (Sum.inl (some (vI (h.I a1 (h.I t 135).toNatClampNeg))), h)))) := rn_b (b := b204_0) rfl
/-! 205 FastPlaneModel.tell(III)I -/
theorem c205 (E : EV) (d : Nat) (t : Nat) (x1_ : Int32) (x2_ : Int32) (x3_ : Int32) (h : AH) : cal E (d + 1) 205 [vR (some t), vI x1_, vI x2_, vI x3_] h = rn E d 205 0 [some (vR (some t)), some (vI x1_), some (vI x2_), some (vI x3_)] [] h := cal_rn rfl rfl
theorem e205_0 (E : EV) (d : Nat) (t : Nat) (x1_ : Int32) (x2_ : Int32) (x3_ : Int32) (h : AH) : rn E d 205 0 [some (vR (some t)), some (vI x1_), some (vI x2_), some (vI x3_)] [] h =
    gd (h.kd t == 23) (if (h.I t 171) = 200 then
    some (Sum.inl (some (vI (-1))), h)
    else rn E d 205 12 [some (vR (some t)), some (vI x1_), some (vI x2_), some (vI x3_)] [] h) := rn_b (b := b205_0) rfl
theorem e205_12 (E : EV) (d : Nat) (t : Nat) (x1_ : Int32) (x2_ : Int32) (x3_ : Int32) (h : AH) : rn E d 205 12 [some (vR (some t)), some (vI x1_), some (vI x2_), some (vI x3_)] [] h =
    gd (h.kd t == 23) (gd (h.kd t == 23) (nn (h.R t 165) fun a1 =>
    gd (h.kd a1 == 101 && inb (h.I t 171) (h.ln a1) && decide (E.bs ≤ a1)) (hs (h.setI a1 (h.I t 171).toNatClampNeg x1_) fun h =>
    gd (h.kd t == 23) (gd (h.kd t == 23) (nn (h.R t 166) fun a2 =>
    gd (h.kd a2 == 101 && inb (h.I t 171) (h.ln a2) && decide (E.bs ≤ a2)) (hs (h.setI a2 (h.I t 171).toNatClampNeg x2_) fun h =>
    gd (h.kd t == 23) (gd (h.kd t == 23) (nn (h.R t 167) fun a3 =>
    gd (h.kd a3 == 101 && inb (h.I t 171) (h.ln a3) && decide (E.bs ≤ a3)) (hs (h.setI a3 (h.I t 171).toNatClampNeg x3_) fun h =>
    gd (h.kd t == 23) (gd (h.kd t == 23) (gd (h.kd t == 23) (nn (h.R t 168) fun a4 =>
    gd (h.kd a4 == 101 && inb (h.I t 171) (h.ln a4) && decide (E.bs ≤ a4)) (hs (h.setI a4 (h.I t 171).toNatClampNeg (h.I t 172)) fun h =>
    gd (h.kd t == 23) (gd (h.kd t == 23) (nn (h.R t 169) fun a5 =>
    gd (h.kd a5 == 101 && inb (h.I t 171) (h.ln a5) && decide (E.bs ≤ a5)) (hs (h.setI a5 (h.I t 171).toNatClampNeg (-1)) fun h =>
    gd (h.kd t == 23) (gd ((h.kd t == 23) && decide (E.bs ≤ t) && true) (hs (h.setI t 171 ((h.I t 171) + 1)) fun h =>
    gd (h.kd t == 23) (some (Sum.inl (some (vI ((h.I t 171) - 1))), h)))))))))))))))))))) := rn_b (b := b205_12) rfl
/-! 206 FastPlaneModel.term(II)I -/
theorem c206 (E : EV) (d : Nat) (t : Nat) (x1_ : Int32) (x2_ : Int32) (h : AH) : cal E (d + 1) 206 [vR (some t), vI x1_, vI x2_] h = rn E d 206 0 [some (vR (some t)), some (vI x1_), some (vI x2_)] [] h := cal_rn rfl rfl
theorem e206_0 (E : EV) (d : Nat) (t : Nat) (x1_ : Int32) (x2_ : Int32) (h : AH) : rn E d 206 0 [some (vR (some t)), some (vI x1_), some (vI x2_)] [] h =
    if x1_ = 97 then rn E d 206 145 [some (vR (some t)), some (vI x1_), some (vI x2_)] [] h else
    if x1_ = 98 then rn E d 206 160 [some (vR (some t)), some (vI x1_), some (vI x2_)] [] h else
    if x1_ = 99 then rn E d 206 115 [some (vR (some t)), some (vI x1_), some (vI x2_)] [] h else
    if x1_ = 100 then rn E d 206 160 [some (vR (some t)), some (vI x1_), some (vI x2_)] [] h else
    if x1_ = 101 then rn E d 206 160 [some (vR (some t)), some (vI x1_), some (vI x2_)] [] h else
    if x1_ = 102 then rn E d 206 160 [some (vR (some t)), some (vI x1_), some (vI x2_)] [] h else
    if x1_ = 103 then rn E d 206 130 [some (vR (some t)), some (vI x1_), some (vI x2_)] [] h else
    if x1_ = 104 then rn E d 206 135 [some (vR (some t)), some (vI x1_), some (vI x2_)] [] h else
    if x1_ = 105 then rn E d 206 160 [some (vR (some t)), some (vI x1_), some (vI x2_)] [] h else
    if x1_ = 106 then rn E d 206 160 [some (vR (some t)), some (vI x1_), some (vI x2_)] [] h else
    if x1_ = 107 then rn E d 206 160 [some (vR (some t)), some (vI x1_), some (vI x2_)] [] h else
    if x1_ = 108 then rn E d 206 110 [some (vR (some t)), some (vI x1_), some (vI x2_)] [] h else
    if x1_ = 109 then rn E d 206 120 [some (vR (some t)), some (vI x1_), some (vI x2_)] [] h else
    if x1_ = 110 then rn E d 206 108 [some (vR (some t)), some (vI x1_), some (vI x2_)] [] h else
    if x1_ = 111 then rn E d 206 125 [some (vR (some t)), some (vI x1_), some (vI x2_)] [] h else
    if x1_ = 112 then rn E d 206 160 [some (vR (some t)), some (vI x1_), some (vI x2_)] [] h else
    if x1_ = 113 then rn E d 206 160 [some (vR (some t)), some (vI x1_), some (vI x2_)] [] h else
    if x1_ = 114 then rn E d 206 160 [some (vR (some t)), some (vI x1_), some (vI x2_)] [] h else
    if x1_ = 115 then rn E d 206 140 [some (vR (some t)), some (vI x1_), some (vI x2_)] [] h else
    if x1_ = 116 then rn E d 206 155 [some (vR (some t)), some (vI x1_), some (vI x2_)] [] h else
    if x1_ = 117 then rn E d 206 160 [some (vR (some t)), some (vI x1_), some (vI x2_)] [] h else
    if x1_ = 118 then rn E d 206 160 [some (vR (some t)), some (vI x1_), some (vI x2_)] [] h else
    if x1_ = 119 then rn E d 206 150 [some (vR (some t)), some (vI x1_), some (vI x2_)] [] h else
    rn E d 206 160 [some (vR (some t)), some (vI x1_), some (vI x2_)] [] h := rn_b (b := b206_0) rfl
theorem e206_108 (E : EV) (d : Nat) (t : Nat) (x1_ : Int32) (x2_ : Int32) (h : AH) : rn E d 206 108 [some (vR (some t)), some (vI x1_), some (vI x2_)] [] h =
    some (Sum.inl (some (vI x2_)), h) := rn_b (b := b206_108) rfl
theorem e206_110 (E : EV) (d : Nat) (t : Nat) (x1_ : Int32) (x2_ : Int32) (h : AH) : rn E d 206 110 [some (vR (some t)), some (vI x1_), some (vI x2_)] [] h =
    gd (h.kd t == 23) (some (Sum.inl (some (vI (h.I t 154))), h)) := rn_b (b := b206_110) rfl
theorem e206_115 (E : EV) (d : Nat) (t : Nat) (x1_ : Int32) (x2_ : Int32) (h : AH) : rn E d 206 115 [some (vR (some t)), some (vI x1_), some (vI x2_)] [] h =
    gd (h.kd t == 23) (some (Sum.inl (some (vI (h.I t 155))), h)) := rn_b (b := b206_115) rfl
theorem e206_120 (E : EV) (d : Nat) (t : Nat) (x1_ : Int32) (x2_ : Int32) (h : AH) : rn E d 206 120 [some (vR (some t)), some (vI x1_), some (vI x2_)] [] h =
    gd (h.kd t == 23) (some (Sum.inl (some (vI (h.I t 156))), h)) := rn_b (b := b206_120) rfl
theorem e206_125 (E : EV) (d : Nat) (t : Nat) (x1_ : Int32) (x2_ : Int32) (h : AH) : rn E d 206 125 [some (vR (some t)), some (vI x1_), some (vI x2_)] [] h =
    gd (h.kd t == 23) (some (Sum.inl (some (vI (h.I t 157))), h)) := rn_b (b := b206_125) rfl
theorem e206_130 (E : EV) (d : Nat) (t : Nat) (x1_ : Int32) (x2_ : Int32) (h : AH) : rn E d 206 130 [some (vR (some t)), some (vI x1_), some (vI x2_)] [] h =
    gd (h.kd t == 23) (some (Sum.inl (some (vI (h.I t 158))), h)) := rn_b (b := b206_130) rfl
theorem e206_135 (E : EV) (d : Nat) (t : Nat) (x1_ : Int32) (x2_ : Int32) (h : AH) : rn E d 206 135 [some (vR (some t)), some (vI x1_), some (vI x2_)] [] h =
    gd (h.kd t == 23) (some (Sum.inl (some (vI (h.I t 159))), h)) := rn_b (b := b206_135) rfl
theorem e206_140 (E : EV) (d : Nat) (t : Nat) (x1_ : Int32) (x2_ : Int32) (h : AH) : rn E d 206 140 [some (vR (some t)), some (vI x1_), some (vI x2_)] [] h =
    gd (h.kd t == 23) (some (Sum.inl (some (vI (h.I t 160))), h)) := rn_b (b := b206_140) rfl
theorem e206_145 (E : EV) (d : Nat) (t : Nat) (x1_ : Int32) (x2_ : Int32) (h : AH) : rn E d 206 145 [some (vR (some t)), some (vI x1_), some (vI x2_)] [] h =
    gd (h.kd t == 23) (some (Sum.inl (some (vI (h.I t 161))), h)) := rn_b (b := b206_145) rfl
theorem e206_150 (E : EV) (d : Nat) (t : Nat) (x1_ : Int32) (x2_ : Int32) (h : AH) : rn E d 206 150 [some (vR (some t)), some (vI x1_), some (vI x2_)] [] h =
    gd (h.kd t == 23) (some (Sum.inl (some (vI (h.I t 162))), h)) := rn_b (b := b206_150) rfl
theorem e206_155 (E : EV) (d : Nat) (t : Nat) (x1_ : Int32) (x2_ : Int32) (h : AH) : rn E d 206 155 [some (vR (some t)), some (vI x1_), some (vI x2_)] [] h =
    gd (h.kd t == 23) (some (Sum.inl (some (vI (h.I t 163))), h)) := rn_b (b := b206_155) rfl
theorem e206_160 (E : EV) (d : Nat) (t : Nat) (x1_ : Int32) (x2_ : Int32) (h : AH) : rn E d 206 160 [some (vR (some t)), some (vI x1_), some (vI x2_)] [] h =
    gd (h.kd t == 23) (some (Sum.inl (some (vI (h.I t 164))), h)) := rn_b (b := b206_160) rfl
/-! 207 FastPlaneModel.treaty(I)I -/
theorem c207 (E : EV) (d : Nat) (t : Nat) (x1_ : Int32) (h : AH) : cal E (d + 1) 207 [vR (some t), vI x1_] h = rn E d 207 0 [some (vR (some t)), some (vI x1_), none] [] h := cal_rn rfl rfl
theorem e207_0 (E : EV) (d : Nat) (t : Nat) (x1_ : Int32) (o2_ : Option AV) (h : AH) : rn E d 207 0 [some (vR (some t)), some (vI x1_), o2_] [] h =
    gd (h.kd t == 23) (if 700 < (h.I t 106) then rn E d 207 17 [some (vR (some t)), some (vI x1_), o2_] [] h else
    cI (cal E d 151 [vI x1_] h) th fun v1 h =>
    if v1 = 0 then
    rn E d 207 17 [some (vR (some t)), some (vI x1_), o2_] [] h
    else rn E d 207 20 [some (vR (some t)), some (vI x1_), o2_] [] h) := rn_b (b := b207_0) rfl
theorem e207_17 (E : EV) (d : Nat) (t : Nat) (x1_ : Int32) (o2_ : Option AV) (h : AH) : rn E d 207 17 [some (vR (some t)), some (vI x1_), o2_] [] h =
    some (Sum.inl (some (vI (-2))), h) := rn_b (b := b207_17) rfl
theorem e207_20 (E : EV) (d : Nat) (t : Nat) (x1_ : Int32) (o2_ : Option AV) (h : AH) : rn E d 207 20 [some (vR (some t)), some (vI x1_), o2_] [] h =
    gd (h.kd t == 23) (cV (cal E d 203 [vR (some t)] h) th fun h =>
    rn E d 207 26 [some (vR (some t)), some (vI x1_), some (vI 0)] [] h) := rn_b (b := b207_20) rfl
theorem e207_26 (E : EV) (d : Nat) (t : Nat) (x1_ : Int32) (x2_ : Int32) (h : AH) : rn E d 207 26 [some (vR (some t)), some (vI x1_), some (vI x2_)] [] h =
    if 4 ≤ x2_ then rn E d 207 47 [some (vR (some t)), some (vI x1_), some (vI x2_)] [] h else
    gd (h.kd t == 23) (nn (h.R t 148) fun a1 =>
    gd ((h.kd a1 == 102 || h.kd a1 == 103) && inb (12 + x2_) (h.ln a1) && decide (E.bs ≤ a1)) (hs (h.setI a1 (12 + x2_).toNatClampNeg (if h.kd a1 = 102 then (0 : Int32).toInt8.toInt32 else (0 : Int32) &&& 1)) fun h =>
    hs (x2_ + 1) fun x2 =>
    rn E d 207 26 [some (vR (some t)), some (vI x1_), some (vI x2)] [] h)) := rn_b (b := b207_26) rfl
theorem e207_47 (E : EV) (d : Nat) (t : Nat) (x1_ : Int32) (x2_ : Int32) (h : AH) : rn E d 207 47 [some (vR (some t)), some (vI x1_), some (vI x2_)] [] h =
    gd (h.kd t == 23) (nn (h.R t 140) fun a1 =>
    gd (h.kd a1 == 101 && inb 3 (h.ln a1) && decide (E.bs ≤ a1)) (hs (h.setI a1 (3 : Int32).toNatClampNeg 0) fun h =>
    gd ((h.kd t == 23) && decide (E.bs ≤ t) && true) (hs (h.setI t 149 0) fun h =>
    gd ((h.kd t == 23) && decide (E.bs ≤ t) && true) (hs (h.setI t 150 0) fun h =>
    gd (h.kd t == 23) (cV (cal E d 170 [vR (some t)] h) th fun h =>
    rn E d 207 68 [some (vR (some t)), some (vI x1_), some (vI x2_)] [] h))))) := rn_b (b := b207_47) rfl
theorem e207_68 (E : EV) (d : Nat) (t : Nat) (x1_ : Int32) (x2_ : Int32) (h : AH) : rn E d 207 68 [some (vR (some t)), some (vI x1_), some (vI x2_)] [] h =
    gd (h.kd t == 23) (cI (cal E d 143 [vR (some t)] h) th fun v1 h =>
    if v1 = 0 then rn E d 207 89 [some (vR (some t)), some (vI x1_), some (vI x2_)] [] h else
    gd (h.kd t == 23) (if (h.I t 112) = 0 then rn E d 207 89 [some (vR (some t)), some (vI x1_), some (vI x2_)] [] h else
    gd (h.kd t == 23) (cV (cal E d 189 [vR (some t)] h) th fun h =>
    rn E d 207 68 [some (vR (some t)), some (vI x1_), some (vI x2_)] [] h))) := rn_b (b := b207_68) rfl
theorem e207_89 (E : EV) (d : Nat) (t : Nat) (x1_ : Int32) (x2_ : Int32) (h : AH) : rn E d 207 89 [some (vR (some t)), some (vI x1_), some (vI x2_)] [] h =
    gd (h.kd t == 23) (cI (cal E d 143 [vR (some t)] h) th fun v1 h =>
    if v1 = 0 then
    some (Sum.inl (some (vI (-1))), h)
    else rn E d 207 98 [some (vR (some t)), some (vI x1_), some (vI x2_)] [] h) := rn_b (b := b207_89) rfl
theorem e207_98 (E : EV) (d : Nat) (t : Nat) (x1_ : Int32) (x2_ : Int32) (h : AH) : rn E d 207 98 [some (vR (some t)), some (vI x1_), some (vI x2_)] [] h =
    gd (h.kd t == 23) (gd (h.kd t == 23) (nn (h.R t 140) fun a1 =>
    gd (h.kd a1 == 101 && inb 3 (h.ln a1)) (nn (h.R t 140) fun a2 =>
    gd (h.kd a2 == 101 && inb x1_ (h.ln a2) && decide (E.bs ≤ a2)) (hs (h.setI a2 x1_.toNatClampNeg (h.I a1 (3 : Int32).toNatClampNeg)) fun h =>
    rn E d 207 112 [some (vR (some t)), some (vI x1_), some (vI 0)] [] h)))) := rn_b (b := b207_98) rfl
theorem e207_112 (E : EV) (d : Nat) (t : Nat) (x1_ : Int32) (x2_ : Int32) (h : AH) : rn E d 207 112 [some (vR (some t)), some (vI x1_), some (vI x2_)] [] h =
    if 4 ≤ x2_ then rn E d 207 180 [some (vR (some t)), some (vI x1_), some (vI x2_)] [] h else
    gd (h.kd t == 23) (gd (h.kd t == 23) (nn (h.R t 148) fun a1 =>
    gd ((h.kd a1 == 102 || h.kd a1 == 103) && inb (12 + x2_) (h.ln a1)) (nn (h.R t 148) fun a2 =>
    gd ((h.kd a2 == 102 || h.kd a2 == 103) && inb ((4 * x1_) + x2_) (h.ln a2) && decide (E.bs ≤ a2)) (hs (h.setI a2 ((4 * x1_) + x2_).toNatClampNeg (if h.kd a2 = 102 then (h.I a1 (12 + x2_).toNatClampNeg).toInt8.toInt32 else (h.I a1 (12 + x2_).toNatClampNeg) &&& 1)) fun h =>
    gd (h.kd t == 23) (gd (h.kd t == 23) (nn (h.R t 141) fun a3 =>
    gd (h.kd a3 == 101 && inb (12 + x2_) (h.ln a3)) (nn (h.R t 141) fun a4 =>
    gd (h.kd a4 == 101 && inb ((4 * x1_) + x2_) (h.ln a4) && decide (E.bs ≤ a4)) (hs (h.setI a4 ((4 * x1_) + x2_).toNatClampNeg (h.I a3 (12 + x2_).toNatClampNeg)) fun h =>
    gd (h.kd t == 23) (gd (h.kd t == 23) (nn (h.R t 142) fun a5 =>
    gd (h.kd a5 == 101 && inb (12 + x2_) (h.ln a5)) (nn (h.R t 142) fun a6 =>
    gd (h.kd a6 == 101 && inb ((4 * x1_) + x2_) (h.ln a6) && decide (E.bs ≤ a6)) (hs (h.setI a6 ((4 * x1_) + x2_).toNatClampNeg (h.I a5 (12 + x2_).toNatClampNeg)) fun h =>
    hs (x2_ + 1) fun x7 =>
    rn E d 207 112 [some (vR (some t)), some (vI x1_), some (vI x7)] [] h)))))))))))) := rn_b (b := b207_112) rfl
theorem e207_180 (E : EV) (d : Nat) (t : Nat) (x1_ : Int32) (x2_ : Int32) (h : AH) : rn E d 207 180 [some (vR (some t)), some (vI x1_), some (vI x2_)] [] h =
    rn E d 207 182 [some (vR (some t)), some (vI x1_), some (vI 0)] [] h := rn_b (b := b207_180) rfl
theorem e207_182 (E : EV) (d : Nat) (t : Nat) (x1_ : Int32) (x2_ : Int32) (h : AH) : rn E d 207 182 [some (vR (some t)), some (vI x1_), some (vI x2_)] [] h =
    gd (h.kd t == 23) (if (h.I t 149) ≤ x2_ then rn E d 207 240 [some (vR (some t)), some (vI x1_), some (vI x2_)] [] h else
    gd (h.kd t == 23) (gd (h.kd t == 23) (nn (h.R t 143) fun a1 =>
    gd (h.kd a1 == 101 && inb (2100 + x2_) (h.ln a1)) (nn (h.R t 143) fun a2 =>
    gd (h.kd a2 == 101 && inb ((700 * x1_) + x2_) (h.ln a2) && decide (E.bs ≤ a2)) (hs (h.setI a2 ((700 * x1_) + x2_).toNatClampNeg (h.I a1 (2100 + x2_).toNatClampNeg)) fun h =>
    gd (h.kd t == 23) (gd (h.kd t == 23) (nn (h.R t 144) fun a3 =>
    gd (h.kd a3 == 101 && inb (2100 + x2_) (h.ln a3)) (nn (h.R t 144) fun a4 =>
    gd (h.kd a4 == 101 && inb ((700 * x1_) + x2_) (h.ln a4) && decide (E.bs ≤ a4)) (hs (h.setI a4 ((700 * x1_) + x2_).toNatClampNeg (h.I a3 (2100 + x2_).toNatClampNeg)) fun h =>
    hs (x2_ + 1) fun x5 =>
    rn E d 207 182 [some (vR (some t)), some (vI x1_), some (vI x5)] [] h))))))))) := rn_b (b := b207_182) rfl
theorem e207_240 (E : EV) (d : Nat) (t : Nat) (x1_ : Int32) (x2_ : Int32) (h : AH) : rn E d 207 240 [some (vR (some t)), some (vI x1_), some (vI x2_)] [] h =
    gd (h.kd t == 23) (nn (h.R t 140) fun a1 =>
    gd (h.kd a1 == 101 && inb x1_ (h.ln a1)) (some (Sum.inl (some (vI (h.I a1 x1_.toNatClampNeg))), h))) := rn_b (b := b207_240) rfl
/-! 208 FastPlaneModel.tryMove(IIIIII)I -/
theorem c208 (E : EV) (d : Nat) (t : Nat) (x1_ : Int32) (x2_ : Int32) (x3_ : Int32) (x4_ : Int32) (x5_ : Int32) (x6_ : Int32) (h : AH) : cal E (d + 1) 208 [vR (some t), vI x1_, vI x2_, vI x3_, vI x4_, vI x5_, vI x6_] h = rn E d 208 0 [some (vR (some t)), some (vI x1_), some (vI x2_), some (vI x3_), some (vI x4_), some (vI x5_), some (vI x6_), none, none, none] [] h := cal_rn rfl rfl
theorem e208_0 (E : EV) (d : Nat) (t : Nat) (x1_ : Int32) (x2_ : Int32) (x3_ : Int32) (x4_ : Int32) (x5_ : Int32) (x6_ : Int32) (o7_ : Option AV) (o8_ : Option AV) (o9_ : Option AV) (h : AH) : rn E d 208 0 [some (vR (some t)), some (vI x1_), some (vI x2_), some (vI x3_), some (vI x4_), some (vI x5_), some (vI x6_), o7_, o8_, o9_] [] h =
    gd (h.kd t == 23) (cV (cal E d 128 [vR (some t), vI x2_] h) th fun h =>
    if x3_ ≤ 0 then rn E d 208 57 [some (vR (some t)), some (vI x1_), some (vI x2_), some (vI x3_), some (vI x4_), some (vI x5_), some (vI x6_), o7_, o8_, o9_] [] h else
    if x4_ = x5_ then rn E d 208 53 [some (vR (some t)), some (vI x1_), some (vI x2_), some (vI x3_), some (vI x4_), some (vI x5_), some (vI x6_), o7_, o8_, o9_] [] h else
    gd (h.kd t == 23) (nn (h.R t 176) fun a1 =>
    gd (h.kd a1 == 101 && inb x4_ (h.ln a1)) (if (h.I a1 x4_.toNatClampNeg) < x3_ then rn E d 208 53 [some (vR (some t)), some (vI x1_), some (vI x2_), some (vI x3_), some (vI x4_), some (vI x5_), some (vI x6_), o7_, o8_, o9_] [] h else
    gd (h.kd t == 23) (nn (h.R t 176) fun a2 =>
    gd (h.kd a2 == 101 && inb x5_ (h.ln a2)) (gd (h.kd t == 23) (gd (h.kd t == 23) (nn (h.R t 131) fun a3 =>
    gd (h.kd a3 == 101 && inb ((3 * (h.I t 135)) + x5_) (h.ln a3)) (if ((h.I a2 x5_.toNatClampNeg) + x3_) ≤ (h.I a3 ((3 * (h.I t 135)) + x5_).toNatClampNeg) then rn E d 208 57 [some (vR (some t)), some (vI x1_), some (vI x2_), some (vI x3_), some (vI x4_), some (vI x5_), some (vI x6_), o7_, o8_, o9_] [] h else
    rn E d 208 53 [some (vR (some t)), some (vI x1_), some (vI x2_), some (vI x3_), some (vI x4_), some (vI x5_), some (vI x6_), o7_, o8_, o9_] [] h)))))))) := rn_b (b := b208_0) rfl
theorem e208_53 (E : EV) (d : Nat) (t : Nat) (x1_ : Int32) (x2_ : Int32) (x3_ : Int32) (x4_ : Int32) (x5_ : Int32) (x6_ : Int32) (o7_ : Option AV) (o8_ : Option AV) (o9_ : Option AV) (h : AH) : rn E d 208 53 [some (vR (some t)), some (vI x1_), some (vI x2_), some (vI x3_), some (vI x4_), some (vI x5_), some (vI x6_), o7_, o8_, o9_] [] h =
    some (Sum.inl (some (vI 1000000)), h) := rn_b (b := b208_53) rfl
theorem e208_57 (E : EV) (d : Nat) (t : Nat) (x1_ : Int32) (x2_ : Int32) (x3_ : Int32) (x4_ : Int32) (x5_ : Int32) (x6_ : Int32) (o7_ : Option AV) (o8_ : Option AV) (o9_ : Option AV) (h : AH) : rn E d 208 57 [some (vR (some t)), some (vI x1_), some (vI x2_), some (vI x3_), some (vI x4_), some (vI x5_), some (vI x6_), o7_, o8_, o9_] [] h =
    if x3_ ≤ 0 then rn E d 208 83 [some (vR (some t)), some (vI x1_), some (vI x2_), some (vI x3_), some (vI x4_), some (vI x5_), some (vI x6_), o7_, o8_, o9_] [] h else
    gd (h.kd t == 23) (nn (h.R t 176) fun a1 =>
    gd (h.kd a1 == 101 && inb x4_ (h.ln a1)) (nn (h.R t 176) fun a2 =>
    gd (h.kd a2 == 101 && inb x4_ (h.ln a2) && decide (E.bs ≤ a2)) (hs (h.setI a2 x4_.toNatClampNeg ((h.I a1 x4_.toNatClampNeg) - x3_)) fun h =>
    gd (h.kd t == 23) (nn (h.R t 176) fun a3 =>
    gd (h.kd a3 == 101 && inb x5_ (h.ln a3)) (nn (h.R t 176) fun a4 =>
    gd (h.kd a4 == 101 && inb x5_ (h.ln a4) && decide (E.bs ≤ a4)) (hs (h.setI a4 x5_.toNatClampNeg ((h.I a3 x5_.toNatClampNeg) + x3_)) fun h =>
    rn E d 208 83 [some (vR (some t)), some (vI x1_), some (vI x2_), some (vI x3_), some (vI x4_), some (vI x5_), some (vI x6_), o7_, o8_, o9_] [] h)))))) := rn_b (b := b208_57) rfl
theorem e208_83 (E : EV) (d : Nat) (t : Nat) (x1_ : Int32) (x2_ : Int32) (x3_ : Int32) (x4_ : Int32) (x5_ : Int32) (x6_ : Int32) (o7_ : Option AV) (o8_ : Option AV) (o9_ : Option AV) (h : AH) : rn E d 208 83 [some (vR (some t)), some (vI x1_), some (vI x2_), some (vI x3_), some (vI x4_), some (vI x5_), some (vI x6_), o7_, o8_, o9_] [] h =
    gd (h.kd t == 23) (nn (h.R t 176) fun a1 =>
    gd (h.kd a1 == 101 && inb x6_ (h.ln a1)) (if (h.I a1 x6_.toNatClampNeg) = 0 then
    some (Sum.inl (some (vI 1000000)), h)
    else rn E d 208 97 [some (vR (some t)), some (vI x1_), some (vI x2_), some (vI x3_), some (vI x4_), some (vI x5_), some (vI x6_), o7_, o8_, o9_] [] h)) := rn_b (b := b208_83) rfl
theorem e208_97 (E : EV) (d : Nat) (t : Nat) (x1_ : Int32) (x2_ : Int32) (x3_ : Int32) (x4_ : Int32) (x5_ : Int32) (x6_ : Int32) (o7_ : Option AV) (o8_ : Option AV) (o9_ : Option AV) (h : AH) : rn E d 208 97 [some (vR (some t)), some (vI x1_), some (vI x2_), some (vI x3_), some (vI x4_), some (vI x5_), some (vI x6_), o7_, o8_, o9_] [] h =
    gd (h.kd t == 23) (nn (h.R t 176) fun a1 =>
    gd (h.kd a1 == 101 && inb x6_ (h.ln a1)) (nn (h.R t 176) fun a2 =>
    gd (h.kd a2 == 101 && inb x6_ (h.ln a2) && decide (E.bs ≤ a2)) (hs (h.setI a2 x6_.toNatClampNeg ((h.I a1 x6_.toNatClampNeg) - 1)) fun h =>
    rn E d 208 117 [some (vR (some t)), some (vI x1_), some (vI x2_), some (vI x3_), some (vI x4_), some (vI x5_), some (vI x6_), some (vI 0), some (vI 0), some (vI 0)] [] h))) := rn_b (b := b208_97) rfl
theorem e208_117 (E : EV) (d : Nat) (t : Nat) (x1_ : Int32) (x2_ : Int32) (x3_ : Int32) (x4_ : Int32) (x5_ : Int32) (x6_ : Int32) (x7_ : Int32) (x8_ : Int32) (x9_ : Int32) (h : AH) : rn E d 208 117 [some (vR (some t)), some (vI x1_), some (vI x2_), some (vI x3_), some (vI x4_), some (vI x5_), some (vI x6_), some (vI x7_), some (vI x8_), some (vI x9_)] [] h =
    gd (h.kd t == 23) (cI (cal E d 204 [vR (some t)] h) th fun v1 h =>
    if v1 ≤ x9_ then rn E d 208 171 [some (vR (some t)), some (vI x1_), some (vI x2_), some (vI x3_), some (vI x4_), some (vI x5_), some (vI x6_), some (vI x7_), some (vI x8_), some (vI x9_)] [] h else
    gd (h.kd t == 23) (nn (h.R t 176) fun a2 =>
    gd (h.kd a2 == 101 && inb x9_ (h.ln a2)) (hs (x7_ + (h.I a2 x9_.toNatClampNeg)) fun x3 =>
    gd (h.kd t == 23) (nn (h.R t 176) fun a4 =>
    gd (h.kd a4 == 101 && inb x9_ (h.ln a4)) (gd (h.kd t == 23) (gd (h.kd t == 23) (nn (h.R t 130) fun a5 =>
    gd (h.kd a5 == 101 && inb ((3 * (h.I t 135)) + x9_) (h.ln a5)) (hs (x8_ + ((h.I a4 x9_.toNatClampNeg) * (h.I a5 ((3 * (h.I t 135)) + x9_).toNatClampNeg))) fun x6 =>
    hs (x9_ + 1) fun x7 =>
    rn E d 208 117 [some (vR (some t)), some (vI x1_), some (vI x2_), some (vI x3_), some (vI x4_), some (vI x5_), some (vI x6_), some (vI x3), some (vI x6), some (vI x7)] [] h)))))))) := rn_b (b := b208_117) rfl
theorem e208_171 (E : EV) (d : Nat) (t : Nat) (x1_ : Int32) (x2_ : Int32) (x3_ : Int32) (x4_ : Int32) (x5_ : Int32) (x6_ : Int32) (x7_ : Int32) (x8_ : Int32) (x9_ : Int32) (h : AH) : rn E d 208 171 [some (vR (some t)), some (vI x1_), some (vI x2_), some (vI x3_), some (vI x4_), some (vI x5_), some (vI x6_), some (vI x7_), some (vI x8_), some (vI x9_)] [] h =
    gd (h.kd t == 23) (nn (h.R t 173) fun a1 =>
    gd (h.kd a1 == 101 && inb x1_ (h.ln a1)) (if x8_ < ((h.I a1 x1_.toNatClampNeg) * x7_) then rn E d 208 199 [some (vR (some t)), some (vI x1_), some (vI x2_), some (vI x3_), some (vI x4_), some (vI x5_), some (vI x6_), some (vI x7_), some (vI x8_), some (vI x9_)] [] h else
    gd (h.kd t == 23) (nn (h.R t 174) fun a2 =>
    gd (h.kd a2 == 101 && inb x1_ (h.ln a2)) (if x8_ ≤ ((h.I a2 x1_.toNatClampNeg) * x7_) then rn E d 208 203 [some (vR (some t)), some (vI x1_), some (vI x2_), some (vI x3_), some (vI x4_), some (vI x5_), some (vI x6_), some (vI x7_), some (vI x8_), some (vI x9_)] [] h else
    rn E d 208 199 [some (vR (some t)), some (vI x1_), some (vI x2_), some (vI x3_), some (vI x4_), some (vI x5_), some (vI x6_), some (vI x7_), some (vI x8_), some (vI x9_)] [] h)))) := rn_b (b := b208_171) rfl
theorem e208_199 (E : EV) (d : Nat) (t : Nat) (x1_ : Int32) (x2_ : Int32) (x3_ : Int32) (x4_ : Int32) (x5_ : Int32) (x6_ : Int32) (x7_ : Int32) (x8_ : Int32) (x9_ : Int32) (h : AH) : rn E d 208 199 [some (vR (some t)), some (vI x1_), some (vI x2_), some (vI x3_), some (vI x4_), some (vI x5_), some (vI x6_), some (vI x7_), some (vI x8_), some (vI x9_)] [] h =
    some (Sum.inl (some (vI 1000000)), h) := rn_b (b := b208_199) rfl
theorem e208_203 (E : EV) (d : Nat) (t : Nat) (x1_ : Int32) (x2_ : Int32) (x3_ : Int32) (x4_ : Int32) (x5_ : Int32) (x6_ : Int32) (x7_ : Int32) (x8_ : Int32) (x9_ : Int32) (h : AH) : rn E d 208 203 [some (vR (some t)), some (vI x1_), some (vI x2_), some (vI x3_), some (vI x4_), some (vI x5_), some (vI x6_), some (vI x7_), some (vI x8_), some (vI x9_)] [] h =
    gd (h.kd t == 23) (gd (h.kd t == 23) (hs (h.R t 175) fun q2 =>
    cI (cal E d 200 [vR (some t)] h) th fun v1 h =>
    nn q2 fun a3 =>
    gd (h.kd a3 == 101 && inb ((4096 * (x1_ + 1)) + v1) (h.ln a3)) (hs (h.I a3 ((4096 * (x1_ + 1)) + v1).toNatClampNeg) fun x4 =>
    if x4 < 1000000 then rn E d 208 236 [some (vR (some t)), some (vI x1_), some (vI x2_), some (vI x3_), some (vI x4_), some (vI x5_), some (vI x6_), some (vI x7_), some (vI x8_), some (vI x4)] [] h else
    rn E d 208 240 [some (vR (some t)), some (vI x1_), some (vI x2_), some (vI x3_), some (vI x4_), some (vI x5_), some (vI x6_), some (vI x7_), some (vI x8_), some (vI x4)] [vI 1000000] h))) := rn_b (b := b208_203) rfl
theorem e208_236 (E : EV) (d : Nat) (t : Nat) (x1_ : Int32) (x2_ : Int32) (x3_ : Int32) (x4_ : Int32) (x5_ : Int32) (x6_ : Int32) (x7_ : Int32) (x8_ : Int32) (x9_ : Int32) (h : AH) : rn E d 208 236 [some (vR (some t)), some (vI x1_), some (vI x2_), some (vI x3_), some (vI x4_), some (vI x5_), some (vI x6_), some (vI x7_), some (vI x8_), some (vI x9_)] [] h =
    rn E d 208 240 [some (vR (some t)), some (vI x1_), some (vI x2_), some (vI x3_), some (vI x4_), some (vI x5_), some (vI x6_), some (vI x7_), some (vI x8_), some (vI x9_)] [vI (x9_ + x3_)] h := rn_b (b := b208_236) rfl
theorem e208_240 (E : EV) (d : Nat) (t : Nat) (x1_ : Int32) (x2_ : Int32) (x3_ : Int32) (x4_ : Int32) (x5_ : Int32) (x6_ : Int32) (x7_ : Int32) (x8_ : Int32) (x9_ : Int32) (s0_ : Int32) (h : AH) : rn E d 208 240 [some (vR (some t)), some (vI x1_), some (vI x2_), some (vI x3_), some (vI x4_), some (vI x5_), some (vI x6_), some (vI x7_), some (vI x8_), some (vI x9_)] [vI s0_] h =
    some (Sum.inl (some (vI s0_)), h) := rn_b (b := b208_240) rfl
/-! 209 FastPlaneModel.two(III)I -/
theorem c209 (E : EV) (d : Nat) (x0_ : Int32) (x1_ : Int32) (x2_ : Int32) (h : AH) : cal E (d + 1) 209 [vI x0_, vI x1_, vI x2_] h = rn E d 209 0 [some (vI x0_), some (vI x1_), some (vI x2_)] [] h := cal_rn rfl rfl
theorem e209_0 (E : EV) (d : Nat) (x0_ : Int32) (x1_ : Int32) (x2_ : Int32) (h : AH) : rn E d 209 0 [some (vI x0_), some (vI x1_), some (vI x2_)] [] h =
    if x0_ = 38 then rn E d 209 161 [some (vI x0_), some (vI x1_), some (vI x2_)] [] h else
    if x0_ = 39 then rn E d 209 175 [some (vI x0_), some (vI x1_), some (vI x2_)] [] h else
    if x0_ = 40 then rn E d 209 175 [some (vI x0_), some (vI x1_), some (vI x2_)] [] h else
    if x0_ = 41 then rn E d 209 175 [some (vI x0_), some (vI x1_), some (vI x2_)] [] h else
    if x0_ = 42 then rn E d 209 124 [some (vI x0_), some (vI x1_), some (vI x2_)] [] h else
    if x0_ = 43 then rn E d 209 116 [some (vI x0_), some (vI x1_), some (vI x2_)] [] h else
    if x0_ = 44 then rn E d 209 175 [some (vI x0_), some (vI x1_), some (vI x2_)] [] h else
    if x0_ = 45 then rn E d 209 120 [some (vI x0_), some (vI x1_), some (vI x2_)] [] h else
    if x0_ = 46 then rn E d 209 175 [some (vI x0_), some (vI x1_), some (vI x2_)] [] h else
    if x0_ = 47 then rn E d 209 175 [some (vI x0_), some (vI x1_), some (vI x2_)] [] h else
    if x0_ = 48 then rn E d 209 175 [some (vI x0_), some (vI x1_), some (vI x2_)] [] h else
    if x0_ = 49 then rn E d 209 175 [some (vI x0_), some (vI x1_), some (vI x2_)] [] h else
    if x0_ = 50 then rn E d 209 175 [some (vI x0_), some (vI x1_), some (vI x2_)] [] h else
    if x0_ = 51 then rn E d 209 175 [some (vI x0_), some (vI x1_), some (vI x2_)] [] h else
    if x0_ = 52 then rn E d 209 175 [some (vI x0_), some (vI x1_), some (vI x2_)] [] h else
    if x0_ = 53 then rn E d 209 175 [some (vI x0_), some (vI x1_), some (vI x2_)] [] h else
    if x0_ = 54 then rn E d 209 175 [some (vI x0_), some (vI x1_), some (vI x2_)] [] h else
    if x0_ = 55 then rn E d 209 175 [some (vI x0_), some (vI x1_), some (vI x2_)] [] h else
    if x0_ = 56 then rn E d 209 175 [some (vI x0_), some (vI x1_), some (vI x2_)] [] h else
    if x0_ = 57 then rn E d 209 175 [some (vI x0_), some (vI x1_), some (vI x2_)] [] h else
    if x0_ = 58 then rn E d 209 175 [some (vI x0_), some (vI x1_), some (vI x2_)] [] h else
    if x0_ = 59 then rn E d 209 175 [some (vI x0_), some (vI x1_), some (vI x2_)] [] h else
    if x0_ = 60 then rn E d 209 128 [some (vI x0_), some (vI x1_), some (vI x2_)] [] h else
    if x0_ = 61 then rn E d 209 150 [some (vI x0_), some (vI x1_), some (vI x2_)] [] h else
    if x0_ = 62 then rn E d 209 139 [some (vI x0_), some (vI x1_), some (vI x2_)] [] h else
    rn E d 209 175 [some (vI x0_), some (vI x1_), some (vI x2_)] [] h := rn_b (b := b209_0) rfl
theorem e209_116 (E : EV) (d : Nat) (x0_ : Int32) (x1_ : Int32) (x2_ : Int32) (h : AH) : rn E d 209 116 [some (vI x0_), some (vI x1_), some (vI x2_)] [] h =
    some (Sum.inl (some (vI (x1_ + x2_))), h) := rn_b (b := b209_116) rfl
theorem e209_120 (E : EV) (d : Nat) (x0_ : Int32) (x1_ : Int32) (x2_ : Int32) (h : AH) : rn E d 209 120 [some (vI x0_), some (vI x1_), some (vI x2_)] [] h =
    some (Sum.inl (some (vI (x1_ - x2_))), h) := rn_b (b := b209_120) rfl
theorem e209_124 (E : EV) (d : Nat) (x0_ : Int32) (x1_ : Int32) (x2_ : Int32) (h : AH) : rn E d 209 124 [some (vI x0_), some (vI x1_), some (vI x2_)] [] h =
    some (Sum.inl (some (vI (x1_ * x2_))), h) := rn_b (b := b209_124) rfl
theorem e209_128 (E : EV) (d : Nat) (x0_ : Int32) (x1_ : Int32) (x2_ : Int32) (h : AH) : rn E d 209 128 [some (vI x0_), some (vI x1_), some (vI x2_)] [] h =
    if x2_ ≤ x1_ then rn E d 209 137 [some (vI x0_), some (vI x1_), some (vI x2_)] [] h else
    rn E d 209 138 [some (vI x0_), some (vI x1_), some (vI x2_)] [vI 1] h := rn_b (b := b209_128) rfl
theorem e209_137 (E : EV) (d : Nat) (x0_ : Int32) (x1_ : Int32) (x2_ : Int32) (h : AH) : rn E d 209 137 [some (vI x0_), some (vI x1_), some (vI x2_)] [] h =
    rn E d 209 138 [some (vI x0_), some (vI x1_), some (vI x2_)] [vI 0] h := rn_b (b := b209_137) rfl
theorem e209_138 (E : EV) (d : Nat) (x0_ : Int32) (x1_ : Int32) (x2_ : Int32) (s0_ : Int32) (h : AH) : rn E d 209 138 [some (vI x0_), some (vI x1_), some (vI x2_)] [vI s0_] h =
    some (Sum.inl (some (vI s0_)), h) := rn_b (b := b209_138) rfl
theorem e209_139 (E : EV) (d : Nat) (x0_ : Int32) (x1_ : Int32) (x2_ : Int32) (h : AH) : rn E d 209 139 [some (vI x0_), some (vI x1_), some (vI x2_)] [] h =
    if x1_ ≤ x2_ then rn E d 209 148 [some (vI x0_), some (vI x1_), some (vI x2_)] [] h else
    rn E d 209 149 [some (vI x0_), some (vI x1_), some (vI x2_)] [vI 1] h := rn_b (b := b209_139) rfl
theorem e209_148 (E : EV) (d : Nat) (x0_ : Int32) (x1_ : Int32) (x2_ : Int32) (h : AH) : rn E d 209 148 [some (vI x0_), some (vI x1_), some (vI x2_)] [] h =
    rn E d 209 149 [some (vI x0_), some (vI x1_), some (vI x2_)] [vI 0] h := rn_b (b := b209_148) rfl
theorem e209_149 (E : EV) (d : Nat) (x0_ : Int32) (x1_ : Int32) (x2_ : Int32) (s0_ : Int32) (h : AH) : rn E d 209 149 [some (vI x0_), some (vI x1_), some (vI x2_)] [vI s0_] h =
    some (Sum.inl (some (vI s0_)), h) := rn_b (b := b209_149) rfl
theorem e209_150 (E : EV) (d : Nat) (x0_ : Int32) (x1_ : Int32) (x2_ : Int32) (h : AH) : rn E d 209 150 [some (vI x0_), some (vI x1_), some (vI x2_)] [] h =
    if x1_ = x2_ then
    rn E d 209 160 [some (vI x0_), some (vI x1_), some (vI x2_)] [vI 1] h
    else rn E d 209 159 [some (vI x0_), some (vI x1_), some (vI x2_)] [] h := rn_b (b := b209_150) rfl
theorem e209_159 (E : EV) (d : Nat) (x0_ : Int32) (x1_ : Int32) (x2_ : Int32) (h : AH) : rn E d 209 159 [some (vI x0_), some (vI x1_), some (vI x2_)] [] h =
    rn E d 209 160 [some (vI x0_), some (vI x1_), some (vI x2_)] [vI 0] h := rn_b (b := b209_159) rfl
theorem e209_160 (E : EV) (d : Nat) (x0_ : Int32) (x1_ : Int32) (x2_ : Int32) (s0_ : Int32) (h : AH) : rn E d 209 160 [some (vI x0_), some (vI x1_), some (vI x2_)] [vI s0_] h =
    some (Sum.inl (some (vI s0_)), h) := rn_b (b := b209_160) rfl
theorem e209_161 (E : EV) (d : Nat) (x0_ : Int32) (x1_ : Int32) (x2_ : Int32) (h : AH) : rn E d 209 161 [some (vI x0_), some (vI x1_), some (vI x2_)] [] h =
    if x1_ = 0 then rn E d 209 173 [some (vI x0_), some (vI x1_), some (vI x2_)] [] h else
    if x2_ = 0 then rn E d 209 173 [some (vI x0_), some (vI x1_), some (vI x2_)] [] h else
    rn E d 209 174 [some (vI x0_), some (vI x1_), some (vI x2_)] [vI 1] h := rn_b (b := b209_161) rfl
theorem e209_173 (E : EV) (d : Nat) (x0_ : Int32) (x1_ : Int32) (x2_ : Int32) (h : AH) : rn E d 209 173 [some (vI x0_), some (vI x1_), some (vI x2_)] [] h =
    rn E d 209 174 [some (vI x0_), some (vI x1_), some (vI x2_)] [vI 0] h := rn_b (b := b209_173) rfl
theorem e209_174 (E : EV) (d : Nat) (x0_ : Int32) (x1_ : Int32) (x2_ : Int32) (s0_ : Int32) (h : AH) : rn E d 209 174 [some (vI x0_), some (vI x1_), some (vI x2_)] [vI s0_] h =
    some (Sum.inl (some (vI s0_)), h) := rn_b (b := b209_174) rfl
theorem e209_175 (E : EV) (d : Nat) (x0_ : Int32) (x1_ : Int32) (x2_ : Int32) (h : AH) : rn E d 209 175 [some (vI x0_), some (vI x1_), some (vI x2_)] [] h =
    if x1_ = 0 then
    if x2_ = 0 then rn E d 209 187 [some (vI x0_), some (vI x1_), some (vI x2_)] [] h else
    rn E d 209 183 [some (vI x0_), some (vI x1_), some (vI x2_)] [] h
    else rn E d 209 183 [some (vI x0_), some (vI x1_), some (vI x2_)] [] h := rn_b (b := b209_175) rfl
theorem e209_183 (E : EV) (d : Nat) (x0_ : Int32) (x1_ : Int32) (x2_ : Int32) (h : AH) : rn E d 209 183 [some (vI x0_), some (vI x1_), some (vI x2_)] [] h =
    rn E d 209 188 [some (vI x0_), some (vI x1_), some (vI x2_)] [vI 1] h := rn_b (b := b209_183) rfl
theorem e209_187 (E : EV) (d : Nat) (x0_ : Int32) (x1_ : Int32) (x2_ : Int32) (h : AH) : rn E d 209 187 [some (vI x0_), some (vI x1_), some (vI x2_)] [] h =
    rn E d 209 188 [some (vI x0_), some (vI x1_), some (vI x2_)] [vI 0] h := rn_b (b := b209_187) rfl
theorem e209_188 (E : EV) (d : Nat) (x0_ : Int32) (x1_ : Int32) (x2_ : Int32) (s0_ : Int32) (h : AH) : rn E d 209 188 [some (vI x0_), some (vI x1_), some (vI x2_)] [vI s0_] h =
    some (Sum.inl (some (vI s0_)), h) := rn_b (b := b209_188) rfl
/-! 210 FastPlaneModel.unit()Z -/
theorem c210 (E : EV) (d : Nat) (t : Nat) (h : AH) : cal E (d + 1) 210 [vR (some t)] h = rn E d 210 0 [some (vR (some t)), none, none, none, none, none] [] h := cal_rn rfl rfl
theorem e210_0 (E : EV) (d : Nat) (t : Nat) (o1_ : Option AV) (o2_ : Option AV) (o3_ : Option AV) (o4_ : Option AV) (o5_ : Option AV) (h : AH) : rn E d 210 0 [some (vR (some t)), o1_, o2_, o3_, o4_, o5_] [] h =
    gd (h.kd t == 23) (gd (h.kd t == 23) (nn (h.R t 145) fun a1 =>
    gd (h.kd a1 == 101 && inb ((h.I t 152) - 1) (h.ln a1)) (if (h.I a1 ((h.I t 152) - 1).toNatClampNeg) ≤ 3 then rn E d 210 31 [some (vR (some t)), o1_, o2_, o3_, o4_, o5_] [] h else
    gd (h.kd t == 23) (gd (h.kd t == 23) (nn (h.R t 145) fun a2 =>
    gd (h.kd a2 == 101 && inb ((h.I t 152) - 1) (h.ln a2)) (if (h.I a2 ((h.I t 152) - 1).toNatClampNeg) < 7 then rn E d 210 35 [some (vR (some t)), o1_, o2_, o3_, o4_, o5_] [] h else
    rn E d 210 31 [some (vR (some t)), o1_, o2_, o3_, o4_, o5_] [] h)))))) := rn_b (b := b210_0) rfl
theorem e210_31 (E : EV) (d : Nat) (t : Nat) (o1_ : Option AV) (o2_ : Option AV) (o3_ : Option AV) (o4_ : Option AV) (o5_ : Option AV) (h : AH) : rn E d 210 31 [some (vR (some t)), o1_, o2_, o3_, o4_, o5_] [] h =
    rn E d 210 36 [some (vR (some t)), o1_, o2_, o3_, o4_, o5_] [vI 1] h := rn_b (b := b210_31) rfl
theorem e210_35 (E : EV) (d : Nat) (t : Nat) (o1_ : Option AV) (o2_ : Option AV) (o3_ : Option AV) (o4_ : Option AV) (o5_ : Option AV) (h : AH) : rn E d 210 35 [some (vR (some t)), o1_, o2_, o3_, o4_, o5_] [] h =
    rn E d 210 36 [some (vR (some t)), o1_, o2_, o3_, o4_, o5_] [vI 0] h := rn_b (b := b210_35) rfl
theorem e210_36 (E : EV) (d : Nat) (t : Nat) (o1_ : Option AV) (o2_ : Option AV) (o3_ : Option AV) (o4_ : Option AV) (o5_ : Option AV) (s0_ : Int32) (h : AH) : rn E d 210 36 [some (vR (some t)), o1_, o2_, o3_, o4_, o5_] [vI s0_] h =
    if s0_ = 0 then rn E d 210 55 [some (vR (some t)), some (vI s0_), o2_, o3_, o4_, o5_] [] h else
    gd (h.kd t == 23) (cI (cal E d 152 [vR (some t), vL 7237492] h) th fun v1 h =>
    if v1 = 0 then rn E d 210 55 [some (vR (some t)), some (vI s0_), o2_, o3_, o4_, o5_] [] h else
    rn E d 210 56 [some (vR (some t)), some (vI s0_), o2_, o3_, o4_, o5_] [vI 1] h) := rn_b (b := b210_36) rfl
theorem e210_55 (E : EV) (d : Nat) (t : Nat) (x1_ : Int32) (o2_ : Option AV) (o3_ : Option AV) (o4_ : Option AV) (o5_ : Option AV) (h : AH) : rn E d 210 55 [some (vR (some t)), some (vI x1_), o2_, o3_, o4_, o5_] [] h =
    rn E d 210 56 [some (vR (some t)), some (vI x1_), o2_, o3_, o4_, o5_] [vI 0] h := rn_b (b := b210_55) rfl
theorem e210_56 (E : EV) (d : Nat) (t : Nat) (x1_ : Int32) (o2_ : Option AV) (o3_ : Option AV) (o4_ : Option AV) (o5_ : Option AV) (s0_ : Int32) (h : AH) : rn E d 210 56 [some (vR (some t)), some (vI x1_), o2_, o3_, o4_, o5_] [vI s0_] h =
    gd (h.kd t == 23) (cI (cal E d 153 [vR (some t), vI 40] h) th fun v1 h =>
    gd (h.kd t == 23) (cI (cal E d 215 [vR (some t)] h) th fun v2 h =>
    if s0_ = 0 then
    if v2 = 0 then
    gd (h.kd t == 23) (if (h.I t 112) = 4 then rn E d 210 91 [some (vR (some t)), some (vI x1_), some (vI s0_), some (vI v1), some (vI v2), o5_] [] h else
    if v1 = 0 then rn E d 210 117 [some (vR (some t)), some (vI x1_), some (vI s0_), some (vI v1), some (vI v2), o5_] [] h else
    rn E d 210 91 [some (vR (some t)), some (vI x1_), some (vI s0_), some (vI v1), some (vI v2), o5_] [] h)
    else rn E d 210 91 [some (vR (some t)), some (vI x1_), some (vI s0_), some (vI v1), some (vI v2), o5_] [] h
    else rn E d 210 100 [some (vR (some t)), some (vI x1_), some (vI s0_), some (vI v1), some (vI v2), o5_] [] h)) := rn_b (b := b210_56) rfl
theorem e210_91 (E : EV) (d : Nat) (t : Nat) (x1_ : Int32) (x2_ : Int32) (x3_ : Int32) (x4_ : Int32) (o5_ : Option AV) (h : AH) : rn E d 210 91 [some (vR (some t)), some (vI x1_), some (vI x2_), some (vI x3_), some (vI x4_), o5_] [] h =
    gd (h.kd t == 23) (if (h.I t 150) = 60 then rn E d 210 117 [some (vR (some t)), some (vI x1_), some (vI x2_), some (vI x3_), some (vI x4_), o5_] [] h else
    rn E d 210 100 [some (vR (some t)), some (vI x1_), some (vI x2_), some (vI x3_), some (vI x4_), o5_] [] h) := rn_b (b := b210_91) rfl
theorem e210_100 (E : EV) (d : Nat) (t : Nat) (x1_ : Int32) (x2_ : Int32) (x3_ : Int32) (x4_ : Int32) (o5_ : Option AV) (h : AH) : rn E d 210 100 [some (vR (some t)), some (vI x1_), some (vI x2_), some (vI x3_), some (vI x4_), o5_] [] h =
    if x2_ = 0 then
    if x3_ = 0 then rn E d 210 121 [some (vR (some t)), some (vI x1_), some (vI x2_), some (vI x3_), some (vI x4_), o5_] [] h else
    rn E d 210 108 [some (vR (some t)), some (vI x1_), some (vI x2_), some (vI x3_), some (vI x4_), o5_] [] h
    else rn E d 210 108 [some (vR (some t)), some (vI x1_), some (vI x2_), some (vI x3_), some (vI x4_), o5_] [] h := rn_b (b := b210_100) rfl
theorem e210_108 (E : EV) (d : Nat) (t : Nat) (x1_ : Int32) (x2_ : Int32) (x3_ : Int32) (x4_ : Int32) (o5_ : Option AV) (h : AH) : rn E d 210 108 [some (vR (some t)), some (vI x1_), some (vI x2_), some (vI x3_), some (vI x4_), o5_] [] h =
    gd (h.kd t == 23) (if (h.I t 151) = 7 then
    rn E d 210 117 [some (vR (some t)), some (vI x1_), some (vI x2_), some (vI x3_), some (vI x4_), o5_] [] h
    else rn E d 210 121 [some (vR (some t)), some (vI x1_), some (vI x2_), some (vI x3_), some (vI x4_), o5_] [] h) := rn_b (b := b210_108) rfl
theorem e210_117 (E : EV) (d : Nat) (t : Nat) (x1_ : Int32) (x2_ : Int32) (x3_ : Int32) (x4_ : Int32) (o5_ : Option AV) (h : AH) : rn E d 210 117 [some (vR (some t)), some (vI x1_), some (vI x2_), some (vI x3_), some (vI x4_), o5_] [] h =
    gd (h.kd t == 23) (cV (cal E d 217 [vR (some t)] h) th fun h =>
    rn E d 210 121 [some (vR (some t)), some (vI x1_), some (vI x2_), some (vI x3_), some (vI x4_), o5_] [] h) := rn_b (b := b210_117) rfl
theorem e210_121 (E : EV) (d : Nat) (t : Nat) (x1_ : Int32) (x2_ : Int32) (x3_ : Int32) (x4_ : Int32) (o5_ : Option AV) (h : AH) : rn E d 210 121 [some (vR (some t)), some (vI x1_), some (vI x2_), some (vI x3_), some (vI x4_), o5_] [] h =
    gd (h.kd t == 23) (cI (cal E d 143 [vR (some t)] h) th fun v1 h =>
    if v1 = 0 then rn E d 210 147 [some (vR (some t)), some (vI x1_), some (vI x2_), some (vI x3_), some (vI x4_), o5_] [] h else
    gd (h.kd t == 23) (cI (cal E d 163 [vR (some t), vI x4_] h) th fun v2 h =>
    if v2 = 0 then
    gd (h.kd t == 23) (gd (h.kd t == 23) (cV (cal E d 124 [vR (some t), vI 7, vI (h.I t 110)] h) th fun h =>
    rn E d 210 147 [some (vR (some t)), some (vI x1_), some (vI x2_), some (vI x3_), some (vI x4_), o5_] [] h))
    else rn E d 210 147 [some (vR (some t)), some (vI x1_), some (vI x2_), some (vI x3_), some (vI x4_), o5_] [] h)) := rn_b (b := b210_121) rfl
theorem e210_147 (E : EV) (d : Nat) (t : Nat) (x1_ : Int32) (x2_ : Int32) (x3_ : Int32) (x4_ : Int32) (o5_ : Option AV) (h : AH) : rn E d 210 147 [some (vR (some t)), some (vI x1_), some (vI x2_), some (vI x3_), some (vI x4_), o5_] [] h =
    gd (h.kd t == 23) (cI (cal E d 143 [vR (some t)] h) th fun v1 h =>
    if v1 = 0 then
    some (Sum.inl (some (vI 1)), h)
    else rn E d 210 156 [some (vR (some t)), some (vI x1_), some (vI x2_), some (vI x3_), some (vI x4_), o5_] [] h) := rn_b (b := b210_147) rfl
theorem e210_156 (E : EV) (d : Nat) (t : Nat) (x1_ : Int32) (x2_ : Int32) (x3_ : Int32) (x4_ : Int32) (o5_ : Option AV) (h : AH) : rn E d 210 156 [some (vR (some t)), some (vI x1_), some (vI x2_), some (vI x3_), some (vI x4_), o5_] [] h =
    gd (h.kd t == 23) (if x2_ = 0 then rn E d 210 169 [some (vR (some t)), some (vI x1_), some (vI x2_), some (vI x3_), some (vI x4_), o5_] [vI (h.I t 150), vR (some t)] h else
    rn E d 210 170 [some (vR (some t)), some (vI x1_), some (vI x2_), some (vI x3_), some (vI x4_), o5_] [vI 0, vI (h.I t 150), vR (some t)] h) := rn_b (b := b210_156) rfl
theorem e210_169 (E : EV) (d : Nat) (t : Nat) (x1_ : Int32) (x2_ : Int32) (x3_ : Int32) (x4_ : Int32) (o5_ : Option AV) (s0_ : Option Nat) (s1_ : Int32) (h : AH) : rn E d 210 169 [some (vR (some t)), some (vI x1_), some (vI x2_), some (vI x3_), some (vI x4_), o5_] [vI s1_, vR s0_] h =
    rn E d 210 170 [some (vR (some t)), some (vI x1_), some (vI x2_), some (vI x3_), some (vI x4_), o5_] [vI 1, vI s1_, vR s0_] h := rn_b (b := b210_169) rfl
theorem e210_170 (E : EV) (d : Nat) (t : Nat) (x1_ : Int32) (x2_ : Int32) (x3_ : Int32) (x4_ : Int32) (o5_ : Option AV) (s0_ : Option Nat) (s1_ : Int32) (s2_ : Int32) (h : AH) : rn E d 210 170 [some (vR (some t)), some (vI x1_), some (vI x2_), some (vI x3_), some (vI x4_), o5_] [vI s2_, vI s1_, vR s0_] h =
    nn s0_ fun a1 =>
    gd ((h.kd a1 == 23) && decide (E.bs ≤ a1) && true) (hs (h.setI a1 150 (s1_ + s2_)) fun h =>
    if x4_ = 0 then
    gd (h.kd t == 23) (rn E d 210 187 [some (vR (some t)), some (vI x1_), some (vI x2_), some (vI x3_), some (vI x4_), o5_] [vI (h.I t 113)] h)
    else rn E d 210 186 [some (vR (some t)), some (vI x1_), some (vI x2_), some (vI x3_), some (vI x4_), o5_] [] h) := rn_b (b := b210_170) rfl
theorem e210_186 (E : EV) (d : Nat) (t : Nat) (x1_ : Int32) (x2_ : Int32) (x3_ : Int32) (x4_ : Int32) (o5_ : Option AV) (h : AH) : rn E d 210 186 [some (vR (some t)), some (vI x1_), some (vI x2_), some (vI x3_), some (vI x4_), o5_] [] h =
    rn E d 210 187 [some (vR (some t)), some (vI x1_), some (vI x2_), some (vI x3_), some (vI x4_), o5_] [vI 0] h := rn_b (b := b210_186) rfl
theorem e210_187 (E : EV) (d : Nat) (t : Nat) (x1_ : Int32) (x2_ : Int32) (x3_ : Int32) (x4_ : Int32) (o5_ : Option AV) (s0_ : Int32) (h : AH) : rn E d 210 187 [some (vR (some t)), some (vI x1_), some (vI x2_), some (vI x3_), some (vI x4_), o5_] [vI s0_] h =
    gd (h.kd t == 23) (cV (cal E d 170 [vR (some t)] h) th fun h =>
    if x2_ = 0 then
    if x3_ = 0 then rn E d 210 229 [some (vR (some t)), some (vI x1_), some (vI x2_), some (vI x3_), some (vI x4_), some (vI s0_)] [] h else
    rn E d 210 201 [some (vR (some t)), some (vI x1_), some (vI x2_), some (vI x3_), some (vI x4_), some (vI s0_)] [] h
    else rn E d 210 201 [some (vR (some t)), some (vI x1_), some (vI x2_), some (vI x3_), some (vI x4_), some (vI s0_)] [] h) := rn_b (b := b210_187) rfl
theorem e210_201 (E : EV) (d : Nat) (t : Nat) (x1_ : Int32) (x2_ : Int32) (x3_ : Int32) (x4_ : Int32) (x5_ : Int32) (h : AH) : rn E d 210 201 [some (vR (some t)), some (vI x1_), some (vI x2_), some (vI x3_), some (vI x4_), some (vI x5_)] [] h =
    if x2_ = 0 then rn E d 210 210 [some (vR (some t)), some (vI x1_), some (vI x2_), some (vI x3_), some (vI x4_), some (vI x5_)] [vR (some t)] h else
    rn E d 210 212 [some (vR (some t)), some (vI x1_), some (vI x2_), some (vI x3_), some (vI x4_), some (vI x5_)] [vI 3, vR (some t)] h := rn_b (b := b210_201) rfl
theorem e210_210 (E : EV) (d : Nat) (t : Nat) (x1_ : Int32) (x2_ : Int32) (x3_ : Int32) (x4_ : Int32) (x5_ : Int32) (s0_ : Option Nat) (h : AH) : rn E d 210 210 [some (vR (some t)), some (vI x1_), some (vI x2_), some (vI x3_), some (vI x4_), some (vI x5_)] [vR s0_] h =
    rn E d 210 212 [some (vR (some t)), some (vI x1_), some (vI x2_), some (vI x3_), some (vI x4_), some (vI x5_)] [vI 7, vR s0_] h := rn_b (b := b210_210) rfl
theorem e210_212 (E : EV) (d : Nat) (t : Nat) (x1_ : Int32) (x2_ : Int32) (x3_ : Int32) (x4_ : Int32) (x5_ : Int32) (s0_ : Option Nat) (s1_ : Int32) (h : AH) : rn E d 210 212 [some (vR (some t)), some (vI x1_), some (vI x2_), some (vI x3_), some (vI x4_), some (vI x5_)] [vI s1_, vR s0_] h =
    gd (rcO 176 [vR s0_, vI s1_, vI 126] h) (cV (cal E d 181 [vR s0_, vI s1_, vI 126] h) th fun h =>
    gd (h.kd t == 23) (gd ((h.kd t == 23) && decide (E.bs ≤ t) && true) (hs (h.setI t 151 ((h.I t 151) + 1)) fun h =>
    some (Sum.inl (some (vI 1)), h)))) := rn_b (b := b210_212) rfl
theorem e210_229 (E : EV) (d : Nat) (t : Nat) (x1_ : Int32) (x2_ : Int32) (x3_ : Int32) (x4_ : Int32) (x5_ : Int32) (h : AH) : rn E d 210 229 [some (vR (some t)), some (vI x1_), some (vI x2_), some (vI x3_), some (vI x4_), some (vI x5_)] [] h =
    if x4_ = 0 then
    rn E d 210 242 [some (vR (some t)), some (vI x1_), some (vI x2_), some (vI x3_), some (vI x4_), some (vI x5_)] [vI 110, vR (some t)] h
    else rn E d 210 240 [some (vR (some t)), some (vI x1_), some (vI x2_), some (vI x3_), some (vI x4_), some (vI x5_)] [vR (some t)] h := rn_b (b := b210_229) rfl
theorem e210_240 (E : EV) (d : Nat) (t : Nat) (x1_ : Int32) (x2_ : Int32) (x3_ : Int32) (x4_ : Int32) (x5_ : Int32) (s0_ : Option Nat) (h : AH) : rn E d 210 240 [some (vR (some t)), some (vI x1_), some (vI x2_), some (vI x3_), some (vI x4_), some (vI x5_)] [vR s0_] h =
    rn E d 210 242 [some (vR (some t)), some (vI x1_), some (vI x2_), some (vI x3_), some (vI x4_), some (vI x5_)] [vI x4_, vR s0_] h := rn_b (b := b210_240) rfl
theorem e210_242 (E : EV) (d : Nat) (t : Nat) (x1_ : Int32) (x2_ : Int32) (x3_ : Int32) (x4_ : Int32) (x5_ : Int32) (s0_ : Option Nat) (s1_ : Int32) (h : AH) : rn E d 210 242 [some (vR (some t)), some (vI x1_), some (vI x2_), some (vI x3_), some (vI x4_), some (vI x5_)] [vI s1_, vR s0_] h =
    gd (rcO 174 [vR s0_, vI s1_, vI x5_] h) (cV (cal E d 202 [vR s0_, vI s1_, vI x5_] h) th fun h =>
    some (Sum.inl (some (vI 0)), h)) := rn_b (b := b210_242) rfl
/-! 211 FastPlaneModel.unlikeToFly(II)I -/
theorem c211 (E : EV) (d : Nat) (t : Nat) (x1_ : Int32) (x2_ : Int32) (h : AH) : cal E (d + 1) 211 [vR (some t), vI x1_, vI x2_] h = rn E d 211 0 [some (vR (some t)), some (vI x1_), some (vI x2_), none, none, none] [] h := cal_rn rfl rfl
theorem e211_0 (E : EV) (d : Nat) (t : Nat) (x1_ : Int32) (x2_ : Int32) (o3_ : Option AV) (o4_ : Option AV) (o5_ : Option AV) (h : AH) : rn E d 211 0 [some (vR (some t)), some (vI x1_), some (vI x2_), o3_, o4_, o5_] [] h =
    rn E d 211 2 [some (vR (some t)), some (vI x1_), some (vI x2_), some (vI 0), o4_, o5_] [] h := rn_b (b := b211_0) rfl
theorem e211_2 (E : EV) (d : Nat) (t : Nat) (x1_ : Int32) (x2_ : Int32) (x3_ : Int32) (o4_ : Option AV) (o5_ : Option AV) (h : AH) : rn E d 211 2 [some (vR (some t)), some (vI x1_), some (vI x2_), some (vI x3_), o4_, o5_] [] h =
    if 8 ≤ x3_ then rn E d 211 84 [some (vR (some t)), some (vI x1_), some (vI x2_), some (vI x3_), o4_, o5_] [] h else
    rn E d 211 11 [some (vR (some t)), some (vI x1_), some (vI x2_), some (vI x3_), some (vI 0), o5_] [] h := rn_b (b := b211_2) rfl
theorem e211_11 (E : EV) (d : Nat) (t : Nat) (x1_ : Int32) (x2_ : Int32) (x3_ : Int32) (x4_ : Int32) (o5_ : Option AV) (h : AH) : rn E d 211 11 [some (vR (some t)), some (vI x1_), some (vI x2_), some (vI x3_), some (vI x4_), o5_] [] h =
    if 24 ≤ x4_ then rn E d 211 78 [some (vR (some t)), some (vI x1_), some (vI x2_), some (vI x3_), some (vI x4_), o5_] [] h else
    rn E d 211 21 [some (vR (some t)), some (vI x1_), some (vI x2_), some (vI x3_), some (vI x4_), some (vI 0)] [] h := rn_b (b := b211_11) rfl
theorem e211_21 (E : EV) (d : Nat) (t : Nat) (x1_ : Int32) (x2_ : Int32) (x3_ : Int32) (x4_ : Int32) (x5_ : Int32) (h : AH) : rn E d 211 21 [some (vR (some t)), some (vI x1_), some (vI x2_), some (vI x3_), some (vI x4_), some (vI x5_)] [] h =
    if 31 ≤ x5_ then rn E d 211 72 [some (vR (some t)), some (vI x1_), some (vI x2_), some (vI x3_), some (vI x4_), some (vI x5_)] [] h else
    gd (h.kd t == 23) (cI (cal E d 133 [vR (some t), vI x1_, vI x3_, vI x4_, vI x5_] h) th fun v1 h =>
    gd (h.kd t == 23) (cI (cal E d 133 [vR (some t), vI x2_, vI x3_, vI x4_, vI x5_] h) th fun v2 h =>
    if v1 = v2 then rn E d 211 66 [some (vR (some t)), some (vI x1_), some (vI x2_), some (vI x3_), some (vI x4_), some (vI x5_)] [] h else
    some (Sum.inl (some (vI (((10000 * x3_) + (100 * x4_)) + x5_))), h))) := rn_b (b := b211_21) rfl
theorem e211_66 (E : EV) (d : Nat) (t : Nat) (x1_ : Int32) (x2_ : Int32) (x3_ : Int32) (x4_ : Int32) (x5_ : Int32) (h : AH) : rn E d 211 66 [some (vR (some t)), some (vI x1_), some (vI x2_), some (vI x3_), some (vI x4_), some (vI x5_)] [] h =
    hs (x5_ + 1) fun x1 =>
    rn E d 211 21 [some (vR (some t)), some (vI x1_), some (vI x2_), some (vI x3_), some (vI x4_), some (vI x1)] [] h := rn_b (b := b211_66) rfl
theorem e211_72 (E : EV) (d : Nat) (t : Nat) (x1_ : Int32) (x2_ : Int32) (x3_ : Int32) (x4_ : Int32) (x5_ : Int32) (h : AH) : rn E d 211 72 [some (vR (some t)), some (vI x1_), some (vI x2_), some (vI x3_), some (vI x4_), some (vI x5_)] [] h =
    hs (x4_ + 1) fun x1 =>
    rn E d 211 11 [some (vR (some t)), some (vI x1_), some (vI x2_), some (vI x3_), some (vI x1), some (vI x5_)] [] h := rn_b (b := b211_72) rfl
theorem e211_78 (E : EV) (d : Nat) (t : Nat) (x1_ : Int32) (x2_ : Int32) (x3_ : Int32) (x4_ : Int32) (o5_ : Option AV) (h : AH) : rn E d 211 78 [some (vR (some t)), some (vI x1_), some (vI x2_), some (vI x3_), some (vI x4_), o5_] [] h =
    hs (x3_ + 1) fun x1 =>
    rn E d 211 2 [some (vR (some t)), some (vI x1_), some (vI x2_), some (vI x1), some (vI x4_), o5_] [] h := rn_b (b := b211_78) rfl
theorem e211_84 (E : EV) (d : Nat) (t : Nat) (x1_ : Int32) (x2_ : Int32) (x3_ : Int32) (o4_ : Option AV) (o5_ : Option AV) (h : AH) : rn E d 211 84 [some (vR (some t)), some (vI x1_), some (vI x2_), some (vI x3_), o4_, o5_] [] h =
    some (Sum.inl (some (vI (-1))), h) := rn_b (b := b211_84) rfl
/-! 212 FastPlaneModel.unlike(IIZ)I -/
theorem c212 (E : EV) (d : Nat) (t : Nat) (x1_ : Int32) (x2_ : Int32) (x3_ : Int32) (h : AH) : cal E (d + 1) 212 [vR (some t), vI x1_, vI x2_, vI x3_] h = rn E d 212 0 [some (vR (some t)), some (vI x1_), some (vI x2_), some (vI x3_), none, none] [] h := cal_rn rfl rfl
theorem e212_0 (E : EV) (d : Nat) (t : Nat) (x1_ : Int32) (x2_ : Int32) (x3_ : Int32) (o4_ : Option AV) (o5_ : Option AV) (h : AH) : rn E d 212 0 [some (vR (some t)), some (vI x1_), some (vI x2_), some (vI x3_), o4_, o5_] [] h =
    cI (cal E d 151 [vI x1_] h) th fun v1 h =>
    if v1 = 0 then rn E d 212 14 [some (vR (some t)), some (vI x1_), some (vI x2_), some (vI x3_), o4_, o5_] [] h else
    cI (cal E d 151 [vI x2_] h) th fun v2 h =>
    if v2 = 0 then
    rn E d 212 14 [some (vR (some t)), some (vI x1_), some (vI x2_), some (vI x3_), o4_, o5_] [] h
    else rn E d 212 16 [some (vR (some t)), some (vI x1_), some (vI x2_), some (vI x3_), o4_, o5_] [] h := rn_b (b := b212_0) rfl
theorem e212_14 (E : EV) (d : Nat) (t : Nat) (x1_ : Int32) (x2_ : Int32) (x3_ : Int32) (o4_ : Option AV) (o5_ : Option AV) (h : AH) : rn E d 212 14 [some (vR (some t)), some (vI x1_), some (vI x2_), some (vI x3_), o4_, o5_] [] h =
    some (Sum.inl (some (vI (-1))), h) := rn_b (b := b212_14) rfl
theorem e212_16 (E : EV) (d : Nat) (t : Nat) (x1_ : Int32) (x2_ : Int32) (x3_ : Int32) (o4_ : Option AV) (o5_ : Option AV) (h : AH) : rn E d 212 16 [some (vR (some t)), some (vI x1_), some (vI x2_), some (vI x3_), o4_, o5_] [] h =
    if x3_ = 0 then rn E d 212 27 [some (vR (some t)), some (vI x1_), some (vI x2_), some (vI x3_), o4_, o5_] [] h else
    gd (h.kd t == 23) (cI (cal E d 211 [vR (some t), vI x1_, vI x2_] h) th fun v1 h =>
    some (Sum.inl (some (vI v1)), h)) := rn_b (b := b212_16) rfl
theorem e212_27 (E : EV) (d : Nat) (t : Nat) (x1_ : Int32) (x2_ : Int32) (x3_ : Int32) (o4_ : Option AV) (o5_ : Option AV) (h : AH) : rn E d 212 27 [some (vR (some t)), some (vI x1_), some (vI x2_), some (vI x3_), o4_, o5_] [] h =
    rn E d 212 30 [some (vR (some t)), some (vI x1_), some (vI x2_), some (vI x3_), some (vI 0), o5_] [] h := rn_b (b := b212_27) rfl
theorem e212_30 (E : EV) (d : Nat) (t : Nat) (x1_ : Int32) (x2_ : Int32) (x3_ : Int32) (x4_ : Int32) (o5_ : Option AV) (h : AH) : rn E d 212 30 [some (vR (some t)), some (vI x1_), some (vI x2_), some (vI x3_), some (vI x4_), o5_] [] h =
    if 200 ≤ x4_ then rn E d 212 90 [some (vR (some t)), some (vI x1_), some (vI x2_), some (vI x3_), some (vI x4_), o5_] [] h else
    rn E d 212 41 [some (vR (some t)), some (vI x1_), some (vI x2_), some (vI x3_), some (vI x4_), some (vI 0)] [] h := rn_b (b := b212_30) rfl
theorem e212_41 (E : EV) (d : Nat) (t : Nat) (x1_ : Int32) (x2_ : Int32) (x3_ : Int32) (x4_ : Int32) (x5_ : Int32) (h : AH) : rn E d 212 41 [some (vR (some t)), some (vI x1_), some (vI x2_), some (vI x3_), some (vI x4_), some (vI x5_)] [] h =
    if 100 ≤ x5_ then rn E d 212 84 [some (vR (some t)), some (vI x1_), some (vI x2_), some (vI x3_), some (vI x4_), some (vI x5_)] [] h else
    gd (h.kd t == 23) (cI (cal E d 160 [vR (some t), vI x1_, vI x4_, vI x5_] h) th fun v1 h =>
    gd (h.kd t == 23) (cI (cal E d 160 [vR (some t), vI x2_, vI x4_, vI x5_] h) th fun v2 h =>
    if v1 = v2 then rn E d 212 78 [some (vR (some t)), some (vI x1_), some (vI x2_), some (vI x3_), some (vI x4_), some (vI x5_)] [] h else
    some (Sum.inl (some (vI ((100 * x4_) + x5_))), h))) := rn_b (b := b212_41) rfl
theorem e212_78 (E : EV) (d : Nat) (t : Nat) (x1_ : Int32) (x2_ : Int32) (x3_ : Int32) (x4_ : Int32) (x5_ : Int32) (h : AH) : rn E d 212 78 [some (vR (some t)), some (vI x1_), some (vI x2_), some (vI x3_), some (vI x4_), some (vI x5_)] [] h =
    hs (x5_ + 1) fun x1 =>
    rn E d 212 41 [some (vR (some t)), some (vI x1_), some (vI x2_), some (vI x3_), some (vI x4_), some (vI x1)] [] h := rn_b (b := b212_78) rfl
theorem e212_84 (E : EV) (d : Nat) (t : Nat) (x1_ : Int32) (x2_ : Int32) (x3_ : Int32) (x4_ : Int32) (x5_ : Int32) (h : AH) : rn E d 212 84 [some (vR (some t)), some (vI x1_), some (vI x2_), some (vI x3_), some (vI x4_), some (vI x5_)] [] h =
    hs (x4_ + 1) fun x1 =>
    rn E d 212 30 [some (vR (some t)), some (vI x1_), some (vI x2_), some (vI x3_), some (vI x1), some (vI x5_)] [] h := rn_b (b := b212_84) rfl
theorem e212_90 (E : EV) (d : Nat) (t : Nat) (x1_ : Int32) (x2_ : Int32) (x3_ : Int32) (x4_ : Int32) (o5_ : Option AV) (h : AH) : rn E d 212 90 [some (vR (some t)), some (vI x1_), some (vI x2_), some (vI x3_), some (vI x4_), o5_] [] h =
    some (Sum.inl (some (vI (-1))), h) := rn_b (b := b212_90) rfl
/-! 213 FastPlaneModel.untell(I)Z -/
theorem c213 (E : EV) (d : Nat) (t : Nat) (x1_ : Int32) (h : AH) : cal E (d + 1) 213 [vR (some t), vI x1_] h = rn E d 213 0 [some (vR (some t)), some (vI x1_)] [] h := cal_rn rfl rfl
theorem e213_0 (E : EV) (d : Nat) (t : Nat) (x1_ : Int32) (h : AH) : rn E d 213 0 [some (vR (some t)), some (vI x1_)] [] h =
    if x1_ < 0 then rn E d 213 21 [some (vR (some t)), some (vI x1_)] [] h else
    gd (h.kd t == 23) (if (h.I t 171) ≤ x1_ then rn E d 213 21 [some (vR (some t)), some (vI x1_)] [] h else
    gd (h.kd t == 23) (nn (h.R t 169) fun a1 =>
    gd (h.kd a1 == 101 && inb x1_ (h.ln a1)) (if (h.I a1 x1_.toNatClampNeg) < 0 then rn E d 213 23 [some (vR (some t)), some (vI x1_)] [] h else
    rn E d 213 21 [some (vR (some t)), some (vI x1_)] [] h))) := rn_b (b := b213_0) rfl
theorem e213_21 (E : EV) (d : Nat) (t : Nat) (x1_ : Int32) (h : AH) : rn E d 213 21 [some (vR (some t)), some (vI x1_)] [] h =
    some (Sum.inl (some (vI 0)), h) := rn_b (b := b213_21) rfl
theorem e213_23 (E : EV) (d : Nat) (t : Nat) (x1_ : Int32) (h : AH) : rn E d 213 23 [some (vR (some t)), some (vI x1_)] [] h =
    gd (h.kd t == 23) (gd (h.kd t == 23) (nn (h.R t 169) fun a1 =>
    gd (h.kd a1 == 101 && inb x1_ (h.ln a1) && decide (E.bs ≤ a1)) (hs (h.setI a1 x1_.toNatClampNeg (h.I t 172)) fun h =>
    some (Sum.inl (some (vI 1)), h)))) := rn_b (b := b213_23) rfl
/-! 214 FastPlaneModel.waits(IIIII)Z -/
theorem c214 (E : EV) (d : Nat) (t : Nat) (x1_ : Int32) (x2_ : Int32) (x3_ : Int32) (x4_ : Int32) (x5_ : Int32) (h : AH) : cal E (d + 1) 214 [vR (some t), vI x1_, vI x2_, vI x3_, vI x4_, vI x5_] h = rn E d 214 0 [some (vR (some t)), some (vI x1_), some (vI x2_), some (vI x3_), some (vI x4_), some (vI x5_)] [] h := cal_rn rfl rfl
theorem e214_0 (E : EV) (d : Nat) (t : Nat) (x1_ : Int32) (x2_ : Int32) (x3_ : Int32) (x4_ : Int32) (x5_ : Int32) (h : AH) : rn E d 214 0 [some (vR (some t)), some (vI x1_), some (vI x2_), some (vI x3_), some (vI x4_), some (vI x5_)] [] h =
    if x2_ ≤ 0 then rn E d 214 44 [some (vR (some t)), some (vI x1_), some (vI x2_), some (vI x3_), some (vI x4_), some (vI x5_)] [] h else
    gd (h.kd t == 23) (gd (h.kd t == 23) (hs (h.R t 194) fun q2 =>
    cI (cal E d 114 [vI (x4_ + (h.I t 196))] h) th fun v1 h =>
    gd (h.kd t == 23) (cI (cal E d 114 [vI (x5_ + (h.I t 196))] h) th fun v3 h =>
    cI (cal E d 201 [vI x1_, vI (x2_ - 1), vI x3_, vI v1, vI v3] h) th fun v4 h =>
    nn q2 fun a5 =>
    gd ((h.kd a5 == 102 || h.kd a5 == 103) && inb v4 (h.ln a5)) (if (h.I a5 v4.toNatClampNeg) = 0 then rn E d 214 44 [some (vR (some t)), some (vI x1_), some (vI x2_), some (vI x3_), some (vI x4_), some (vI x5_)] [] h else
    rn E d 214 45 [some (vR (some t)), some (vI x1_), some (vI x2_), some (vI x3_), some (vI x4_), some (vI x5_)] [vI 1] h)))) := rn_b (b := b214_0) rfl
theorem e214_44 (E : EV) (d : Nat) (t : Nat) (x1_ : Int32) (x2_ : Int32) (x3_ : Int32) (x4_ : Int32) (x5_ : Int32) (h : AH) : rn E d 214 44 [some (vR (some t)), some (vI x1_), some (vI x2_), some (vI x3_), some (vI x4_), some (vI x5_)] [] h =
    rn E d 214 45 [some (vR (some t)), some (vI x1_), some (vI x2_), some (vI x3_), some (vI x4_), some (vI x5_)] [vI 0] h := rn_b (b := b214_44) rfl
theorem e214_45 (E : EV) (d : Nat) (t : Nat) (x1_ : Int32) (x2_ : Int32) (x3_ : Int32) (x4_ : Int32) (x5_ : Int32) (s0_ : Int32) (h : AH) : rn E d 214 45 [some (vR (some t)), some (vI x1_), some (vI x2_), some (vI x3_), some (vI x4_), some (vI x5_)] [vI s0_] h =
    gd (decide (s0_ = 0) || decide (s0_ = 1)) (some (Sum.inl (some (vI s0_)), h)) := rn_b (b := b214_45) rfl
/-! 215 FastPlaneModel.wordHere()I -/
theorem c215 (E : EV) (d : Nat) (t : Nat) (h : AH) : cal E (d + 1) 215 [vR (some t)] h = rn E d 215 0 [some (vR (some t))] [] h := cal_rn rfl rfl
theorem e215_0 (E : EV) (d : Nat) (t : Nat) (h : AH) : rn E d 215 0 [some (vR (some t))] [] h =
    gd (h.kd t == 23) (cI (cal E d 152 [vR (some t), vL 1818324580] h) th fun v1 h =>
    if v1 = 0 then rn E d 215 13 [some (vR (some t))] [] h else
    some (Sum.inl (some (vI 108)), h)) := rn_b (b := b215_0) rfl
theorem e215_13 (E : EV) (d : Nat) (t : Nat) (h : AH) : rn E d 215 13 [some (vR (some t))] [] h =
    gd (h.kd t == 23) (cI (cal E d 152 [vR (some t), vL 1668248436] h) th fun v1 h =>
    if v1 = 0 then rn E d 215 26 [some (vR (some t))] [] h else
    some (Sum.inl (some (vI 99)), h)) := rn_b (b := b215_13) rfl
theorem e215_26 (E : EV) (d : Nat) (t : Nat) (h : AH) : rn E d 215 26 [some (vR (some t))] [] h =
    gd (h.kd t == 23) (cI (cal E d 152 [vR (some t), vL 470020945000] h) th fun v1 h =>
    if v1 = 0 then rn E d 215 39 [some (vR (some t))] [] h else
    some (Sum.inl (some (vI 109)), h)) := rn_b (b := b215_26) rfl
theorem e215_39 (E : EV) (d : Nat) (t : Nat) (h : AH) : rn E d 215 39 [some (vR (some t))] [] h =
    gd (h.kd t == 23) (cI (cal E d 152 [vR (some t), vL 1870030194] h) th fun v1 h =>
    if v1 = 0 then rn E d 215 52 [some (vR (some t))] [] h else
    some (Sum.inl (some (vI 111)), h)) := rn_b (b := b215_39) rfl
theorem e215_52 (E : EV) (d : Nat) (t : Nat) (h : AH) : rn E d 215 52 [some (vR (some t))] [] h =
    gd (h.kd t == 23) (cI (cal E d 152 [vR (some t), vL 113741193899620] h) th fun v1 h =>
    if v1 = 0 then rn E d 215 65 [some (vR (some t))] [] h else
    some (Sum.inl (some (vI 103)), h)) := rn_b (b := b215_52) rfl
theorem e215_65 (E : EV) (d : Nat) (t : Nat) (h : AH) : rn E d 215 65 [some (vR (some t))] [] h =
    gd (h.kd t == 23) (cI (cal E d 152 [vR (some t), vL 1752135026] h) th fun v1 h =>
    if v1 = 0 then rn E d 215 78 [some (vR (some t))] [] h else
    some (Sum.inl (some (vI 104)), h)) := rn_b (b := b215_65) rfl
theorem e215_78 (E : EV) (d : Nat) (t : Nat) (h : AH) : rn E d 215 78 [some (vR (some t))] [] h =
    gd (h.kd t == 23) (cI (cal E d 152 [vR (some t), vL 495806932324] h) th fun v1 h =>
    if v1 = 0 then rn E d 215 91 [some (vR (some t))] [] h else
    some (Sum.inl (some (vI 115)), h)) := rn_b (b := b215_78) rfl
theorem e215_91 (E : EV) (d : Nat) (t : Nat) (h : AH) : rn E d 215 91 [some (vR (some t))] [] h =
    gd (h.kd t == 23) (cI (cal E d 152 [vR (some t), vL 27419012906970725] h) th fun v1 h =>
    if v1 = 0 then rn E d 215 104 [some (vR (some t))] [] h else
    some (Sum.inl (some (vI 97)), h)) := rn_b (b := b215_91) rfl
theorem e215_104 (E : EV) (d : Nat) (t : Nat) (h : AH) : rn E d 215 104 [some (vR (some t))] [] h =
    gd (h.kd t == 23) (cI (cal E d 152 [vR (some t), vL 495673374574] h) th fun v1 h =>
    if v1 = 0 then rn E d 215 117 [some (vR (some t))] [] h else
    some (Sum.inl (some (vI 119)), h)) := rn_b (b := b215_104) rfl
theorem e215_117 (E : EV) (d : Nat) (t : Nat) (h : AH) : rn E d 215 117 [some (vR (some t))] [] h =
    gd (h.kd t == 23) (cI (cal E d 152 [vR (some t), vL 122545758368371] h) th fun v1 h =>
    if v1 = 0 then rn E d 215 130 [some (vR (some t))] [] h else
    some (Sum.inl (some (vI 116)), h)) := rn_b (b := b215_117) rfl
theorem e215_130 (E : EV) (d : Nat) (t : Nat) (h : AH) : rn E d 215 130 [some (vR (some t))] [] h =
    gd (h.kd t == 23) (cI (cal E d 152 [vR (some t), vL 482955846501] h) th fun v1 h =>
    if v1 = 0 then rn E d 215 145 [some (vR (some t))] [] h else
    rn E d 215 146 [some (vR (some t))] [vI 112] h) := rn_b (b := b215_130) rfl
theorem e215_145 (E : EV) (d : Nat) (t : Nat) (h : AH) : rn E d 215 145 [some (vR (some t))] [] h =
    rn E d 215 146 [some (vR (some t))] [vI 0] h := rn_b (b := b215_145) rfl
theorem e215_146 (E : EV) (d : Nat) (t : Nat) (s0_ : Int32) (h : AH) : rn E d 215 146 [some (vR (some t))] [vI s0_] h =
    some (Sum.inl (some (vI s0_)), h) := rn_b (b := b215_146) rfl
/-! 216 FastPlaneModel.work(III)I -/
theorem c216 (E : EV) (d : Nat) (t : Nat) (x1_ : Int32) (x2_ : Int32) (x3_ : Int32) (h : AH) : cal E (d + 1) 216 [vR (some t), vI x1_, vI x2_, vI x3_] h = rn E d 216 0 [some (vR (some t)), some (vI x1_), some (vI x2_), some (vI x3_), none, none, none] [] h := cal_rn rfl rfl
theorem e216_0 (E : EV) (d : Nat) (t : Nat) (x1_ : Int32) (x2_ : Int32) (x3_ : Int32) (o4_ : Option AV) (o5_ : Option AV) (o6_ : Option AV) (h : AH) : rn E d 216 0 [some (vR (some t)), some (vI x1_), some (vI x2_), some (vI x3_), o4_, o5_, o6_] [] h =
    gd (h.kd t == 23) (nn (h.R t 148) fun a1 =>
    gd ((h.kd a1 == 102 || h.kd a1 == 103) && inb ((4 * x1_) + x2_) (h.ln a1)) (if (h.I a1 ((4 * x1_) + x2_).toNatClampNeg) = 0 then
    some (Sum.inl (some (vI x3_)), h)
    else rn E d 216 15 [some (vR (some t)), some (vI x1_), some (vI x2_), some (vI x3_), o4_, o5_, o6_] [] h)) := rn_b (b := b216_0) rfl
theorem e216_15 (E : EV) (d : Nat) (t : Nat) (x1_ : Int32) (x2_ : Int32) (x3_ : Int32) (o4_ : Option AV) (o5_ : Option AV) (o6_ : Option AV) (h : AH) : rn E d 216 15 [some (vR (some t)), some (vI x1_), some (vI x2_), some (vI x3_), o4_, o5_, o6_] [] h =
    gd (h.kd t == 23) (nn (h.R t 141) fun a1 =>
    gd (h.kd a1 == 101 && inb ((4 * x1_) + x2_) (h.ln a1)) (hs ((700 * x1_) + (h.I a1 ((4 * x1_) + x2_).toNatClampNeg)) fun x2 =>
    rn E d 216 36 [some (vR (some t)), some (vI x1_), some (vI x2_), some (vI x3_), some (vI 0), some (vI x2), o6_] [] h)) := rn_b (b := b216_15) rfl
theorem e216_36 (E : EV) (d : Nat) (t : Nat) (x1_ : Int32) (x2_ : Int32) (x3_ : Int32) (x4_ : Int32) (x5_ : Int32) (o6_ : Option AV) (h : AH) : rn E d 216 36 [some (vR (some t)), some (vI x1_), some (vI x2_), some (vI x3_), some (vI x4_), some (vI x5_), o6_] [] h =
    gd (h.kd t == 23) (nn (h.R t 142) fun a1 =>
    gd (h.kd a1 == 101 && inb ((4 * x1_) + x2_) (h.ln a1)) (if ((700 * x1_) + (h.I a1 ((4 * x1_) + x2_).toNatClampNeg)) ≤ x5_ then rn E d 216 175 [some (vR (some t)), some (vI x1_), some (vI x2_), some (vI x3_), some (vI x4_), some (vI x5_), o6_] [] h else
    gd (h.kd t == 23) (nn (h.R t 143) fun a2 =>
    gd (h.kd a2 == 101 && inb x5_ (h.ln a2)) (hs (h.I a2 x5_.toNatClampNeg) fun x3 =>
    if x3 = 126 then
    gd (h.kd t == 23) (gd (h.kd t == 23) (nn (h.R t 147) fun a4 =>
    gd (h.kd a4 == 101 && inb (x4_ - 1) (h.ln a4)) (if (h.I a4 (x4_ - 1).toNatClampNeg) = 0 then
    rn E d 216 98 [some (vR (some t)), some (vI x1_), some (vI x2_), some (vI x3_), some (vI x4_), some (vI x5_), some (vI x3)] [vI 1, vI (x4_ - 1), vR (h.R t 147)] h
    else rn E d 216 97 [some (vR (some t)), some (vI x1_), some (vI x2_), some (vI x3_), some (vI x4_), some (vI x5_), some (vI x3)] [vI (x4_ - 1), vR (h.R t 147)] h)))
    else rn E d 216 102 [some (vR (some t)), some (vI x1_), some (vI x2_), some (vI x3_), some (vI x4_), some (vI x5_), some (vI x3)] [] h)))) := rn_b (b := b216_36) rfl
theorem e216_97 (E : EV) (d : Nat) (t : Nat) (x1_ : Int32) (x2_ : Int32) (x3_ : Int32) (x4_ : Int32) (x5_ : Int32) (x6_ : Int32) (s0_ : Option Nat) (s1_ : Int32) (h : AH) : rn E d 216 97 [some (vR (some t)), some (vI x1_), some (vI x2_), some (vI x3_), some (vI x4_), some (vI x5_), some (vI x6_)] [vI s1_, vR s0_] h =
    rn E d 216 98 [some (vR (some t)), some (vI x1_), some (vI x2_), some (vI x3_), some (vI x4_), some (vI x5_), some (vI x6_)] [vI 0, vI s1_, vR s0_] h := rn_b (b := b216_97) rfl
theorem e216_98 (E : EV) (d : Nat) (t : Nat) (x1_ : Int32) (x2_ : Int32) (x3_ : Int32) (x4_ : Int32) (x5_ : Int32) (x6_ : Int32) (s0_ : Option Nat) (s1_ : Int32) (s2_ : Int32) (h : AH) : rn E d 216 98 [some (vR (some t)), some (vI x1_), some (vI x2_), some (vI x3_), some (vI x4_), some (vI x5_), some (vI x6_)] [vI s2_, vI s1_, vR s0_] h =
    nn s0_ fun a1 =>
    gd (h.kd a1 == 101 && inb s1_ (h.ln a1) && decide (E.bs ≤ a1)) (hs (h.setI a1 s1_.toNatClampNeg s2_) fun h =>
    rn E d 216 169 [some (vR (some t)), some (vI x1_), some (vI x2_), some (vI x3_), some (vI x4_), some (vI x5_), some (vI x6_)] [] h) := rn_b (b := b216_98) rfl
theorem e216_102 (E : EV) (d : Nat) (t : Nat) (x1_ : Int32) (x2_ : Int32) (x3_ : Int32) (x4_ : Int32) (x5_ : Int32) (x6_ : Int32) (h : AH) : rn E d 216 102 [some (vR (some t)), some (vI x1_), some (vI x2_), some (vI x3_), some (vI x4_), some (vI x5_), some (vI x6_)] [] h =
    cI (cal E d 146 [vI x6_] h) th fun v1 h =>
    if v1 = 0 then rn E d 216 136 [some (vR (some t)), some (vI x1_), some (vI x2_), some (vI x3_), some (vI x4_), some (vI x5_), some (vI x6_)] [] h else
    gd (h.kd t == 23) (gd (h.kd t == 23) (nn (h.R t 144) fun a2 =>
    gd (h.kd a2 == 101 && inb x5_ (h.ln a2)) (gd (h.kd t == 23) (hs (h.R t 147) fun q4 =>
    cI (cal E d 206 [vR (some t), vI x6_, vI (h.I a2 x5_.toNatClampNeg)] h) th fun v3 h =>
    nn q4 fun a5 =>
    gd (h.kd a5 == 101 && inb x4_ (h.ln a5) && decide (E.bs ≤ a5)) (hs (h.setI a5 x4_.toNatClampNeg v3) fun h =>
    hs (x4_ + 1) fun x6 =>
    rn E d 216 169 [some (vR (some t)), some (vI x1_), some (vI x2_), some (vI x3_), some (vI x6), some (vI x5_), some (vI x6_)] [] h))))) := rn_b (b := b216_102) rfl
theorem e216_136 (E : EV) (d : Nat) (t : Nat) (x1_ : Int32) (x2_ : Int32) (x3_ : Int32) (x4_ : Int32) (x5_ : Int32) (x6_ : Int32) (h : AH) : rn E d 216 136 [some (vR (some t)), some (vI x1_), some (vI x2_), some (vI x3_), some (vI x4_), some (vI x5_), some (vI x6_)] [] h =
    hs (x4_ + (-1)) fun x1 =>
    gd (h.kd t == 23) (gd (h.kd t == 23) (nn (h.R t 147) fun a2 =>
    gd (h.kd a2 == 101 && inb (x1 - 1) (h.ln a2)) (gd (h.kd t == 23) (nn (h.R t 147) fun a3 =>
    gd (h.kd a3 == 101 && inb x1 (h.ln a3)) (hs (h.R t 147) fun q5 =>
    cI (cal E d 209 [vI x6_, vI (h.I a2 (x1 - 1).toNatClampNeg), vI (h.I a3 x1.toNatClampNeg)] h) th fun v4 h =>
    nn q5 fun a6 =>
    gd (h.kd a6 == 101 && inb (x1 - 1) (h.ln a6) && decide (E.bs ≤ a6)) (hs (h.setI a6 (x1 - 1).toNatClampNeg v4) fun h =>
    rn E d 216 169 [some (vR (some t)), some (vI x1_), some (vI x2_), some (vI x3_), some (vI x1), some (vI x5_), some (vI x6_)] [] h)))))) := rn_b (b := b216_136) rfl
theorem e216_169 (E : EV) (d : Nat) (t : Nat) (x1_ : Int32) (x2_ : Int32) (x3_ : Int32) (x4_ : Int32) (x5_ : Int32) (x6_ : Int32) (h : AH) : rn E d 216 169 [some (vR (some t)), some (vI x1_), some (vI x2_), some (vI x3_), some (vI x4_), some (vI x5_), some (vI x6_)] [] h =
    hs (x5_ + 1) fun x1 =>
    rn E d 216 36 [some (vR (some t)), some (vI x1_), some (vI x2_), some (vI x3_), some (vI x4_), some (vI x1), some (vI x6_)] [] h := rn_b (b := b216_169) rfl
theorem e216_175 (E : EV) (d : Nat) (t : Nat) (x1_ : Int32) (x2_ : Int32) (x3_ : Int32) (x4_ : Int32) (x5_ : Int32) (o6_ : Option AV) (h : AH) : rn E d 216 175 [some (vR (some t)), some (vI x1_), some (vI x2_), some (vI x3_), some (vI x4_), some (vI x5_), o6_] [] h =
    gd (h.kd t == 23) (nn (h.R t 147) fun a1 =>
    gd (h.kd a1 == 101 && inb 0 (h.ln a1)) (some (Sum.inl (some (vI (h.I a1 (0 : Int32).toNatClampNeg))), h))) := rn_b (b := b216_175) rfl
/-! 217 FastPlaneModel.wrong()V -/
theorem c217 (E : EV) (d : Nat) (t : Nat) (h : AH) : cal E (d + 1) 217 [vR (some t)] h = rn E d 217 0 [some (vR (some t))] [] h := cal_rn rfl rfl
theorem e217_0 (E : EV) (d : Nat) (t : Nat) (h : AH) : rn E d 217 0 [some (vR (some t))] [] h =
    gd (h.kd t == 23) (if (h.I t 112) = 1 then
    rn E d 217 14 [some (vR (some t))] [vI 1, vR (some t)] h
    else rn E d 217 13 [some (vR (some t))] [vR (some t)] h) := rn_b (b := b217_0) rfl
theorem e217_13 (E : EV) (d : Nat) (t : Nat) (s0_ : Option Nat) (h : AH) : rn E d 217 13 [some (vR (some t))] [vR s0_] h =
    rn E d 217 14 [some (vR (some t))] [vI 2, vR s0_] h := rn_b (b := b217_13) rfl
theorem e217_14 (E : EV) (d : Nat) (t : Nat) (s0_ : Option Nat) (s1_ : Int32) (h : AH) : rn E d 217 14 [some (vR (some t))] [vI s1_, vR s0_] h =
    gd (h.kd t == 23) (gd (rcO 213 [vR s0_, vI s1_, vI (h.I t 110)] h) (cV (cal E d 124 [vR s0_, vI s1_, vI (h.I t 110)] h) th fun h =>
    some (Sum.inl none, h))) := rn_b (b := b217_14) rfl
