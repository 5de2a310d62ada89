/-! block equations, by alleqs.py out of the tables -/
set_option maxRecDepth 100000
/-! 0 FastPlaneLaw.law([I)Z -/
theorem c0 (E : EV) (d : Nat) (x0_ : Option Nat) (h : AH) : cal E (d + 1) 0 [vR x0_] h = rn E d 0 0 [some (vR x0_), none, none, none] [] h := cal_rn rfl rfl
theorem e0_0 (E : EV) (d : Nat) (r0_ : Option Nat) (o1_ : Option AV) (o2_ : Option AV) (o3_ : Option AV) (h : AH) : rn E d 0 0 [some (vR r0_), o1_, o2_, o3_] [] h =
    gd (decide (h.nx + 1 ≤ E.lc) && decide (h.us + 34 ≤ E.lu)) (hs h.nx fun n1 => hs (h.mk 1 0 34) fun h =>
    cV (cal E d 24 [vR (some n1)] h) th fun h =>
    gd (decide (h.nx + 1 ≤ E.lc) && decide (h.us + 94 ≤ E.lu)) (hs h.nx fun n2 => hs (h.mk 23 0 94) fun h =>
    cV (cal E d 138 [vR (some n2)] h) th fun h =>
    rn E d 0 18 [some (vR r0_), some (vR (some n1)), some (vR (some n2)), some (vI 0)] [] h)) := rn_b (b := b0_0) rfl
theorem e0_18 (E : EV) (d : Nat) (r0_ : Option Nat) (r1_ : Option Nat) (r2_ : Option Nat) (x3_ : Int32) (h : AH) : rn E d 0 18 [some (vR r0_), some (vR r1_), some (vR r2_), some (vI x3_)] [] h =
    nn r0_ fun a1 =>
    gd (decide (101 ≤ h.kd a1)) (if ((Int32.ofNat (h.ln a1)) - 7) < x3_ then rn E d 0 1471 [some (vR r0_), some (vR r1_), some (vR r2_), some (vI x3_)] [] h else
    nn r0_ fun a2 =>
    gd (h.kd a2 == 101 && inb x3_ (h.ln a2)) (if ((h.I a2 x3_.toNatClampNeg) &&& 63) = 0 then rn E d 0 196 [some (vR r0_), some (vR r1_), some (vR r2_), some (vI x3_)] [] h else
    if ((h.I a2 x3_.toNatClampNeg) &&& 63) = 1 then rn E d 0 259 [some (vR r0_), some (vR r1_), some (vR r2_), some (vI x3_)] [] h else
    if ((h.I a2 x3_.toNatClampNeg) &&& 63) = 2 then rn E d 0 282 [some (vR r0_), some (vR r1_), some (vR r2_), some (vI x3_)] [] h else
    if ((h.I a2 x3_.toNatClampNeg) &&& 63) = 3 then rn E d 0 295 [some (vR r0_), some (vR r1_), some (vR r2_), some (vI x3_)] [] h else
    if ((h.I a2 x3_.toNatClampNeg) &&& 63) = 4 then rn E d 0 318 [some (vR r0_), some (vR r1_), some (vR r2_), some (vI x3_)] [] h else
    if ((h.I a2 x3_.toNatClampNeg) &&& 63) = 5 then rn E d 0 341 [some (vR r0_), some (vR r1_), some (vR r2_), some (vI x3_)] [] h else
    if ((h.I a2 x3_.toNatClampNeg) &&& 63) = 6 then rn E d 0 374 [some (vR r0_), some (vR r1_), some (vR r2_), some (vI x3_)] [] h else
    if ((h.I a2 x3_.toNatClampNeg) &&& 63) = 7 then rn E d 0 397 [some (vR r0_), some (vR r1_), some (vR r2_), some (vI x3_)] [] h else
    if ((h.I a2 x3_.toNatClampNeg) &&& 63) = 8 then rn E d 0 420 [some (vR r0_), some (vR r1_), some (vR r2_), some (vI x3_)] [] h else
    if ((h.I a2 x3_.toNatClampNeg) &&& 63) = 9 then rn E d 0 443 [some (vR r0_), some (vR r1_), some (vR r2_), some (vI x3_)] [] h else
    if ((h.I a2 x3_.toNatClampNeg) &&& 63) = 10 then rn E d 0 502 [some (vR r0_), some (vR r1_), some (vR r2_), some (vI x3_)] [] h else
    if ((h.I a2 x3_.toNatClampNeg) &&& 63) = 11 then rn E d 0 535 [some (vR r0_), some (vR r1_), some (vR r2_), some (vI x3_)] [] h else
    if ((h.I a2 x3_.toNatClampNeg) &&& 63) = 12 then rn E d 0 568 [some (vR r0_), some (vR r1_), some (vR r2_), some (vI x3_)] [] h else
    if ((h.I a2 x3_.toNatClampNeg) &&& 63) = 13 then rn E d 0 601 [some (vR r0_), some (vR r1_), some (vR r2_), some (vI x3_)] [] h else
    if ((h.I a2 x3_.toNatClampNeg) &&& 63) = 14 then rn E d 0 624 [some (vR r0_), some (vR r1_), some (vR r2_), some (vI x3_)] [] h else
    if ((h.I a2 x3_.toNatClampNeg) &&& 63) = 15 then rn E d 0 647 [some (vR r0_), some (vR r1_), some (vR r2_), some (vI x3_)] [] h else
    if ((h.I a2 x3_.toNatClampNeg) &&& 63) = 16 then rn E d 0 680 [some (vR r0_), some (vR r1_), some (vR r2_), some (vI x3_)] [] h else
    if ((h.I a2 x3_.toNatClampNeg) &&& 63) = 17 then rn E d 0 713 [some (vR r0_), some (vR r1_), some (vR r2_), some (vI x3_)] [] h else
    if ((h.I a2 x3_.toNatClampNeg) &&& 63) = 18 then rn E d 0 756 [some (vR r0_), some (vR r1_), some (vR r2_), some (vI x3_)] [] h else
    if ((h.I a2 x3_.toNatClampNeg) &&& 63) = 19 then rn E d 0 789 [some (vR r0_), some (vR r1_), some (vR r2_), some (vI x3_)] [] h else
    if ((h.I a2 x3_.toNatClampNeg) &&& 63) = 20 then rn E d 0 832 [some (vR r0_), some (vR r1_), some (vR r2_), some (vI x3_)] [] h else
    if ((h.I a2 x3_.toNatClampNeg) &&& 63) = 21 then rn E d 0 865 [some (vR r0_), some (vR r1_), some (vR r2_), some (vI x3_)] [] h else
    if ((h.I a2 x3_.toNatClampNeg) &&& 63) = 22 then rn E d 0 878 [some (vR r0_), some (vR r1_), some (vR r2_), some (vI x3_)] [] h else
    if ((h.I a2 x3_.toNatClampNeg) &&& 63) = 23 then rn E d 0 901 [some (vR r0_), some (vR r1_), some (vR r2_), some (vI x3_)] [] h else
    if ((h.I a2 x3_.toNatClampNeg) &&& 63) = 24 then rn E d 0 944 [some (vR r0_), some (vR r1_), some (vR r2_), some (vI x3_)] [] h else
    if ((h.I a2 x3_.toNatClampNeg) &&& 63) = 25 then rn E d 0 997 [some (vR r0_), some (vR r1_), some (vR r2_), some (vI x3_)] [] h else
    if ((h.I a2 x3_.toNatClampNeg) &&& 63) = 26 then rn E d 0 1072 [some (vR r0_), some (vR r1_), some (vR r2_), some (vI x3_)] [] h else
    if ((h.I a2 x3_.toNatClampNeg) &&& 63) = 27 then rn E d 0 1105 [some (vR r0_), some (vR r1_), some (vR r2_), some (vI x3_)] [] h else
    if ((h.I a2 x3_.toNatClampNeg) &&& 63) = 28 then rn E d 0 1148 [some (vR r0_), some (vR r1_), some (vR r2_), some (vI x3_)] [] h else
    if ((h.I a2 x3_.toNatClampNeg) &&& 63) = 29 then rn E d 0 1201 [some (vR r0_), some (vR r1_), some (vR r2_), some (vI x3_)] [] h else
    if ((h.I a2 x3_.toNatClampNeg) &&& 63) = 30 then rn E d 0 1224 [some (vR r0_), some (vR r1_), some (vR r2_), some (vI x3_)] [] h else
    if ((h.I a2 x3_.toNatClampNeg) &&& 63) = 31 then rn E d 0 1257 [some (vR r0_), some (vR r1_), some (vR r2_), some (vI x3_)] [] h else
    if ((h.I a2 x3_.toNatClampNeg) &&& 63) = 32 then rn E d 0 1290 [some (vR r0_), some (vR r1_), some (vR r2_), some (vI x3_)] [] h else
    if ((h.I a2 x3_.toNatClampNeg) &&& 63) = 33 then rn E d 0 1323 [some (vR r0_), some (vR r1_), some (vR r2_), some (vI x3_)] [] h else
    if ((h.I a2 x3_.toNatClampNeg) &&& 63) = 34 then rn E d 0 1366 [some (vR r0_), some (vR r1_), some (vR r2_), some (vI x3_)] [] h else
    if ((h.I a2 x3_.toNatClampNeg) &&& 63) = 35 then rn E d 0 1399 [some (vR r0_), some (vR r1_), some (vR r2_), some (vI x3_)] [] h else
    if ((h.I a2 x3_.toNatClampNeg) &&& 63) = 36 then rn E d 0 1442 [some (vR r0_), some (vR r1_), some (vR r2_), some (vI x3_)] [] h else
    rn E d 0 1465 [some (vR r0_), some (vR r1_), some (vR r2_), some (vI x3_)] [] h)) := rn_b (b := b0_18) rfl
theorem e0_196 (E : EV) (d : Nat) (r0_ : Option Nat) (r1_ : Option Nat) (r2_ : Option Nat) (x3_ : Int32) (h : AH) : rn E d 0 196 [some (vR r0_), some (vR r1_), some (vR r2_), some (vI x3_)] [] h =
    nn r0_ fun a1 =>
    gd (h.kd a1 == 101 && inb (x3_ + 1) (h.ln a1)) (nn r0_ fun a2 =>
    gd (h.kd a2 == 101 && inb (x3_ + 2) (h.ln a2)) (nn r0_ fun a3 =>
    gd (h.kd a3 == 101 && inb (x3_ + 3) (h.ln a3)) (nn r0_ fun a4 =>
    gd (h.kd a4 == 101 && inb (x3_ + 4) (h.ln a4)) (nn r0_ fun a5 =>
    gd (h.kd a5 == 101 && inb (x3_ + 5) (h.ln a5)) (gd (rcO 2 [vR r1_, vI (h.I a1 (x3_ + 1).toNatClampNeg), vI (h.I a2 (x3_ + 2).toNatClampNeg), vI (h.I a3 (x3_ + 3).toNatClampNeg), vI (h.I a4 (x3_ + 4).toNatClampNeg), vI (h.I a5 (x3_ + 5).toNatClampNeg)] h) (cI (cal E d 19 [vR r1_, vI (h.I a1 (x3_ + 1).toNatClampNeg), vI (h.I a2 (x3_ + 2).toNatClampNeg), vI (h.I a3 (x3_ + 3).toNatClampNeg), vI (h.I a4 (x3_ + 4).toNatClampNeg), vI (h.I a5 (x3_ + 5).toNatClampNeg)] h) th fun v6 h =>
    nn r0_ fun a7 =>
    gd (h.kd a7 == 101 && inb (x3_ + 1) (h.ln a7)) (nn r0_ fun a8 =>
    gd (h.kd a8 == 101 && inb (x3_ + 2) (h.ln a8)) (nn r0_ fun a9 =>
    gd (h.kd a9 == 101 && inb (x3_ + 3) (h.ln a9)) (nn r0_ fun a10 =>
    gd (h.kd a10 == 101 && inb (x3_ + 4) (h.ln a10)) (nn r0_ fun a11 =>
    gd (h.kd a11 == 101 && inb (x3_ + 5) (h.ln a11)) (gd (rcO 3 [vR r2_, vI (h.I a7 (x3_ + 1).toNatClampNeg), vI (h.I a8 (x3_ + 2).toNatClampNeg), vI (h.I a9 (x3_ + 3).toNatClampNeg), vI (h.I a10 (x3_ + 4).toNatClampNeg), vI (h.I a11 (x3_ + 5).toNatClampNeg)] h) (cI (cal E d 126 [vR r2_, vI (h.I a7 (x3_ + 1).toNatClampNeg), vI (h.I a8 (x3_ + 2).toNatClampNeg), vI (h.I a9 (x3_ + 3).toNatClampNeg), vI (h.I a10 (x3_ + 4).toNatClampNeg), vI (h.I a11 (x3_ + 5).toNatClampNeg)] h) th fun v12 h =>
    if v6 = v12 then rn E d 0 1465 [some (vR r0_), some (vR r1_), some (vR r2_), some (vI x3_)] [] h else
    some (Sum.inl (some (vI 0)), h))))))))))))) := rn_b (b := b0_196) rfl
theorem e0_259 (E : EV) (d : Nat) (r0_ : Option Nat) (r1_ : Option Nat) (r2_ : Option Nat) (x3_ : Int32) (h : AH) : rn E d 0 259 [some (vR r0_), some (vR r1_), some (vR r2_), some (vI x3_)] [] h =
    nn r0_ fun a1 =>
    gd (h.kd a1 == 101 && inb (x3_ + 1) (h.ln a1)) (gd (rcO 4 [vR r1_, vI (h.I a1 (x3_ + 1).toNatClampNeg)] h) (cI (cal E d 15 [vR r1_, vI (h.I a1 (x3_ + 1).toNatClampNeg)] h) th fun v2 h =>
    nn r0_ fun a3 =>
    gd (h.kd a3 == 101 && inb (x3_ + 1) (h.ln a3)) (gd (rcO 5 [vR r2_, vI (h.I a3 (x3_ + 1).toNatClampNeg)] h) (cI (cal E d 121 [vR r2_, vI (h.I a3 (x3_ + 1).toNatClampNeg)] h) th fun v4 h =>
    if v2 = v4 then rn E d 0 1465 [some (vR r0_), some (vR r1_), some (vR r2_), some (vI x3_)] [] h else
    some (Sum.inl (some (vI 0)), h))))) := rn_b (b := b0_259) rfl
theorem e0_282 (E : EV) (d : Nat) (r0_ : Option Nat) (r1_ : Option Nat) (r2_ : Option Nat) (x3_ : Int32) (h : AH) : rn E d 0 282 [some (vR r0_), some (vR r1_), some (vR r2_), some (vI x3_)] [] h =
    gd (rcO 6 [vR r1_] h) (cI (cal E d 39 [vR r1_] h) th fun v1 h =>
    gd (rcO 7 [vR r2_] h) (cI (cal E d 161 [vR r2_] h) th fun v2 h =>
    if v1 = v2 then rn E d 0 1465 [some (vR r0_), some (vR r1_), some (vR r2_), some (vI x3_)] [] h else
    some (Sum.inl (some (vI 0)), h))) := rn_b (b := b0_282) rfl
theorem e0_295 (E : EV) (d : Nat) (r0_ : Option Nat) (r1_ : Option Nat) (r2_ : Option Nat) (x3_ : Int32) (h : AH) : rn E d 0 295 [some (vR r0_), some (vR r1_), some (vR r2_), some (vI x3_)] [] h =
    nn r0_ fun a1 =>
    gd (h.kd a1 == 101 && inb (x3_ + 1) (h.ln a1)) (gd (rcO 8 [vR r1_, vI (h.I a1 (x3_ + 1).toNatClampNeg)] h) (cI (cal E d 66 [vR r1_, vI (h.I a1 (x3_ + 1).toNatClampNeg)] h) th fun v2 h =>
    nn r0_ fun a3 =>
    gd (h.kd a3 == 101 && inb (x3_ + 1) (h.ln a3)) (gd (rcO 9 [vR r2_, vI (h.I a3 (x3_ + 1).toNatClampNeg)] h) (cI (cal E d 207 [vR r2_, vI (h.I a3 (x3_ + 1).toNatClampNeg)] h) th fun v4 h =>
    if v2 = v4 then rn E d 0 1465 [some (vR r0_), some (vR r1_), some (vR r2_), some (vI x3_)] [] h else
    some (Sum.inl (some (vI 0)), h))))) := rn_b (b := b0_295) rfl
theorem e0_318 (E : EV) (d : Nat) (r0_ : Option Nat) (r1_ : Option Nat) (r2_ : Option Nat) (x3_ : Int32) (h : AH) : rn E d 0 318 [some (vR r0_), some (vR r1_), some (vR r2_), some (vI x3_)] [] h =
    nn r0_ fun a1 =>
    gd (h.kd a1 == 101 && inb (x3_ + 1) (h.ln a1)) (gd (rcO 10 [vR r1_, vI (h.I a1 (x3_ + 1).toNatClampNeg)] h) (cI (cal E d 18 [vR r1_, vI (h.I a1 (x3_ + 1).toNatClampNeg)] h) th fun v2 h =>
    nn r0_ fun a3 =>
    gd (h.kd a3 == 101 && inb (x3_ + 1) (h.ln a3)) (gd (rcO 11 [vR r2_, vI (h.I a3 (x3_ + 1).toNatClampNeg)] h) (cI (cal E d 125 [vR r2_, vI (h.I a3 (x3_ + 1).toNatClampNeg)] h) th fun v4 h =>
    if v2 = v4 then rn E d 0 1465 [some (vR r0_), some (vR r1_), some (vR r2_), some (vI x3_)] [] h else
    some (Sum.inl (some (vI 0)), h))))) := rn_b (b := b0_318) rfl
theorem e0_341 (E : EV) (d : Nat) (r0_ : Option Nat) (r1_ : Option Nat) (r2_ : Option Nat) (x3_ : Int32) (h : AH) : rn E d 0 341 [some (vR r0_), some (vR r1_), some (vR r2_), some (vI x3_)] [] h =
    nn r0_ fun a1 =>
    gd (h.kd a1 == 101 && inb (x3_ + 1) (h.ln a1)) (nn r0_ fun a2 =>
    gd (h.kd a2 == 101 && inb (x3_ + 2) (h.ln a2)) (gd (rcO 12 [vR r1_, vI (h.I a1 (x3_ + 1).toNatClampNeg), vI (h.I a2 (x3_ + 2).toNatClampNeg)] h) (cI (cal E d 45 [vR r1_, vI (h.I a1 (x3_ + 1).toNatClampNeg), vI (h.I a2 (x3_ + 2).toNatClampNeg)] h) th fun v3 h =>
    nn r0_ fun a4 =>
    gd (h.kd a4 == 101 && inb (x3_ + 1) (h.ln a4)) (nn r0_ fun a5 =>
    gd (h.kd a5 == 101 && inb (x3_ + 2) (h.ln a5)) (gd (rcO 13 [vR r2_, vI (h.I a4 (x3_ + 1).toNatClampNeg), vI (h.I a5 (x3_ + 2).toNatClampNeg)] h) (cI (cal E d 166 [vR r2_, vI (h.I a4 (x3_ + 1).toNatClampNeg), vI (h.I a5 (x3_ + 2).toNatClampNeg)] h) th fun v6 h =>
    if v3 = v6 then rn E d 0 1465 [some (vR r0_), some (vR r1_), some (vR r2_), some (vI x3_)] [] h else
    some (Sum.inl (some (vI 0)), h))))))) := rn_b (b := b0_341) rfl
theorem e0_374 (E : EV) (d : Nat) (r0_ : Option Nat) (r1_ : Option Nat) (r2_ : Option Nat) (x3_ : Int32) (h : AH) : rn E d 0 374 [some (vR r0_), some (vR r1_), some (vR r2_), some (vI x3_)] [] h =
    nn r0_ fun a1 =>
    gd (h.kd a1 == 101 && inb (x3_ + 1) (h.ln a1)) (gd (rcO 14 [vR r1_, vI (h.I a1 (x3_ + 1).toNatClampNeg)] h) (cI (cal E d 12 [vR r1_, vI (h.I a1 (x3_ + 1).toNatClampNeg)] h) th fun v2 h =>
    nn r0_ fun a3 =>
    gd (h.kd a3 == 101 && inb (x3_ + 1) (h.ln a3)) (gd (rcO 15 [vR r2_, vI (h.I a3 (x3_ + 1).toNatClampNeg)] h) (cI (cal E d 116 [vR r2_, vI (h.I a3 (x3_ + 1).toNatClampNeg)] h) th fun v4 h =>
    if v2 = v4 then rn E d 0 1465 [some (vR r0_), some (vR r1_), some (vR r2_), some (vI x3_)] [] h else
    some (Sum.inl (some (vI 0)), h))))) := rn_b (b := b0_374) rfl
theorem e0_397 (E : EV) (d : Nat) (r0_ : Option Nat) (r1_ : Option Nat) (r2_ : Option Nat) (x3_ : Int32) (h : AH) : rn E d 0 397 [some (vR r0_), some (vR r1_), some (vR r2_), some (vI x3_)] [] h =
    nn r0_ fun a1 =>
    gd (h.kd a1 == 101 && inb (x3_ + 1) (h.ln a1)) (gd (rcO 16 [vR r1_, vI (h.I a1 (x3_ + 1).toNatClampNeg)] h) (cI (cal E d 6 [vR r1_, vI (h.I a1 (x3_ + 1).toNatClampNeg)] h) th fun v2 h =>
    nn r0_ fun a3 =>
    gd (h.kd a3 == 101 && inb (x3_ + 1) (h.ln a3)) (gd (rcO 17 [vR r2_, vI (h.I a3 (x3_ + 1).toNatClampNeg)] h) (cI (cal E d 113 [vR r2_, vI (h.I a3 (x3_ + 1).toNatClampNeg)] h) th fun v4 h =>
    if v2 = v4 then rn E d 0 1465 [some (vR r0_), some (vR r1_), some (vR r2_), some (vI x3_)] [] h else
    some (Sum.inl (some (vI 0)), h))))) := rn_b (b := b0_397) rfl
theorem e0_420 (E : EV) (d : Nat) (r0_ : Option Nat) (r1_ : Option Nat) (r2_ : Option Nat) (x3_ : Int32) (h : AH) : rn E d 0 420 [some (vR r0_), some (vR r1_), some (vR r2_), some (vI x3_)] [] h =
    nn r0_ fun a1 =>
    gd (h.kd a1 == 101 && inb (x3_ + 1) (h.ln a1)) (gd (rcO 18 [vR r1_, vI (h.I a1 (x3_ + 1).toNatClampNeg)] h) (cI (cal E d 44 [vR r1_, vI (h.I a1 (x3_ + 1).toNatClampNeg)] h) th fun v2 h =>
    nn r0_ fun a3 =>
    gd (h.kd a3 == 101 && inb (x3_ + 1) (h.ln a3)) (gd (rcO 19 [vR r2_, vI (h.I a3 (x3_ + 1).toNatClampNeg)] h) (cI (cal E d 164 [vR r2_, vI (h.I a3 (x3_ + 1).toNatClampNeg)] h) th fun v4 h =>
    if v2 = v4 then rn E d 0 1465 [some (vR r0_), some (vR r1_), some (vR r2_), some (vI x3_)] [] h else
    some (Sum.inl (some (vI 0)), h))))) := rn_b (b := b0_420) rfl
theorem e0_443 (E : EV) (d : Nat) (r0_ : Option Nat) (r1_ : Option Nat) (r2_ : Option Nat) (x3_ : Int32) (h : AH) : rn E d 0 443 [some (vR r0_), some (vR r1_), some (vR r2_), some (vI x3_)] [] h =
    nn r0_ fun a1 =>
    gd (h.kd a1 == 101 && inb (x3_ + 1) (h.ln a1)) (nn r0_ fun a2 =>
    gd (h.kd a2 == 101 && inb (x3_ + 2) (h.ln a2)) (nn r0_ fun a3 =>
    gd (h.kd a3 == 101 && inb (x3_ + 3) (h.ln a3)) (if (h.I a3 (x3_ + 3).toNatClampNeg) = 0 then rn E d 0 466 [some (vR r0_), some (vR r1_), some (vR r2_), some (vI x3_)] [vI (h.I a2 (x3_ + 2).toNatClampNeg), vI (h.I a1 (x3_ + 1).toNatClampNeg), vR r1_] h else
    rn E d 0 467 [some (vR r0_), some (vR r1_), some (vR r2_), some (vI x3_)] [vI 1, vI (h.I a2 (x3_ + 2).toNatClampNeg), vI (h.I a1 (x3_ + 1).toNatClampNeg), vR r1_] h))) := rn_b (b := b0_443) rfl
theorem e0_466 (E : EV) (d : Nat) (r0_ : Option Nat) (r1_ : Option Nat) (r2_ : Option Nat) (x3_ : Int32) (s0_ : Option Nat) (s1_ : Int32) (s2_ : Int32) (h : AH) : rn E d 0 466 [some (vR r0_), some (vR r1_), some (vR r2_), some (vI x3_)] [vI s2_, vI s1_, vR s0_] h =
    rn E d 0 467 [some (vR r0_), some (vR r1_), some (vR r2_), some (vI x3_)] [vI 0, vI s2_, vI s1_, vR s0_] h := rn_b (b := b0_466) rfl
theorem e0_467 (E : EV) (d : Nat) (r0_ : Option Nat) (r1_ : Option Nat) (r2_ : Option Nat) (x3_ : Int32) (s0_ : Option Nat) (s1_ : Int32) (s2_ : Int32) (s3_ : Int32) (h : AH) : rn E d 0 467 [some (vR r0_), some (vR r1_), some (vR r2_), some (vI x3_)] [vI s3_, vI s2_, vI s1_, vR s0_] h =
    gd (rcO 20 [vR s0_, vI s1_, vI s2_, vI s3_] h) (cI (cal E d 67 [vR s0_, vI s1_, vI s2_, vI s3_] h) th fun v1 h =>
    nn r0_ fun a2 =>
    gd (h.kd a2 == 101 && inb (x3_ + 1) (h.ln a2)) (nn r0_ fun a3 =>
    gd (h.kd a3 == 101 && inb (x3_ + 2) (h.ln a3)) (nn r0_ fun a4 =>
    gd (h.kd a4 == 101 && inb (x3_ + 3) (h.ln a4)) (if (h.I a4 (x3_ + 3).toNatClampNeg) = 0 then rn E d 0 493 [some (vR r0_), some (vR r1_), some (vR r2_), some (vI x3_)] [vI (h.I a3 (x3_ + 2).toNatClampNeg), vI (h.I a2 (x3_ + 1).toNatClampNeg), vR r2_, vI v1] h else
    rn E d 0 494 [some (vR r0_), some (vR r1_), some (vR r2_), some (vI x3_)] [vI 1, vI (h.I a3 (x3_ + 2).toNatClampNeg), vI (h.I a2 (x3_ + 1).toNatClampNeg), vR r2_, vI v1] h)))) := rn_b (b := b0_467) rfl
theorem e0_493 (E : EV) (d : Nat) (r0_ : Option Nat) (r1_ : Option Nat) (r2_ : Option Nat) (x3_ : Int32) (s0_ : Int32) (s1_ : Option Nat) (s2_ : Int32) (s3_ : Int32) (h : AH) : rn E d 0 493 [some (vR r0_), some (vR r1_), some (vR r2_), some (vI x3_)] [vI s3_, vI s2_, vR s1_, vI s0_] h =
    rn E d 0 494 [some (vR r0_), some (vR r1_), some (vR r2_), some (vI x3_)] [vI 0, vI s3_, vI s2_, vR s1_, vI s0_] h := rn_b (b := b0_493) rfl
theorem e0_494 (E : EV) (d : Nat) (r0_ : Option Nat) (r1_ : Option Nat) (r2_ : Option Nat) (x3_ : Int32) (s0_ : Int32) (s1_ : Option Nat) (s2_ : Int32) (s3_ : Int32) (s4_ : Int32) (h : AH) : rn E d 0 494 [some (vR r0_), some (vR r1_), some (vR r2_), some (vI x3_)] [vI s4_, vI s3_, vI s2_, vR s1_, vI s0_] h =
    gd (rcO 21 [vR s1_, vI s2_, vI s3_, vI s4_] h) (cI (cal E d 212 [vR s1_, vI s2_, vI s3_, vI s4_] h) th fun v1 h =>
    if s0_ = v1 then rn E d 0 1465 [some (vR r0_), some (vR r1_), some (vR r2_), some (vI x3_)] [] h else
    some (Sum.inl (some (vI 0)), h)) := rn_b (b := b0_494) rfl
theorem e0_502 (E : EV) (d : Nat) (r0_ : Option Nat) (r1_ : Option Nat) (r2_ : Option Nat) (x3_ : Int32) (h : AH) : rn E d 0 502 [some (vR r0_), some (vR r1_), some (vR r2_), some (vI x3_)] [] h =
    nn r0_ fun a1 =>
    gd (h.kd a1 == 101 && inb (x3_ + 1) (h.ln a1)) (nn r0_ fun a2 =>
    gd (h.kd a2 == 101 && inb (x3_ + 2) (h.ln a2)) (gd (rcO 22 [vR r1_, vI (h.I a1 (x3_ + 1).toNatClampNeg), vI (h.I a2 (x3_ + 2).toNatClampNeg)] h) (cI (cal E d 11 [vR r1_, vI (h.I a1 (x3_ + 1).toNatClampNeg), vI (h.I a2 (x3_ + 2).toNatClampNeg)] h) th fun v3 h =>
    nn r0_ fun a4 =>
    gd (h.kd a4 == 101 && inb (x3_ + 1) (h.ln a4)) (nn r0_ fun a5 =>
    gd (h.kd a5 == 101 && inb (x3_ + 2) (h.ln a5)) (gd (rcO 23 [vR r2_, vI (h.I a4 (x3_ + 1).toNatClampNeg), vI (h.I a5 (x3_ + 2).toNatClampNeg)] h) (cI (cal E d 115 [vR r2_, vI (h.I a4 (x3_ + 1).toNatClampNeg), vI (h.I a5 (x3_ + 2).toNatClampNeg)] h) th fun v6 h =>
    if v3 = v6 then rn E d 0 1465 [some (vR r0_), some (vR r1_), some (vR r2_), some (vI x3_)] [] h else
    some (Sum.inl (some (vI 0)), h))))))) := rn_b (b := b0_502) rfl
theorem e0_535 (E : EV) (d : Nat) (r0_ : Option Nat) (r1_ : Option Nat) (r2_ : Option Nat) (x3_ : Int32) (h : AH) : rn E d 0 535 [some (vR r0_), some (vR r1_), some (vR r2_), some (vI x3_)] [] h =
    nn r0_ fun a1 =>
    gd (h.kd a1 == 101 && inb (x3_ + 1) (h.ln a1)) (nn r0_ fun a2 =>
    gd (h.kd a2 == 101 && inb (x3_ + 2) (h.ln a2)) (gd (rcO 24 [vR r1_, vI (h.I a1 (x3_ + 1).toNatClampNeg), vI (h.I a2 (x3_ + 2).toNatClampNeg)] h) (cI (cal E d 17 [vR r1_, vI (h.I a1 (x3_ + 1).toNatClampNeg), vI (h.I a2 (x3_ + 2).toNatClampNeg)] h) th fun v3 h =>
    nn r0_ fun a4 =>
    gd (h.kd a4 == 101 && inb (x3_ + 1) (h.ln a4)) (nn r0_ fun a5 =>
    gd (h.kd a5 == 101 && inb (x3_ + 2) (h.ln a5)) (gd (rcO 25 [vR r2_, vI (h.I a4 (x3_ + 1).toNatClampNeg), vI (h.I a5 (x3_ + 2).toNatClampNeg)] h) (cI (cal E d 123 [vR r2_, vI (h.I a4 (x3_ + 1).toNatClampNeg), vI (h.I a5 (x3_ + 2).toNatClampNeg)] h) th fun v6 h =>
    if v3 = v6 then rn E d 0 1465 [some (vR r0_), some (vR r1_), some (vR r2_), some (vI x3_)] [] h else
    some (Sum.inl (some (vI 0)), h))))))) := rn_b (b := b0_535) rfl
theorem e0_568 (E : EV) (d : Nat) (r0_ : Option Nat) (r1_ : Option Nat) (r2_ : Option Nat) (x3_ : Int32) (h : AH) : rn E d 0 568 [some (vR r0_), some (vR r1_), some (vR r2_), some (vI x3_)] [] h =
    nn r0_ fun a1 =>
    gd (h.kd a1 == 101 && inb (x3_ + 1) (h.ln a1)) (nn r0_ fun a2 =>
    gd (h.kd a2 == 101 && inb (x3_ + 2) (h.ln a2)) (gd (rcO 26 [vR r1_, vI (h.I a1 (x3_ + 1).toNatClampNeg), vI (h.I a2 (x3_ + 2).toNatClampNeg)] h) (cI (cal E d 61 [vR r1_, vI (h.I a1 (x3_ + 1).toNatClampNeg), vI (h.I a2 (x3_ + 2).toNatClampNeg)] h) th fun v3 h =>
    nn r0_ fun a4 =>
    gd (h.kd a4 == 101 && inb (x3_ + 1) (h.ln a4)) (nn r0_ fun a5 =>
    gd (h.kd a5 == 101 && inb (x3_ + 2) (h.ln a5)) (gd (rcO 27 [vR r2_, vI (h.I a4 (x3_ + 1).toNatClampNeg), vI (h.I a5 (x3_ + 2).toNatClampNeg)] h) (cI (cal E d 196 [vR r2_, vI (h.I a4 (x3_ + 1).toNatClampNeg), vI (h.I a5 (x3_ + 2).toNatClampNeg)] h) th fun v6 h =>
    if v3 = v6 then rn E d 0 1465 [some (vR r0_), some (vR r1_), some (vR r2_), some (vI x3_)] [] h else
    some (Sum.inl (some (vI 0)), h))))))) := rn_b (b := b0_568) rfl
theorem e0_601 (E : EV) (d : Nat) (r0_ : Option Nat) (r1_ : Option Nat) (r2_ : Option Nat) (x3_ : Int32) (h : AH) : rn E d 0 601 [some (vR r0_), some (vR r1_), some (vR r2_), some (vI x3_)] [] h =
    nn r0_ fun a1 =>
    gd (h.kd a1 == 101 && inb (x3_ + 1) (h.ln a1)) (gd (rcO 28 [vR r1_, vI (h.I a1 (x3_ + 1).toNatClampNeg)] h) (cI (cal E d 68 [vR r1_, vI (h.I a1 (x3_ + 1).toNatClampNeg)] h) th fun v2 h =>
    nn r0_ fun a3 =>
    gd (h.kd a3 == 101 && inb (x3_ + 1) (h.ln a3)) (gd (rcO 29 [vR r2_, vI (h.I a3 (x3_ + 1).toNatClampNeg)] h) (cI (cal E d 213 [vR r2_, vI (h.I a3 (x3_ + 1).toNatClampNeg)] h) th fun v4 h =>
    if v2 = v4 then rn E d 0 1465 [some (vR r0_), some (vR r1_), some (vR r2_), some (vI x3_)] [] h else
    some (Sum.inl (some (vI 0)), h))))) := rn_b (b := b0_601) rfl
theorem e0_624 (E : EV) (d : Nat) (r0_ : Option Nat) (r1_ : Option Nat) (r2_ : Option Nat) (x3_ : Int32) (h : AH) : rn E d 0 624 [some (vR r0_), some (vR r1_), some (vR r2_), some (vI x3_)] [] h =
    nn r0_ fun a1 =>
    gd (h.kd a1 == 101 && inb (x3_ + 1) (h.ln a1)) (gd (rcO 30 [vR r1_, vI (h.I a1 (x3_ + 1).toNatClampNeg)] h) (cI (cal E d 36 [vR r1_, vI (h.I a1 (x3_ + 1).toNatClampNeg)] h) th fun v2 h =>
    nn r0_ fun a3 =>
    gd (h.kd a3 == 101 && inb (x3_ + 1) (h.ln a3)) (gd (rcO 31 [vR r2_, vI (h.I a3 (x3_ + 1).toNatClampNeg)] h) (cI (cal E d 157 [vR r2_, vI (h.I a3 (x3_ + 1).toNatClampNeg)] h) th fun v4 h =>
    if v2 = v4 then rn E d 0 1465 [some (vR r0_), some (vR r1_), some (vR r2_), some (vI x3_)] [] h else
    some (Sum.inl (some (vI 0)), h))))) := rn_b (b := b0_624) rfl
theorem e0_647 (E : EV) (d : Nat) (r0_ : Option Nat) (r1_ : Option Nat) (r2_ : Option Nat) (x3_ : Int32) (h : AH) : rn E d 0 647 [some (vR r0_), some (vR r1_), some (vR r2_), some (vI x3_)] [] h =
    nn r0_ fun a1 =>
    gd (h.kd a1 == 101 && inb (x3_ + 1) (h.ln a1)) (nn r0_ fun a2 =>
    gd (h.kd a2 == 101 && inb (x3_ + 2) (h.ln a2)) (gd (rcO 32 [vR r1_, vI (h.I a1 (x3_ + 1).toNatClampNeg), vI (h.I a2 (x3_ + 2).toNatClampNeg)] h) (cI (cal E d 47 [vR r1_, vI (h.I a1 (x3_ + 1).toNatClampNeg), vI (h.I a2 (x3_ + 2).toNatClampNeg)] h) th fun v3 h =>
    nn r0_ fun a4 =>
    gd (h.kd a4 == 101 && inb (x3_ + 1) (h.ln a4)) (nn r0_ fun a5 =>
    gd (h.kd a5 == 101 && inb (x3_ + 2) (h.ln a5)) (gd (rcO 33 [vR r2_, vI (h.I a4 (x3_ + 1).toNatClampNeg), vI (h.I a5 (x3_ + 2).toNatClampNeg)] h) (cI (cal E d 168 [vR r2_, vI (h.I a4 (x3_ + 1).toNatClampNeg), vI (h.I a5 (x3_ + 2).toNatClampNeg)] h) th fun v6 h =>
    if v3 = v6 then rn E d 0 1465 [some (vR r0_), some (vR r1_), some (vR r2_), some (vI x3_)] [] h else
    some (Sum.inl (some (vI 0)), h))))))) := rn_b (b := b0_647) rfl
theorem e0_680 (E : EV) (d : Nat) (r0_ : Option Nat) (r1_ : Option Nat) (r2_ : Option Nat) (x3_ : Int32) (h : AH) : rn E d 0 680 [some (vR r0_), some (vR r1_), some (vR r2_), some (vI x3_)] [] h =
    nn r0_ fun a1 =>
    gd (h.kd a1 == 101 && inb (x3_ + 1) (h.ln a1)) (nn r0_ fun a2 =>
    gd (h.kd a2 == 101 && inb (x3_ + 2) (h.ln a2)) (gd (rcO 34 [vR r1_, vI (h.I a1 (x3_ + 1).toNatClampNeg), vI (h.I a2 (x3_ + 2).toNatClampNeg)] h) (cI (cal E d 13 [vR r1_, vI (h.I a1 (x3_ + 1).toNatClampNeg), vI (h.I a2 (x3_ + 2).toNatClampNeg)] h) th fun v3 h =>
    nn r0_ fun a4 =>
    gd (h.kd a4 == 101 && inb (x3_ + 1) (h.ln a4)) (nn r0_ fun a5 =>
    gd (h.kd a5 == 101 && inb (x3_ + 2) (h.ln a5)) (gd (rcO 35 [vR r2_, vI (h.I a4 (x3_ + 1).toNatClampNeg), vI (h.I a5 (x3_ + 2).toNatClampNeg)] h) (cI (cal E d 117 [vR r2_, vI (h.I a4 (x3_ + 1).toNatClampNeg), vI (h.I a5 (x3_ + 2).toNatClampNeg)] h) th fun v6 h =>
    if v3 = v6 then rn E d 0 1465 [some (vR r0_), some (vR r1_), some (vR r2_), some (vI x3_)] [] h else
    some (Sum.inl (some (vI 0)), h))))))) := rn_b (b := b0_680) rfl
theorem e0_713 (E : EV) (d : Nat) (r0_ : Option Nat) (r1_ : Option Nat) (r2_ : Option Nat) (x3_ : Int32) (h : AH) : rn E d 0 713 [some (vR r0_), some (vR r1_), some (vR r2_), some (vI x3_)] [] h =
    nn r0_ fun a1 =>
    gd (h.kd a1 == 101 && inb (x3_ + 1) (h.ln a1)) (nn r0_ fun a2 =>
    gd (h.kd a2 == 101 && inb (x3_ + 2) (h.ln a2)) (nn r0_ fun a3 =>
    gd (h.kd a3 == 101 && inb (x3_ + 3) (h.ln a3)) (gd (rcO 36 [vR r1_, vI (h.I a1 (x3_ + 1).toNatClampNeg), vI (h.I a2 (x3_ + 2).toNatClampNeg), vI (h.I a3 (x3_ + 3).toNatClampNeg)] h) (cI (cal E d 51 [vR r1_, vI (h.I a1 (x3_ + 1).toNatClampNeg), vI (h.I a2 (x3_ + 2).toNatClampNeg), vI (h.I a3 (x3_ + 3).toNatClampNeg)] h) th fun v4 h =>
    nn r0_ fun a5 =>
    gd (h.kd a5 == 101 && inb (x3_ + 1) (h.ln a5)) (nn r0_ fun a6 =>
    gd (h.kd a6 == 101 && inb (x3_ + 2) (h.ln a6)) (nn r0_ fun a7 =>
    gd (h.kd a7 == 101 && inb (x3_ + 3) (h.ln a7)) (gd (rcO 37 [vR r2_, vI (h.I a5 (x3_ + 1).toNatClampNeg), vI (h.I a6 (x3_ + 2).toNatClampNeg), vI (h.I a7 (x3_ + 3).toNatClampNeg)] h) (cI (cal E d 177 [vR r2_, vI (h.I a5 (x3_ + 1).toNatClampNeg), vI (h.I a6 (x3_ + 2).toNatClampNeg), vI (h.I a7 (x3_ + 3).toNatClampNeg)] h) th fun v8 h =>
    if v4 = v8 then rn E d 0 1465 [some (vR r0_), some (vR r1_), some (vR r2_), some (vI x3_)] [] h else
    some (Sum.inl (some (vI 0)), h))))))))) := rn_b (b := b0_713) rfl
theorem e0_756 (E : EV) (d : Nat) (r0_ : Option Nat) (r1_ : Option Nat) (r2_ : Option Nat) (x3_ : Int32) (h : AH) : rn E d 0 756 [some (vR r0_), some (vR r1_), some (vR r2_), some (vI x3_)] [] h =
    nn r0_ fun a1 =>
    gd (h.kd a1 == 101 && inb (x3_ + 1) (h.ln a1)) (nn r0_ fun a2 =>
    gd (h.kd a2 == 101 && inb (x3_ + 2) (h.ln a2)) (gd (rcO 38 [vR r1_, vI (h.I a1 (x3_ + 1).toNatClampNeg), vI (h.I a2 (x3_ + 2).toNatClampNeg)] h) (cI (cal E d 49 [vR r1_, vI (h.I a1 (x3_ + 1).toNatClampNeg), vI (h.I a2 (x3_ + 2).toNatClampNeg)] h) th fun v3 h =>
    nn r0_ fun a4 =>
    gd (h.kd a4 == 101 && inb (x3_ + 1) (h.ln a4)) (nn r0_ fun a5 =>
    gd (h.kd a5 == 101 && inb (x3_ + 2) (h.ln a5)) (gd (rcO 39 [vR r2_, vI (h.I a4 (x3_ + 1).toNatClampNeg), vI (h.I a5 (x3_ + 2).toNatClampNeg)] h) (cI (cal E d 173 [vR r2_, vI (h.I a4 (x3_ + 1).toNatClampNeg), vI (h.I a5 (x3_ + 2).toNatClampNeg)] h) th fun v6 h =>
    if v3 = v6 then rn E d 0 1465 [some (vR r0_), some (vR r1_), some (vR r2_), some (vI x3_)] [] h else
    some (Sum.inl (some (vI 0)), h))))))) := rn_b (b := b0_756) rfl
theorem e0_789 (E : EV) (d : Nat) (r0_ : Option Nat) (r1_ : Option Nat) (r2_ : Option Nat) (x3_ : Int32) (h : AH) : rn E d 0 789 [some (vR r0_), some (vR r1_), some (vR r2_), some (vI x3_)] [] h =
    nn r0_ fun a1 =>
    gd (h.kd a1 == 101 && inb (x3_ + 1) (h.ln a1)) (nn r0_ fun a2 =>
    gd (h.kd a2 == 101 && inb (x3_ + 2) (h.ln a2)) (nn r0_ fun a3 =>
    gd (h.kd a3 == 101 && inb (x3_ + 3) (h.ln a3)) (gd (rcO 40 [vR r1_, vI (h.I a1 (x3_ + 1).toNatClampNeg), vI (h.I a2 (x3_ + 2).toNatClampNeg), vI (h.I a3 (x3_ + 3).toNatClampNeg)] h) (cI (cal E d 38 [vR r1_, vI (h.I a1 (x3_ + 1).toNatClampNeg), vI (h.I a2 (x3_ + 2).toNatClampNeg), vI (h.I a3 (x3_ + 3).toNatClampNeg)] h) th fun v4 h =>
    nn r0_ fun a5 =>
    gd (h.kd a5 == 101 && inb (x3_ + 1) (h.ln a5)) (nn r0_ fun a6 =>
    gd (h.kd a6 == 101 && inb (x3_ + 2) (h.ln a6)) (nn r0_ fun a7 =>
    gd (h.kd a7 == 101 && inb (x3_ + 3) (h.ln a7)) (gd (rcO 41 [vR r2_, vI (h.I a5 (x3_ + 1).toNatClampNeg), vI (h.I a6 (x3_ + 2).toNatClampNeg), vI (h.I a7 (x3_ + 3).toNatClampNeg)] h) (cI (cal E d 159 [vR r2_, vI (h.I a5 (x3_ + 1).toNatClampNeg), vI (h.I a6 (x3_ + 2).toNatClampNeg), vI (h.I a7 (x3_ + 3).toNatClampNeg)] h) th fun v8 h =>
    if v4 = v8 then rn E d 0 1465 [some (vR r0_), some (vR r1_), some (vR r2_), some (vI x3_)] [] h else
    some (Sum.inl (some (vI 0)), h))))))))) := rn_b (b := b0_789) rfl
theorem e0_832 (E : EV) (d : Nat) (r0_ : Option Nat) (r1_ : Option Nat) (r2_ : Option Nat) (x3_ : Int32) (h : AH) : rn E d 0 832 [some (vR r0_), some (vR r1_), some (vR r2_), some (vI x3_)] [] h =
    nn r0_ fun a1 =>
    gd (h.kd a1 == 101 && inb (x3_ + 1) (h.ln a1)) (nn r0_ fun a2 =>
    gd (h.kd a2 == 101 && inb (x3_ + 2) (h.ln a2)) (gd (rcO 42 [vR r1_, vI (h.I a1 (x3_ + 1).toNatClampNeg), vI (h.I a2 (x3_ + 2).toNatClampNeg)] h) (cI (cal E d 5 [vR r1_, vI (h.I a1 (x3_ + 1).toNatClampNeg), vI (h.I a2 (x3_ + 2).toNatClampNeg)] h) th fun v3 h =>
    nn r0_ fun a4 =>
    gd (h.kd a4 == 101 && inb (x3_ + 1) (h.ln a4)) (nn r0_ fun a5 =>
    gd (h.kd a5 == 101 && inb (x3_ + 2) (h.ln a5)) (gd (rcO 43 [vR r2_, vI (h.I a4 (x3_ + 1).toNatClampNeg), vI (h.I a5 (x3_ + 2).toNatClampNeg)] h) (cI (cal E d 112 [vR r2_, vI (h.I a4 (x3_ + 1).toNatClampNeg), vI (h.I a5 (x3_ + 2).toNatClampNeg)] h) th fun v6 h =>
    if v3 = v6 then rn E d 0 1465 [some (vR r0_), some (vR r1_), some (vR r2_), some (vI x3_)] [] h else
    some (Sum.inl (some (vI 0)), h))))))) := rn_b (b := b0_832) rfl
theorem e0_865 (E : EV) (d : Nat) (r0_ : Option Nat) (r1_ : Option Nat) (r2_ : Option Nat) (x3_ : Int32) (h : AH) : rn E d 0 865 [some (vR r0_), some (vR r1_), some (vR r2_), some (vI x3_)] [] h =
    gd (rcO 44 [vR r1_] h) (cI (cal E d 33 [vR r1_] h) th fun v1 h =>
    gd (rcO 45 [vR r2_] h) (cI (cal E d 155 [vR r2_] h) th fun v2 h =>
    if v1 = v2 then rn E d 0 1465 [some (vR r0_), some (vR r1_), some (vR r2_), some (vI x3_)] [] h else
    some (Sum.inl (some (vI 0)), h))) := rn_b (b := b0_865) rfl
theorem e0_878 (E : EV) (d : Nat) (r0_ : Option Nat) (r1_ : Option Nat) (r2_ : Option Nat) (x3_ : Int32) (h : AH) : rn E d 0 878 [some (vR r0_), some (vR r1_), some (vR r2_), some (vI x3_)] [] h =
    nn r0_ fun a1 =>
    gd (h.kd a1 == 101 && inb (x3_ + 1) (h.ln a1)) (gd (rcO 46 [vR r1_, vI (h.I a1 (x3_ + 1).toNatClampNeg)] h) (cI (cal E d 53 [vR r1_, vI (h.I a1 (x3_ + 1).toNatClampNeg)] h) th fun v2 h =>
    nn r0_ fun a3 =>
    gd (h.kd a3 == 101 && inb (x3_ + 1) (h.ln a3)) (gd (rcO 47 [vR r2_, vI (h.I a3 (x3_ + 1).toNatClampNeg)] h) (cI (cal E d 180 [vR r2_, vI (h.I a3 (x3_ + 1).toNatClampNeg)] h) th fun v4 h =>
    if v2 = v4 then rn E d 0 1465 [some (vR r0_), some (vR r1_), some (vR r2_), some (vI x3_)] [] h else
    some (Sum.inl (some (vI 0)), h))))) := rn_b (b := b0_878) rfl
theorem e0_901 (E : EV) (d : Nat) (r0_ : Option Nat) (r1_ : Option Nat) (r2_ : Option Nat) (x3_ : Int32) (h : AH) : rn E d 0 901 [some (vR r0_), some (vR r1_), some (vR r2_), some (vI x3_)] [] h =
    nn r0_ fun a1 =>
    gd (h.kd a1 == 101 && inb (x3_ + 1) (h.ln a1)) (nn r0_ fun a2 =>
    gd (h.kd a2 == 101 && inb (x3_ + 2) (h.ln a2)) (nn r0_ fun a3 =>
    gd (h.kd a3 == 101 && inb (x3_ + 3) (h.ln a3)) (gd (rcO 48 [vR r1_, vI (h.I a1 (x3_ + 1).toNatClampNeg), vI (h.I a2 (x3_ + 2).toNatClampNeg), vI (h.I a3 (x3_ + 3).toNatClampNeg)] h) (cI (cal E d 52 [vR r1_, vI (h.I a1 (x3_ + 1).toNatClampNeg), vI (h.I a2 (x3_ + 2).toNatClampNeg), vI (h.I a3 (x3_ + 3).toNatClampNeg)] h) th fun v4 h =>
    nn r0_ fun a5 =>
    gd (h.kd a5 == 101 && inb (x3_ + 1) (h.ln a5)) (nn r0_ fun a6 =>
    gd (h.kd a6 == 101 && inb (x3_ + 2) (h.ln a6)) (nn r0_ fun a7 =>
    gd (h.kd a7 == 101 && inb (x3_ + 3) (h.ln a7)) (gd (rcO 49 [vR r2_, vI (h.I a5 (x3_ + 1).toNatClampNeg), vI (h.I a6 (x3_ + 2).toNatClampNeg), vI (h.I a7 (x3_ + 3).toNatClampNeg)] h) (cI (cal E d 179 [vR r2_, vI (h.I a5 (x3_ + 1).toNatClampNeg), vI (h.I a6 (x3_ + 2).toNatClampNeg), vI (h.I a7 (x3_ + 3).toNatClampNeg)] h) th fun v8 h =>
    if v4 = v8 then rn E d 0 1465 [some (vR r0_), some (vR r1_), some (vR r2_), some (vI x3_)] [] h else
    some (Sum.inl (some (vI 0)), h))))))))) := rn_b (b := b0_901) rfl
theorem e0_944 (E : EV) (d : Nat) (r0_ : Option Nat) (r1_ : Option Nat) (r2_ : Option Nat) (x3_ : Int32) (h : AH) : rn E d 0 944 [some (vR r0_), some (vR r1_), some (vR r2_), some (vI x3_)] [] h =
    nn r0_ fun a1 =>
    gd (h.kd a1 == 101 && inb (x3_ + 1) (h.ln a1)) (nn r0_ fun a2 =>
    gd (h.kd a2 == 101 && inb (x3_ + 2) (h.ln a2)) (nn r0_ fun a3 =>
    gd (h.kd a3 == 101 && inb (x3_ + 3) (h.ln a3)) (nn r0_ fun a4 =>
    gd (h.kd a4 == 101 && inb (x3_ + 4) (h.ln a4)) (gd (rcO 50 [vR r1_, vI (h.I a1 (x3_ + 1).toNatClampNeg), vI (h.I a2 (x3_ + 2).toNatClampNeg), vI (h.I a3 (x3_ + 3).toNatClampNeg), vI (h.I a4 (x3_ + 4).toNatClampNeg)] h) (cI (cal E d 46 [vR r1_, vI (h.I a1 (x3_ + 1).toNatClampNeg), vI (h.I a2 (x3_ + 2).toNatClampNeg), vI (h.I a3 (x3_ + 3).toNatClampNeg), vI (h.I a4 (x3_ + 4).toNatClampNeg)] h) th fun v5 h =>
    nn r0_ fun a6 =>
    gd (h.kd a6 == 101 && inb (x3_ + 1) (h.ln a6)) (nn r0_ fun a7 =>
    gd (h.kd a7 == 101 && inb (x3_ + 2) (h.ln a7)) (nn r0_ fun a8 =>
    gd (h.kd a8 == 101 && inb (x3_ + 3) (h.ln a8)) (nn r0_ fun a9 =>
    gd (h.kd a9 == 101 && inb (x3_ + 4) (h.ln a9)) (gd (rcO 51 [vR r2_, vI (h.I a6 (x3_ + 1).toNatClampNeg), vI (h.I a7 (x3_ + 2).toNatClampNeg), vI (h.I a8 (x3_ + 3).toNatClampNeg), vI (h.I a9 (x3_ + 4).toNatClampNeg)] h) (cI (cal E d 167 [vR r2_, vI (h.I a6 (x3_ + 1).toNatClampNeg), vI (h.I a7 (x3_ + 2).toNatClampNeg), vI (h.I a8 (x3_ + 3).toNatClampNeg), vI (h.I a9 (x3_ + 4).toNatClampNeg)] h) th fun v10 h =>
    if v5 = v10 then rn E d 0 1465 [some (vR r0_), some (vR r1_), some (vR r2_), some (vI x3_)] [] h else
    some (Sum.inl (some (vI 0)), h))))))))))) := rn_b (b := b0_944) rfl
theorem e0_997 (E : EV) (d : Nat) (r0_ : Option Nat) (r1_ : Option Nat) (r2_ : Option Nat) (x3_ : Int32) (h : AH) : rn E d 0 997 [some (vR r0_), some (vR r1_), some (vR r2_), some (vI x3_)] [] h =
    nn r0_ fun a1 =>
    gd (h.kd a1 == 101 && inb (x3_ + 1) (h.ln a1)) (nn r0_ fun a2 =>
    gd (h.kd a2 == 101 && inb (x3_ + 2) (h.ln a2)) (nn r0_ fun a3 =>
    gd (h.kd a3 == 101 && inb (x3_ + 3) (h.ln a3)) (nn r0_ fun a4 =>
    gd (h.kd a4 == 101 && inb (x3_ + 4) (h.ln a4)) (nn r0_ fun a5 =>
    gd (h.kd a5 == 101 && inb (x3_ + 5) (h.ln a5)) (nn r0_ fun a6 =>
    gd (h.kd a6 == 101 && inb (x3_ + 6) (h.ln a6)) (gd (rcO 52 [vR r1_, vI (h.I a1 (x3_ + 1).toNatClampNeg), vI (h.I a2 (x3_ + 2).toNatClampNeg), vI (h.I a3 (x3_ + 3).toNatClampNeg), vI (h.I a4 (x3_ + 4).toNatClampNeg), vI (h.I a5 (x3_ + 5).toNatClampNeg), vI (h.I a6 (x3_ + 6).toNatClampNeg)] h) (cI (cal E d 62 [vR r1_, vI (h.I a1 (x3_ + 1).toNatClampNeg), vI (h.I a2 (x3_ + 2).toNatClampNeg), vI (h.I a3 (x3_ + 3).toNatClampNeg), vI (h.I a4 (x3_ + 4).toNatClampNeg), vI (h.I a5 (x3_ + 5).toNatClampNeg), vI (h.I a6 (x3_ + 6).toNatClampNeg)] h) th fun v7 h =>
    nn r0_ fun a8 =>
    gd (h.kd a8 == 101 && inb (x3_ + 1) (h.ln a8)) (nn r0_ fun a9 =>
    gd (h.kd a9 == 101 && inb (x3_ + 2) (h.ln a9)) (nn r0_ fun a10 =>
    gd (h.kd a10 == 101 && inb (x3_ + 3) (h.ln a10)) (nn r0_ fun a11 =>
    gd (h.kd a11 == 101 && inb (x3_ + 4) (h.ln a11)) (nn r0_ fun a12 =>
    gd (h.kd a12 == 101 && inb (x3_ + 5) (h.ln a12)) (nn r0_ fun a13 =>
    gd (h.kd a13 == 101 && inb (x3_ + 6) (h.ln a13)) (gd (rcO 53 [vR r2_, vI (h.I a8 (x3_ + 1).toNatClampNeg), vI (h.I a9 (x3_ + 2).toNatClampNeg), vI (h.I a10 (x3_ + 3).toNatClampNeg), vI (h.I a11 (x3_ + 4).toNatClampNeg), vI (h.I a12 (x3_ + 5).toNatClampNeg), vI (h.I a13 (x3_ + 6).toNatClampNeg)] h) (cI (cal E d 198 [vR r2_, vI (h.I a8 (x3_ + 1).toNatClampNeg), vI (h.I a9 (x3_ + 2).toNatClampNeg), vI (h.I a10 (x3_ + 3).toNatClampNeg), vI (h.I a11 (x3_ + 4).toNatClampNeg), vI (h.I a12 (x3_ + 5).toNatClampNeg), vI (h.I a13 (x3_ + 6).toNatClampNeg)] h) th fun v14 h =>
    if v7 = v14 then rn E d 0 1465 [some (vR r0_), some (vR r1_), some (vR r2_), some (vI x3_)] [] h else
    some (Sum.inl (some (vI 0)), h))))))))))))))) := rn_b (b := b0_997) rfl
theorem e0_1072 (E : EV) (d : Nat) (r0_ : Option Nat) (r1_ : Option Nat) (r2_ : Option Nat) (x3_ : Int32) (h : AH) : rn E d 0 1072 [some (vR r0_), some (vR r1_), some (vR r2_), some (vI x3_)] [] h =
    nn r0_ fun a1 =>
    gd (h.kd a1 == 101 && inb (x3_ + 1) (h.ln a1)) (nn r0_ fun a2 =>
    gd (h.kd a2 == 101 && inb (x3_ + 2) (h.ln a2)) (gd (rcO 54 [vR r1_, vI (h.I a1 (x3_ + 1).toNatClampNeg), vI (h.I a2 (x3_ + 2).toNatClampNeg)] h) (cI (cal E d 2 [vR r1_, vI (h.I a1 (x3_ + 1).toNatClampNeg), vI (h.I a2 (x3_ + 2).toNatClampNeg)] h) th fun v3 h =>
    nn r0_ fun a4 =>
    gd (h.kd a4 == 101 && inb (x3_ + 1) (h.ln a4)) (nn r0_ fun a5 =>
    gd (h.kd a5 == 101 && inb (x3_ + 2) (h.ln a5)) (gd (rcO 55 [vR r2_, vI (h.I a4 (x3_ + 1).toNatClampNeg), vI (h.I a5 (x3_ + 2).toNatClampNeg)] h) (cI (cal E d 108 [vR r2_, vI (h.I a4 (x3_ + 1).toNatClampNeg), vI (h.I a5 (x3_ + 2).toNatClampNeg)] h) th fun v6 h =>
    if v3 = v6 then rn E d 0 1465 [some (vR r0_), some (vR r1_), some (vR r2_), some (vI x3_)] [] h else
    some (Sum.inl (some (vI 0)), h))))))) := rn_b (b := b0_1072) rfl
theorem e0_1105 (E : EV) (d : Nat) (r0_ : Option Nat) (r1_ : Option Nat) (r2_ : Option Nat) (x3_ : Int32) (h : AH) : rn E d 0 1105 [some (vR r0_), some (vR r1_), some (vR r2_), some (vI x3_)] [] h =
    nn r0_ fun a1 =>
    gd (h.kd a1 == 101 && inb (x3_ + 1) (h.ln a1)) (nn r0_ fun a2 =>
    gd (h.kd a2 == 101 && inb (x3_ + 2) (h.ln a2)) (nn r0_ fun a3 =>
    gd (h.kd a3 == 101 && inb (x3_ + 3) (h.ln a3)) (gd (rcO 56 [vR r1_, vI (h.I a1 (x3_ + 1).toNatClampNeg), vI (h.I a2 (x3_ + 2).toNatClampNeg), vI (h.I a3 (x3_ + 3).toNatClampNeg)] h) (cI (cal E d 23 [vR r1_, vI (h.I a1 (x3_ + 1).toNatClampNeg), vI (h.I a2 (x3_ + 2).toNatClampNeg), vI (h.I a3 (x3_ + 3).toNatClampNeg)] h) th fun v4 h =>
    nn r0_ fun a5 =>
    gd (h.kd a5 == 101 && inb (x3_ + 1) (h.ln a5)) (nn r0_ fun a6 =>
    gd (h.kd a6 == 101 && inb (x3_ + 2) (h.ln a6)) (nn r0_ fun a7 =>
    gd (h.kd a7 == 101 && inb (x3_ + 3) (h.ln a7)) (gd (rcO 57 [vR r2_, vI (h.I a5 (x3_ + 1).toNatClampNeg), vI (h.I a6 (x3_ + 2).toNatClampNeg), vI (h.I a7 (x3_ + 3).toNatClampNeg)] h) (cI (cal E d 137 [vR r2_, vI (h.I a5 (x3_ + 1).toNatClampNeg), vI (h.I a6 (x3_ + 2).toNatClampNeg), vI (h.I a7 (x3_ + 3).toNatClampNeg)] h) th fun v8 h =>
    if v4 = v8 then rn E d 0 1465 [some (vR r0_), some (vR r1_), some (vR r2_), some (vI x3_)] [] h else
    some (Sum.inl (some (vI 0)), h))))))))) := rn_b (b := b0_1105) rfl
theorem e0_1148 (E : EV) (d : Nat) (r0_ : Option Nat) (r1_ : Option Nat) (r2_ : Option Nat) (x3_ : Int32) (h : AH) : rn E d 0 1148 [some (vR r0_), some (vR r1_), some (vR r2_), some (vI x3_)] [] h =
    nn r0_ fun a1 =>
    gd (h.kd a1 == 101 && inb (x3_ + 1) (h.ln a1)) (nn r0_ fun a2 =>
    gd (h.kd a2 == 101 && inb (x3_ + 2) (h.ln a2)) (nn r0_ fun a3 =>
    gd (h.kd a3 == 101 && inb (x3_ + 3) (h.ln a3)) (nn r0_ fun a4 =>
    gd (h.kd a4 == 101 && inb (x3_ + 4) (h.ln a4)) (gd (rcO 58 [vR r1_, vI (h.I a1 (x3_ + 1).toNatClampNeg), vI (h.I a2 (x3_ + 2).toNatClampNeg), vI (h.I a3 (x3_ + 3).toNatClampNeg), vI (h.I a4 (x3_ + 4).toNatClampNeg)] h) (cI (cal E d 34 [vR r1_, vI (h.I a1 (x3_ + 1).toNatClampNeg), vI (h.I a2 (x3_ + 2).toNatClampNeg), vI (h.I a3 (x3_ + 3).toNatClampNeg), vI (h.I a4 (x3_ + 4).toNatClampNeg)] h) th fun v5 h =>
    nn r0_ fun a6 =>
    gd (h.kd a6 == 101 && inb (x3_ + 1) (h.ln a6)) (nn r0_ fun a7 =>
    gd (h.kd a7 == 101 && inb (x3_ + 2) (h.ln a7)) (nn r0_ fun a8 =>
    gd (h.kd a8 == 101 && inb (x3_ + 3) (h.ln a8)) (nn r0_ fun a9 =>
    gd (h.kd a9 == 101 && inb (x3_ + 4) (h.ln a9)) (gd (rcO 59 [vR r2_, vI (h.I a6 (x3_ + 1).toNatClampNeg), vI (h.I a7 (x3_ + 2).toNatClampNeg), vI (h.I a8 (x3_ + 3).toNatClampNeg), vI (h.I a9 (x3_ + 4).toNatClampNeg)] h) (cI (cal E d 156 [vR r2_, vI (h.I a6 (x3_ + 1).toNatClampNeg), vI (h.I a7 (x3_ + 2).toNatClampNeg), vI (h.I a8 (x3_ + 3).toNatClampNeg), vI (h.I a9 (x3_ + 4).toNatClampNeg)] h) th fun v10 h =>
    if v5 = v10 then rn E d 0 1465 [some (vR r0_), some (vR r1_), some (vR r2_), some (vI x3_)] [] h else
    some (Sum.inl (some (vI 0)), h))))))))))) := rn_b (b := b0_1148) rfl
theorem e0_1201 (E : EV) (d : Nat) (r0_ : Option Nat) (r1_ : Option Nat) (r2_ : Option Nat) (x3_ : Int32) (h : AH) : rn E d 0 1201 [some (vR r0_), some (vR r1_), some (vR r2_), some (vI x3_)] [] h =
    nn r0_ fun a1 =>
    gd (h.kd a1 == 101 && inb (x3_ + 1) (h.ln a1)) (gd (rcO 60 [vR r1_, vI (h.I a1 (x3_ + 1).toNatClampNeg)] h) (cI (cal E d 59 [vR r1_, vI (h.I a1 (x3_ + 1).toNatClampNeg)] h) th fun v2 h =>
    nn r0_ fun a3 =>
    gd (h.kd a3 == 101 && inb (x3_ + 1) (h.ln a3)) (gd (rcO 61 [vR r2_, vI (h.I a3 (x3_ + 1).toNatClampNeg)] h) (cI (cal E d 194 [vR r2_, vI (h.I a3 (x3_ + 1).toNatClampNeg)] h) th fun v4 h =>
    if v2 = v4 then rn E d 0 1465 [some (vR r0_), some (vR r1_), some (vR r2_), some (vI x3_)] [] h else
    some (Sum.inl (some (vI 0)), h))))) := rn_b (b := b0_1201) rfl
theorem e0_1224 (E : EV) (d : Nat) (r0_ : Option Nat) (r1_ : Option Nat) (r2_ : Option Nat) (x3_ : Int32) (h : AH) : rn E d 0 1224 [some (vR r0_), some (vR r1_), some (vR r2_), some (vI x3_)] [] h =
    nn r0_ fun a1 =>
    gd (h.kd a1 == 101 && inb (x3_ + 1) (h.ln a1)) (nn r0_ fun a2 =>
    gd (h.kd a2 == 101 && inb (x3_ + 2) (h.ln a2)) (gd (rcO 62 [vR r1_, vI (h.I a1 (x3_ + 1).toNatClampNeg), vI (h.I a2 (x3_ + 2).toNatClampNeg)] h) (cI (cal E d 40 [vR r1_, vI (h.I a1 (x3_ + 1).toNatClampNeg), vI (h.I a2 (x3_ + 2).toNatClampNeg)] h) th fun v3 h =>
    nn r0_ fun a4 =>
    gd (h.kd a4 == 101 && inb (x3_ + 1) (h.ln a4)) (nn r0_ fun a5 =>
    gd (h.kd a5 == 101 && inb (x3_ + 2) (h.ln a5)) (gd (rcO 63 [vR r2_, vI (h.I a4 (x3_ + 1).toNatClampNeg), vI (h.I a5 (x3_ + 2).toNatClampNeg)] h) (cI (cal E d 162 [vR r2_, vI (h.I a4 (x3_ + 1).toNatClampNeg), vI (h.I a5 (x3_ + 2).toNatClampNeg)] h) th fun v6 h =>
    if v3 = v6 then rn E d 0 1465 [some (vR r0_), some (vR r1_), some (vR r2_), some (vI x3_)] [] h else
    some (Sum.inl (some (vI 0)), h))))))) := rn_b (b := b0_1224) rfl
theorem e0_1257 (E : EV) (d : Nat) (r0_ : Option Nat) (r1_ : Option Nat) (r2_ : Option Nat) (x3_ : Int32) (h : AH) : rn E d 0 1257 [some (vR r0_), some (vR r1_), some (vR r2_), some (vI x3_)] [] h =
    nn r0_ fun a1 =>
    gd (h.kd a1 == 101 && inb (x3_ + 1) (h.ln a1)) (nn r0_ fun a2 =>
    gd (h.kd a2 == 101 && inb (x3_ + 2) (h.ln a2)) (gd (rcO 64 [vR r1_, vI (h.I a1 (x3_ + 1).toNatClampNeg), vI (h.I a2 (x3_ + 2).toNatClampNeg)] h) (cI (cal E d 63 [vR r1_, vI (h.I a1 (x3_ + 1).toNatClampNeg), vI (h.I a2 (x3_ + 2).toNatClampNeg)] h) th fun v3 h =>
    nn r0_ fun a4 =>
    gd (h.kd a4 == 101 && inb (x3_ + 1) (h.ln a4)) (nn r0_ fun a5 =>
    gd (h.kd a5 == 101 && inb (x3_ + 2) (h.ln a5)) (gd (rcO 65 [vR r2_, vI (h.I a4 (x3_ + 1).toNatClampNeg), vI (h.I a5 (x3_ + 2).toNatClampNeg)] h) (cI (cal E d 199 [vR r2_, vI (h.I a4 (x3_ + 1).toNatClampNeg), vI (h.I a5 (x3_ + 2).toNatClampNeg)] h) th fun v6 h =>
    if v3 = v6 then rn E d 0 1465 [some (vR r0_), some (vR r1_), some (vR r2_), some (vI x3_)] [] h else
    some (Sum.inl (some (vI 0)), h))))))) := rn_b (b := b0_1257) rfl
theorem e0_1290 (E : EV) (d : Nat) (r0_ : Option Nat) (r1_ : Option Nat) (r2_ : Option Nat) (x3_ : Int32) (h : AH) : rn E d 0 1290 [some (vR r0_), some (vR r1_), some (vR r2_), some (vI x3_)] [] h =
    nn r0_ fun a1 =>
    gd (h.kd a1 == 101 && inb (x3_ + 1) (h.ln a1)) (nn r0_ fun a2 =>
    gd (h.kd a2 == 101 && inb (x3_ + 2) (h.ln a2)) (gd (rcO 66 [vR r1_, vI (h.I a1 (x3_ + 1).toNatClampNeg), vI (h.I a2 (x3_ + 2).toNatClampNeg)] h) (cI (cal E d 22 [vR r1_, vI (h.I a1 (x3_ + 1).toNatClampNeg), vI (h.I a2 (x3_ + 2).toNatClampNeg)] h) th fun v3 h =>
    nn r0_ fun a4 =>
    gd (h.kd a4 == 101 && inb (x3_ + 1) (h.ln a4)) (nn r0_ fun a5 =>
    gd (h.kd a5 == 101 && inb (x3_ + 2) (h.ln a5)) (gd (rcO 67 [vR r2_, vI (h.I a4 (x3_ + 1).toNatClampNeg), vI (h.I a5 (x3_ + 2).toNatClampNeg)] h) (cI (cal E d 136 [vR r2_, vI (h.I a4 (x3_ + 1).toNatClampNeg), vI (h.I a5 (x3_ + 2).toNatClampNeg)] h) th fun v6 h =>
    if v3 = v6 then rn E d 0 1465 [some (vR r0_), some (vR r1_), some (vR r2_), some (vI x3_)] [] h else
    some (Sum.inl (some (vI 0)), h))))))) := rn_b (b := b0_1290) rfl
theorem e0_1323 (E : EV) (d : Nat) (r0_ : Option Nat) (r1_ : Option Nat) (r2_ : Option Nat) (x3_ : Int32) (h : AH) : rn E d 0 1323 [some (vR r0_), some (vR r1_), some (vR r2_), some (vI x3_)] [] h =
    nn r0_ fun a1 =>
    gd (h.kd a1 == 101 && inb (x3_ + 1) (h.ln a1)) (nn r0_ fun a2 =>
    gd (h.kd a2 == 101 && inb (x3_ + 2) (h.ln a2)) (nn r0_ fun a3 =>
    gd (h.kd a3 == 101 && inb (x3_ + 3) (h.ln a3)) (gd (rcO 68 [vR r1_, vI (h.I a1 (x3_ + 1).toNatClampNeg), vI (h.I a2 (x3_ + 2).toNatClampNeg), vI (h.I a3 (x3_ + 3).toNatClampNeg)] h) (cI (cal E d 56 [vR r1_, vI (h.I a1 (x3_ + 1).toNatClampNeg), vI (h.I a2 (x3_ + 2).toNatClampNeg), vI (h.I a3 (x3_ + 3).toNatClampNeg)] h) th fun v4 h =>
    nn r0_ fun a5 =>
    gd (h.kd a5 == 101 && inb (x3_ + 1) (h.ln a5)) (nn r0_ fun a6 =>
    gd (h.kd a6 == 101 && inb (x3_ + 2) (h.ln a6)) (nn r0_ fun a7 =>
    gd (h.kd a7 == 101 && inb (x3_ + 3) (h.ln a7)) (gd (rcO 69 [vR r2_, vI (h.I a5 (x3_ + 1).toNatClampNeg), vI (h.I a6 (x3_ + 2).toNatClampNeg), vI (h.I a7 (x3_ + 3).toNatClampNeg)] h) (cI (cal E d 191 [vR r2_, vI (h.I a5 (x3_ + 1).toNatClampNeg), vI (h.I a6 (x3_ + 2).toNatClampNeg), vI (h.I a7 (x3_ + 3).toNatClampNeg)] h) th fun v8 h =>
    if v4 = v8 then rn E d 0 1465 [some (vR r0_), some (vR r1_), some (vR r2_), some (vI x3_)] [] h else
    some (Sum.inl (some (vI 0)), h))))))))) := rn_b (b := b0_1323) rfl
theorem e0_1366 (E : EV) (d : Nat) (r0_ : Option Nat) (r1_ : Option Nat) (r2_ : Option Nat) (x3_ : Int32) (h : AH) : rn E d 0 1366 [some (vR r0_), some (vR r1_), some (vR r2_), some (vI x3_)] [] h =
    nn r0_ fun a1 =>
    gd (h.kd a1 == 101 && inb (x3_ + 1) (h.ln a1)) (nn r0_ fun a2 =>
    gd (h.kd a2 == 101 && inb (x3_ + 2) (h.ln a2)) (gd (rcO 70 [vR r1_, vI (h.I a1 (x3_ + 1).toNatClampNeg), vI (h.I a2 (x3_ + 2).toNatClampNeg)] h) (cI (cal E d 4 [vR r1_, vI (h.I a1 (x3_ + 1).toNatClampNeg), vI (h.I a2 (x3_ + 2).toNatClampNeg)] h) th fun v3 h =>
    nn r0_ fun a4 =>
    gd (h.kd a4 == 101 && inb (x3_ + 1) (h.ln a4)) (nn r0_ fun a5 =>
    gd (h.kd a5 == 101 && inb (x3_ + 2) (h.ln a5)) (gd (rcO 71 [vR r2_, vI (h.I a4 (x3_ + 1).toNatClampNeg), vI (h.I a5 (x3_ + 2).toNatClampNeg)] h) (cI (cal E d 109 [vR r2_, vI (h.I a4 (x3_ + 1).toNatClampNeg), vI (h.I a5 (x3_ + 2).toNatClampNeg)] h) th fun v6 h =>
    if v3 = v6 then rn E d 0 1465 [some (vR r0_), some (vR r1_), some (vR r2_), some (vI x3_)] [] h else
    some (Sum.inl (some (vI 0)), h))))))) := rn_b (b := b0_1366) rfl
theorem e0_1399 (E : EV) (d : Nat) (r0_ : Option Nat) (r1_ : Option Nat) (r2_ : Option Nat) (x3_ : Int32) (h : AH) : rn E d 0 1399 [some (vR r0_), some (vR r1_), some (vR r2_), some (vI x3_)] [] h =
    nn r0_ fun a1 =>
    gd (h.kd a1 == 101 && inb (x3_ + 1) (h.ln a1)) (nn r0_ fun a2 =>
    gd (h.kd a2 == 101 && inb (x3_ + 2) (h.ln a2)) (nn r0_ fun a3 =>
    gd (h.kd a3 == 101 && inb (x3_ + 3) (h.ln a3)) (gd (rcO 72 [vR r1_, vI (h.I a1 (x3_ + 1).toNatClampNeg), vI (h.I a2 (x3_ + 2).toNatClampNeg), vI (h.I a3 (x3_ + 3).toNatClampNeg)] h) (cI (cal E d 60 [vR r1_, vI (h.I a1 (x3_ + 1).toNatClampNeg), vI (h.I a2 (x3_ + 2).toNatClampNeg), vI (h.I a3 (x3_ + 3).toNatClampNeg)] h) th fun v4 h =>
    nn r0_ fun a5 =>
    gd (h.kd a5 == 101 && inb (x3_ + 1) (h.ln a5)) (nn r0_ fun a6 =>
    gd (h.kd a6 == 101 && inb (x3_ + 2) (h.ln a6)) (nn r0_ fun a7 =>
    gd (h.kd a7 == 101 && inb (x3_ + 3) (h.ln a7)) (gd (rcO 73 [vR r2_, vI (h.I a5 (x3_ + 1).toNatClampNeg), vI (h.I a6 (x3_ + 2).toNatClampNeg), vI (h.I a7 (x3_ + 3).toNatClampNeg)] h) (cI (cal E d 195 [vR r2_, vI (h.I a5 (x3_ + 1).toNatClampNeg), vI (h.I a6 (x3_ + 2).toNatClampNeg), vI (h.I a7 (x3_ + 3).toNatClampNeg)] h) th fun v8 h =>
    if v4 = v8 then rn E d 0 1465 [some (vR r0_), some (vR r1_), some (vR r2_), some (vI x3_)] [] h else
    some (Sum.inl (some (vI 0)), h))))))))) := rn_b (b := b0_1399) rfl
theorem e0_1442 (E : EV) (d : Nat) (r0_ : Option Nat) (r1_ : Option Nat) (r2_ : Option Nat) (x3_ : Int32) (h : AH) : rn E d 0 1442 [some (vR r0_), some (vR r1_), some (vR r2_), some (vI x3_)] [] h =
    nn r0_ fun a1 =>
    gd (h.kd a1 == 101 && inb (x3_ + 1) (h.ln a1)) (gd (rcO 74 [vR r1_, vI (h.I a1 (x3_ + 1).toNatClampNeg)] h) (cI (cal E d 1 [vR r1_, vI (h.I a1 (x3_ + 1).toNatClampNeg)] h) th fun v2 h =>
    nn r0_ fun a3 =>
    gd (h.kd a3 == 101 && inb (x3_ + 1) (h.ln a3)) (gd (rcO 75 [vR r2_, vI (h.I a3 (x3_ + 1).toNatClampNeg)] h) (cI (cal E d 107 [vR r2_, vI (h.I a3 (x3_ + 1).toNatClampNeg)] h) th fun v4 h =>
    if v2 = v4 then rn E d 0 1465 [some (vR r0_), some (vR r1_), some (vR r2_), some (vI x3_)] [] h else
    some (Sum.inl (some (vI 0)), h))))) := rn_b (b := b0_1442) rfl
theorem e0_1465 (E : EV) (d : Nat) (r0_ : Option Nat) (r1_ : Option Nat) (r2_ : Option Nat) (x3_ : Int32) (h : AH) : rn E d 0 1465 [some (vR r0_), some (vR r1_), some (vR r2_), some (vI x3_)] [] h =
    hs (x3_ + 7) fun x1 =>
    rn E d 0 18 [some (vR r0_), some (vR r1_), some (vR r2_), some (vI x1)] [] h := rn_b (b := b0_1465) rfl
theorem e0_1471 (E : EV) (d : Nat) (r0_ : Option Nat) (r1_ : Option Nat) (r2_ : Option Nat) (x3_ : Int32) (h : AH) : rn E d 0 1471 [some (vR r0_), some (vR r1_), some (vR r2_), some (vI x3_)] [] h =
    some (Sum.inl (some (vI 1)), h) := rn_b (b := b0_1471) rfl
/-! 1 FastPlane.about(I)I -/
theorem c1 (E : EV) (d : Nat) (t : Nat) (x1_ : Int32) (h : AH) : cal E (d + 1) 1 [vR (some t), vI x1_] h = rn E d 1 0 [some (vR (some t)), some (vI x1_)] [] h := cal_rn rfl rfl
theorem e1_0 (E : EV) (d : Nat) (t : Nat) (x1_ : Int32) (h : AH) : rn E d 1 0 [some (vR (some t)), some (vI x1_)] [] h =
    if x1_ < 10 then rn E d 1 25 [some (vR (some t)), some (vI x1_)] [] h else
    if 13 ≤ x1_ then rn E d 1 25 [some (vR (some t)), some (vI x1_)] [] h else
    gd (h.kd t == 1) (nn (h.R t 5) fun a1 =>
    gd (decide (105 ≤ h.kd a1) && inb (x1_ - 10) (h.ln a1)) (nn (h.R a1 (x1_ - 10).toNatClampNeg) fun a2 =>
    gd (h.kd a2 == 4) (some (Sum.inl (some (vI (h.I a2 47))), h)))) := rn_b (b := b1_0) rfl
theorem e1_25 (E : EV) (d : Nat) (t : Nat) (x1_ : Int32) (h : AH) : rn E d 1 25 [some (vR (some t)), some (vI x1_)] [] h =
    if x1_ = 0 then rn E d 1 80 [some (vR (some t)), some (vI x1_)] [] h else
    if x1_ = 1 then rn E d 1 91 [some (vR (some t)), some (vI x1_)] [] h else
    if x1_ = 2 then rn E d 1 102 [some (vR (some t)), some (vI x1_)] [] h else
    if x1_ = 3 then rn E d 1 113 [some (vR (some t)), some (vI x1_)] [] h else
    if x1_ = 4 then rn E d 1 121 [some (vR (some t)), some (vI x1_)] [] h else
    if x1_ = 5 then rn E d 1 129 [some (vR (some t)), some (vI x1_)] [] h else
    if x1_ = 6 then rn E d 1 134 [some (vR (some t)), some (vI x1_)] [] h else
    if x1_ = 7 then rn E d 1 139 [some (vR (some t)), some (vI x1_)] [] h else
    if x1_ = 8 then rn E d 1 144 [some (vR (some t)), some (vI x1_)] [] h else
    if x1_ = 9 then rn E d 1 149 [some (vR (some t)), some (vI x1_)] [] h else
    rn E d 1 154 [some (vR (some t)), some (vI x1_)] [] h := rn_b (b := b1_25) rfl
theorem e1_80 (E : EV) (d : Nat) (t : Nat) (x1_ : Int32) (h : AH) : rn E d 1 80 [some (vR (some t)), some (vI x1_)] [] h =
    gd (h.kd t == 1) (nn (h.R t 4) fun a1 =>
    gd (h.kd a1 == 2) (gd (rcO 76 [vR (h.R a1 34)] h) (cI (cal E d 268 [vR (h.R a1 34)] h) th fun v2 h =>
    some (Sum.inl (some (vI v2)), h)))) := rn_b (b := b1_80) rfl
theorem e1_91 (E : EV) (d : Nat) (t : Nat) (x1_ : Int32) (h : AH) : rn E d 1 91 [some (vR (some t)), some (vI x1_)] [] h =
    gd (h.kd t == 1) (nn (h.R t 4) fun a1 =>
    gd (h.kd a1 == 2) (gd (rcO 76 [vR (h.R a1 35)] h) (cI (cal E d 268 [vR (h.R a1 35)] h) th fun v2 h =>
    some (Sum.inl (some (vI v2)), h)))) := rn_b (b := b1_91) rfl
theorem e1_102 (E : EV) (d : Nat) (t : Nat) (x1_ : Int32) (h : AH) : rn E d 1 102 [some (vR (some t)), some (vI x1_)] [] h =
    gd (h.kd t == 1) (nn (h.R t 4) fun a1 =>
    gd (h.kd a1 == 2) (gd (rcO 76 [vR (h.R a1 36)] h) (cI (cal E d 268 [vR (h.R a1 36)] h) th fun v2 h =>
    some (Sum.inl (some (vI v2)), h)))) := rn_b (b := b1_102) rfl
theorem e1_113 (E : EV) (d : Nat) (t : Nat) (x1_ : Int32) (h : AH) : rn E d 1 113 [some (vR (some t)), some (vI x1_)] [] h =
    gd (h.kd t == 1) (nn (h.R t 4) fun a1 =>
    gd (h.kd a1 == 2) (some (Sum.inl (some (vI (h.I a1 41))), h))) := rn_b (b := b1_113) rfl
theorem e1_121 (E : EV) (d : Nat) (t : Nat) (x1_ : Int32) (h : AH) : rn E d 1 121 [some (vR (some t)), some (vI x1_)] [] h =
    gd (h.kd t == 1) (gd (rcO 76 [vR (h.R t 6)] h) (cI (cal E d 268 [vR (h.R t 6)] h) th fun v1 h =>
    some (Sum.inl (some (vI v1)), h))) := rn_b (b := b1_121) rfl
theorem e1_129 (E : EV) (d : Nat) (t : Nat) (x1_ : Int32) (h : AH) : rn E d 1 129 [some (vR (some t)), some (vI x1_)] [] h =
    gd (h.kd t == 1) (some (Sum.inl (some (vI (h.I t 9))), h)) := rn_b (b := b1_129) rfl
theorem e1_134 (E : EV) (d : Nat) (t : Nat) (x1_ : Int32) (h : AH) : rn E d 1 134 [some (vR (some t)), some (vI x1_)] [] h =
    gd (h.kd t == 1) (some (Sum.inl (some (vI (h.I t 23))), h)) := rn_b (b := b1_134) rfl
theorem e1_139 (E : EV) (d : Nat) (t : Nat) (x1_ : Int32) (h : AH) : rn E d 1 139 [some (vR (some t)), some (vI x1_)] [] h =
    gd (h.kd t == 1) (some (Sum.inl (some (vI (h.I t 7))), h)) := rn_b (b := b1_139) rfl
theorem e1_144 (E : EV) (d : Nat) (t : Nat) (x1_ : Int32) (h : AH) : rn E d 1 144 [some (vR (some t)), some (vI x1_)] [] h =
    gd (h.kd t == 1) (some (Sum.inl (some (vI (h.I t 1))), h)) := rn_b (b := b1_144) rfl
theorem e1_149 (E : EV) (d : Nat) (t : Nat) (x1_ : Int32) (h : AH) : rn E d 1 149 [some (vR (some t)), some (vI x1_)] [] h =
    gd (h.kd t == 1) (some (Sum.inl (some (vI (h.I t 30))), h)) := rn_b (b := b1_149) rfl
theorem e1_154 (E : EV) (d : Nat) (t : Nat) (x1_ : Int32) (h : AH) : rn E d 1 154 [some (vR (some t)), some (vI x1_)] [] h =
    some (Sum.inl (some (vI (-1))), h) := rn_b (b := b1_154) rfl
/-! 2 FastPlane.airline(II)I -/
theorem c2 (E : EV) (d : Nat) (t : Nat) (x1_ : Int32) (x2_ : Int32) (h : AH) : cal E (d + 1) 2 [vR (some t), vI x1_, vI x2_] h = rn E d 2 0 [some (vR (some t)), some (vI x1_), some (vI x2_)] [] h := cal_rn rfl rfl
theorem e2_0 (E : EV) (d : Nat) (t : Nat) (x1_ : Int32) (x2_ : Int32) (h : AH) : rn E d 2 0 [some (vR (some t)), some (vI x1_), some (vI x2_)] [] h =
    cI (cal E d 26 [vI x1_, vI 0, vI 999] h) th fun v1 h =>
    if v1 = 0 then rn E d 2 27 [some (vR (some t)), some (vI x1_), some (vI x2_)] [] h else
    cI (cal E d 27 [vI x2_] h) th fun v2 h =>
    if v2 = 0 then rn E d 2 27 [some (vR (some t)), some (vI x1_), some (vI x2_)] [] h else
    gd (h.kd t == 1) (if (h.I t 23) = 10 then
    rn E d 2 27 [some (vR (some t)), some (vI x1_), some (vI x2_)] [] h
    else rn E d 2 29 [some (vR (some t)), some (vI x1_), some (vI x2_)] [] h) := rn_b (b := b2_0) rfl
theorem e2_27 (E : EV) (d : Nat) (t : Nat) (x1_ : Int32) (x2_ : Int32) (h : AH) : rn E d 2 27 [some (vR (some t)), some (vI x1_), some (vI x2_)] [] h =
    some (Sum.inl (some (vI (-1))), h) := rn_b (b := b2_27) rfl
theorem e2_29 (E : EV) (d : Nat) (t : Nat) (x1_ : Int32) (x2_ : Int32) (h : AH) : rn E d 2 29 [some (vR (some t)), some (vI x1_), some (vI x2_)] [] h =
    gd (h.kd t == 1) (gd (h.kd t == 1) (nn (h.R t 20) fun a1 =>
    gd (h.kd a1 == 101 && inb (h.I t 23) (h.ln a1) && decide (E.bs ≤ a1)) (hs (h.setI a1 (h.I t 23).toNatClampNeg x1_) fun h =>
    gd (h.kd t == 1) (gd (h.kd t == 1) (nn (h.R t 21) fun a2 =>
    gd (h.kd a2 == 101 && inb (h.I t 23) (h.ln a2) && decide (E.bs ≤ a2)) (hs (h.setI a2 (h.I t 23).toNatClampNeg x2_) fun h =>
    gd (h.kd t == 1) (gd ((h.kd t == 1) && decide (E.bs ≤ t) && true) (hs (h.setI t 23 ((h.I t 23) + 1)) fun h =>
    gd (h.kd t == 1) (some (Sum.inl (some (vI ((h.I t 23) - 1))), h)))))))))) := rn_b (b := b2_29) rfl
/-! 3 FastPlane.areMoney(II)Z -/
theorem c3 (E : EV) (d : Nat) (x0_ : Int32) (x1_ : Int32) (h : AH) : cal E (d + 1) 3 [vI x0_, vI x1_] h = rn E d 3 0 [some (vI x0_), some (vI x1_)] [] h := cal_rn rfl rfl
theorem e3_0 (E : EV) (d : Nat) (x0_ : Int32) (x1_ : Int32) (h : AH) : rn E d 3 0 [some (vI x0_), some (vI x1_)] [] h =
    cI (cal E d 26 [vI x0_, vI 0, vI 30] h) th fun v1 h =>
    if v1 = 0 then rn E d 3 24 [some (vI x0_), some (vI x1_)] [] h else
    cI (cal E d 26 [vI x1_, vI 0, vI 30] h) th fun v2 h =>
    if v2 = 0 then rn E d 3 24 [some (vI x0_), some (vI x1_)] [] h else
    rn E d 3 25 [some (vI x0_), some (vI x1_)] [vI 1] h := rn_b (b := b3_0) rfl
theorem e3_24 (E : EV) (d : Nat) (x0_ : Int32) (x1_ : Int32) (h : AH) : rn E d 3 24 [some (vI x0_), some (vI x1_)] [] h =
    rn E d 3 25 [some (vI x0_), some (vI x1_)] [vI 0] h := rn_b (b := b3_24) rfl
theorem e3_25 (E : EV) (d : Nat) (x0_ : Int32) (x1_ : Int32) (s0_ : Int32) (h : AH) : rn E d 3 25 [some (vI x0_), some (vI x1_)] [vI s0_] h =
    gd (decide (s0_ = 0) || decide (s0_ = 1)) (some (Sum.inl (some (vI s0_)), h)) := rn_b (b := b3_25) rfl
/-! 4 FastPlane.bears(II)I -/
theorem c4 (E : EV) (d : Nat) (t : Nat) (x1_ : Int32) (x2_ : Int32) (h : AH) : cal E (d + 1) 4 [vR (some t), vI x1_, vI x2_] h = rn E d 4 0 [some (vR (some t)), some (vI x1_), some (vI x2_), none] [] h := cal_rn rfl rfl
theorem e4_0 (E : EV) (d : Nat) (t : Nat) (x1_ : Int32) (x2_ : Int32) (o3_ : Option AV) (h : AH) : rn E d 4 0 [some (vR (some t)), some (vI x1_), some (vI x2_), o3_] [] h =
    cI (cal E d 3 [vI x1_, vI x2_] h) th fun v1 h =>
    if v1 = 0 then
    some (Sum.inl (some (vI (-1))), h)
    else rn E d 4 10 [some (vR (some t)), some (vI x1_), some (vI x2_), o3_] [] h := rn_b (b := b4_0) rfl
theorem e4_10 (E : EV) (d : Nat) (t : Nat) (x1_ : Int32) (x2_ : Int32) (o3_ : Option AV) (h : AH) : rn E d 4 10 [some (vR (some t)), some (vI x1_), some (vI x2_), o3_] [] h =
    gd (h.kd t == 1) (cV (cal E d 57 [vR (some t)] h) th fun h =>
    rn E d 4 16 [some (vR (some t)), some (vI x1_), some (vI x2_), some (vI (-1))] [] h) := rn_b (b := b4_10) rfl
theorem e4_16 (E : EV) (d : Nat) (t : Nat) (x1_ : Int32) (x2_ : Int32) (x3_ : Int32) (h : AH) : rn E d 4 16 [some (vR (some t)), some (vI x1_), some (vI x2_), some (vI x3_)] [] h =
    if 6 ≤ x3_ then rn E d 4 52 [some (vR (some t)), some (vI x1_), some (vI x2_), some (vI x3_)] [] h else
    gd (h.kd t == 1) (nn (h.R t 33) fun a1 =>
    gd (decide (105 ≤ h.kd a1) && inb 0 (h.ln a1)) (gd (h.kd t == 1) (nn (h.R a1 (0 : Int32).toNatClampNeg) fun a2 =>
    gd (decide (105 ≤ h.kd a2) && inb (h.I t 32) (h.ln a2)) (nn (h.R a2 (h.I t 32).toNatClampNeg) fun a3 =>
    gd (decide (105 ≤ h.kd a3) && inb (x3_ + 1) (h.ln a3)) (hs (h.R a3 (x3_ + 1).toNatClampNeg) fun q5 =>
    cI (cal E d 54 [vI x1_, vI x2_] h) th fun v4 h =>
    nn q5 fun a6 =>
    gd ((h.kd a6 == 102 || h.kd a6 == 103) && inb v4 (h.ln a6)) (if (h.I a6 v4.toNatClampNeg) = 0 then rn E d 4 52 [some (vR (some t)), some (vI x1_), some (vI x2_), some (vI x3_)] [] h else
    hs (x3_ + 1) fun x7 =>
    rn E d 4 16 [some (vR (some t)), some (vI x1_), some (vI x2_), some (vI x7)] [] h)))))) := rn_b (b := b4_16) rfl
theorem e4_52 (E : EV) (d : Nat) (t : Nat) (x1_ : Int32) (x2_ : Int32) (x3_ : Int32) (h : AH) : rn E d 4 52 [some (vR (some t)), some (vI x1_), some (vI x2_), some (vI x3_)] [] h =
    some (Sum.inl (some (vI x3_)), h) := rn_b (b := b4_52) rfl
/-! 5 FastPlane.bounds(II)I -/
theorem c5 (E : EV) (d : Nat) (t : Nat) (x1_ : Int32) (x2_ : Int32) (h : AH) : cal E (d + 1) 5 [vR (some t), vI x1_, vI x2_] h = rn E d 5 0 [some (vR (some t)), some (vI x1_), some (vI x2_)] [] h := cal_rn rfl rfl
theorem e5_0 (E : EV) (d : Nat) (t : Nat) (x1_ : Int32) (x2_ : Int32) (h : AH) : rn E d 5 0 [some (vR (some t)), some (vI x1_), some (vI x2_)] [] h =
    cI (cal E d 26 [vI x1_, vI 0, vI 99] h) th fun v1 h =>
    if v1 = 0 then rn E d 5 29 [some (vR (some t)), some (vI x1_), some (vI x2_)] [] h else
    cI (cal E d 26 [vI x2_, vI x1_, vI 99] h) th fun v2 h =>
    if v2 = 0 then rn E d 5 29 [some (vR (some t)), some (vI x1_), some (vI x2_)] [] h else
    gd (h.kd t == 1) (if (h.I t 9) = 12 then
    rn E d 5 29 [some (vR (some t)), some (vI x1_), some (vI x2_)] [] h
    else rn E d 5 31 [some (vR (some t)), some (vI x1_), some (vI x2_)] [] h) := rn_b (b := b5_0) rfl
theorem e5_29 (E : EV) (d : Nat) (t : Nat) (x1_ : Int32) (x2_ : Int32) (h : AH) : rn E d 5 29 [some (vR (some t)), some (vI x1_), some (vI x2_)] [] h =
    some (Sum.inl (some (vI (-1))), h) := rn_b (b := b5_29) rfl
theorem e5_31 (E : EV) (d : Nat) (t : Nat) (x1_ : Int32) (x2_ : Int32) (h : AH) : rn E d 5 31 [some (vR (some t)), some (vI x1_), some (vI x2_)] [] h =
    gd (h.kd t == 1) (gd (h.kd t == 1) (nn (h.R t 11) fun a1 =>
    gd (h.kd a1 == 101 && inb (h.I t 9) (h.ln a1) && decide (E.bs ≤ a1)) (hs (h.setI a1 (h.I t 9).toNatClampNeg x1_) fun h =>
    gd (h.kd t == 1) (gd (h.kd t == 1) (nn (h.R t 12) fun a2 =>
    gd (h.kd a2 == 101 && inb (h.I t 9) (h.ln a2) && decide (E.bs ≤ a2)) (hs (h.setI a2 (h.I t 9).toNatClampNeg x2_) fun h =>
    gd (h.kd t == 1) (gd ((h.kd t == 1) && decide (E.bs ≤ t) && true) (hs (h.setI t 9 ((h.I t 9) + 1)) fun h =>
    gd (h.kd t == 1) (some (Sum.inl (some (vI (h.I t 9))), h)))))))))) := rn_b (b := b5_31) rfl
/-! 6 FastPlane.breaks(I)I -/
theorem c6 (E : EV) (d : Nat) (t : Nat) (x1_ : Int32) (h : AH) : cal E (d + 1) 6 [vR (some t), vI x1_] h = rn E d 6 0 [some (vR (some t)), some (vI x1_), none] [] h := cal_rn rfl rfl
theorem e6_0 (E : EV) (d : Nat) (t : Nat) (x1_ : Int32) (o2_ : Option AV) (h : AH) : rn E d 6 0 [some (vR (some t)), some (vI x1_), o2_] [] h =
    if x1_ < 0 then rn E d 6 18 [some (vR (some t)), some (vI x1_), o2_] [] h else
    gd (h.kd t == 1) (nn (h.R t 4) fun a1 =>
    gd (h.kd a1 == 2) (gd (rcO 76 [vR (h.R a1 35)] h) (cI (cal E d 268 [vR (h.R a1 35)] h) th fun v2 h =>
    if x1_ < v2 then rn E d 6 20 [some (vR (some t)), some (vI x1_), o2_] [] h else
    rn E d 6 18 [some (vR (some t)), some (vI x1_), o2_] [] h))) := rn_b (b := b6_0) rfl
theorem e6_18 (E : EV) (d : Nat) (t : Nat) (x1_ : Int32) (o2_ : Option AV) (h : AH) : rn E d 6 18 [some (vR (some t)), some (vI x1_), o2_] [] h =
    some (Sum.inl (some (vI (-1))), h) := rn_b (b := b6_18) rfl
theorem e6_20 (E : EV) (d : Nat) (t : Nat) (x1_ : Int32) (o2_ : Option AV) (h : AH) : rn E d 6 20 [some (vR (some t)), some (vI x1_), o2_] [] h =
    rn E d 6 22 [some (vR (some t)), some (vI x1_), some (vI 0)] [] h := rn_b (b := b6_20) rfl
theorem e6_22 (E : EV) (d : Nat) (t : Nat) (x1_ : Int32) (x2_ : Int32) (h : AH) : rn E d 6 22 [some (vR (some t)), some (vI x1_), some (vI x2_)] [] h =
    if 30 < x2_ then rn E d 6 55 [some (vR (some t)), some (vI x1_), some (vI x2_)] [] h else
    gd (h.kd t == 1) (nn (h.R t 4) fun a1 =>
    gd (h.kd a1 == 2) (gd (rcO 82 [vR (h.R a1 35), vI x1_] h) (cR (cal E d 264 [vR (h.R a1 35), vI x1_] h) th fun r2 h =>
    gd (okC 11 h r2) (gd (rcO 83 [vR r2, vI x2_] h) (cI (cal E d 72 [vR r2, vI x2_] h) th fun v3 h =>
    if v3 = 0 then rn E d 6 55 [some (vR (some t)), some (vI x1_), some (vI x2_)] [] h else
    hs (x2_ + 1) fun x4 =>
    rn E d 6 22 [some (vR (some t)), some (vI x1_), some (vI x4)] [] h))))) := rn_b (b := b6_22) rfl
theorem e6_55 (E : EV) (d : Nat) (t : Nat) (x1_ : Int32) (x2_ : Int32) (h : AH) : rn E d 6 55 [some (vR (some t)), some (vI x1_), some (vI x2_)] [] h =
    if x2_ ≤ 30 then rn E d 6 65 [some (vR (some t)), some (vI x1_), some (vI x2_)] [] h else
    rn E d 6 66 [some (vR (some t)), some (vI x1_), some (vI x2_)] [vI (-1)] h := rn_b (b := b6_55) rfl
theorem e6_65 (E : EV) (d : Nat) (t : Nat) (x1_ : Int32) (x2_ : Int32) (h : AH) : rn E d 6 65 [some (vR (some t)), some (vI x1_), some (vI x2_)] [] h =
    rn E d 6 66 [some (vR (some t)), some (vI x1_), some (vI x2_)] [vI x2_] h := rn_b (b := b6_65) rfl
theorem e6_66 (E : EV) (d : Nat) (t : Nat) (x1_ : Int32) (x2_ : Int32) (s0_ : Int32) (h : AH) : rn E d 6 66 [some (vR (some t)), some (vI x1_), some (vI x2_)] [vI s0_] h =
    some (Sum.inl (some (vI s0_)), h) := rn_b (b := b6_66) rfl
/-! 7 FastPlane.by(III)I -/
theorem c7 (E : EV) (d : Nat) (t : Nat) (x1_ : Int32) (x2_ : Int32) (x3_ : Int32) (h : AH) : cal E (d + 1) 7 [vR (some t), vI x1_, vI x2_, vI x3_] h = rn E d 7 0 [some (vR (some t)), some (vI x1_), some (vI x2_), some (vI x3_), none, none, none, none, none, none, none, none] [] h := cal_rn rfl rfl
theorem e7_0 (E : EV) (d : Nat) (t : Nat) (x1_ : Int32) (x2_ : Int32) (x3_ : Int32) (o4_ : Option AV) (o5_ : Option AV) (o6_ : Option AV) (o7_ : Option AV) (o8_ : Option AV) (o9_ : Option AV) (o10_ : Option AV) (o11_ : Option AV) (h : AH) : rn E d 7 0 [some (vR (some t)), some (vI x1_), some (vI x2_), some (vI x3_), o4_, o5_, o6_, o7_, o8_, o9_, o10_, o11_] [] h =
    gd (!decide ((100 : Int32) = 0)) (hs (x3_ / 100) fun x1 =>
    gd (!decide ((100 : Int32) = 0)) (hs (x3_ - x3_ / 100 * 100) fun x2 =>
    gd (!decide ((9 : Int32) = 0)) (hs (x2 / 9) fun x3 =>
    gd (!decide ((3 : Int32) = 0)) (gd (!decide ((3 : Int32) = 0)) (hs ((x2 / 3) - (x2 / 3) / 3 * 3) fun x4 =>
    gd (!decide ((3 : Int32) = 0)) (hs (x2 - x2 / 3 * 3) fun x5 =>
    gd (h.kd t == 1) (nn (h.R t 18) fun a6 =>
    gd (h.kd a6 == 101 && inb 0 (h.ln a6) && decide (E.bs ≤ a6)) (hs (h.setI a6 (0 : Int32).toNatClampNeg (x2_ >>> (8 &&& 31))) fun h =>
    gd (h.kd t == 1) (nn (h.R t 18) fun a7 =>
    gd (h.kd a7 == 101 && inb 1 (h.ln a7) && decide (E.bs ≤ a7)) (hs (h.setI a7 (1 : Int32).toNatClampNeg ((x2_ >>> (4 &&& 31)) &&& 15)) fun h =>
    gd (h.kd t == 1) (nn (h.R t 18) fun a8 =>
    gd (h.kd a8 == 101 && inb 2 (h.ln a8) && decide (E.bs ≤ a8)) (hs (h.setI a8 (2 : Int32).toNatClampNeg (x2_ &&& 15)) fun h =>
    if x3 = 0 then
    if 0 < x2 then rn E d 7 131 [some (vR (some t)), some (vI x1_), some (vI x2_), some (vI x3_), some (vI x1), some (vI x2), some (vI x3), some (vI x4), some (vI x5), o9_, o10_, o11_] [] h else
    rn E d 7 75 [some (vR (some t)), some (vI x1_), some (vI x2_), some (vI x3_), some (vI x1), some (vI x2), some (vI x3), some (vI x4), some (vI x5), o9_, o10_, o11_] [] h
    else rn E d 7 75 [some (vR (some t)), some (vI x1_), some (vI x2_), some (vI x3_), some (vI x1), some (vI x2), some (vI x3), some (vI x4), some (vI x5), o9_, o10_, o11_] [] h)))))))))))) := rn_b (b := b7_0) rfl
theorem e7_75 (E : EV) (d : Nat) (t : Nat) (x1_ : Int32) (x2_ : Int32) (x3_ : Int32) (x4_ : Int32) (x5_ : Int32) (x6_ : Int32) (x7_ : Int32) (x8_ : Int32) (o9_ : Option AV) (o10_ : Option AV) (o11_ : Option AV) (h : AH) : rn E d 7 75 [some (vR (some t)), some (vI x1_), some (vI x2_), some (vI x3_), some (vI x4_), some (vI x5_), some (vI x6_), some (vI x7_), some (vI x8_), o9_, o10_, o11_] [] h =
    gd (h.kd t == 1) (if (h.I t 8) < x6_ then rn E d 7 131 [some (vR (some t)), some (vI x1_), some (vI x2_), some (vI x3_), some (vI x4_), some (vI x5_), some (vI x6_), some (vI x7_), some (vI x8_), o9_, o10_, o11_] [] h else
    if x6_ ≤ 0 then rn E d 7 133 [some (vR (some t)), some (vI x1_), some (vI x2_), some (vI x3_), some (vI x4_), some (vI x5_), some (vI x6_), some (vI x7_), some (vI x8_), o9_, o10_, o11_] [] h else
    if x7_ = x8_ then rn E d 7 131 [some (vR (some t)), some (vI x1_), some (vI x2_), some (vI x3_), some (vI x4_), some (vI x5_), some (vI x6_), some (vI x7_), some (vI x8_), o9_, o10_, o11_] [] h else
    gd (h.kd t == 1) (nn (h.R t 18) fun a1 =>
    gd (h.kd a1 == 101 && inb x7_ (h.ln a1)) (if (h.I a1 x7_.toNatClampNeg) < x6_ then rn E d 7 131 [some (vR (some t)), some (vI x1_), some (vI x2_), some (vI x3_), some (vI x4_), some (vI x5_), some (vI x6_), some (vI x7_), some (vI x8_), o9_, o10_, o11_] [] h else
    gd (h.kd t == 1) (nn (h.R t 18) fun a2 =>
    gd (h.kd a2 == 101 && inb x8_ (h.ln a2)) (gd (h.kd t == 1) (nn (h.R t 4) fun a3 =>
    gd (h.kd a3 == 2) (nn (h.R a3 38) fun a4 =>
    gd (h.kd a4 == 101 && inb x8_ (h.ln a4)) (if ((h.I a2 x8_.toNatClampNeg) + x6_) ≤ (h.I a4 x8_.toNatClampNeg) then rn E d 7 133 [some (vR (some t)), some (vI x1_), some (vI x2_), some (vI x3_), some (vI x4_), some (vI x5_), some (vI x6_), some (vI x7_), some (vI x8_), o9_, o10_, o11_] [] h else
    rn E d 7 131 [some (vR (some t)), some (vI x1_), some (vI x2_), some (vI x3_), some (vI x4_), some (vI x5_), some (vI x6_), some (vI x7_), some (vI x8_), o9_, o10_, o11_] [] h)))))))) := rn_b (b := b7_75) rfl
theorem e7_131 (E : EV) (d : Nat) (t : Nat) (x1_ : Int32) (x2_ : Int32) (x3_ : Int32) (x4_ : Int32) (x5_ : Int32) (x6_ : Int32) (x7_ : Int32) (x8_ : Int32) (o9_ : Option AV) (o10_ : Option AV) (o11_ : Option AV) (h : AH) : rn E d 7 131 [some (vR (some t)), some (vI x1_), some (vI x2_), some (vI x3_), some (vI x4_), some (vI x5_), some (vI x6_), some (vI x7_), some (vI x8_), o9_, o10_, o11_] [] h =
    some (Sum.inl (some (vI (-1))), h) := rn_b (b := b7_131) rfl
theorem e7_133 (E : EV) (d : Nat) (t : Nat) (x1_ : Int32) (x2_ : Int32) (x3_ : Int32) (x4_ : Int32) (x5_ : Int32) (x6_ : Int32) (x7_ : Int32) (x8_ : Int32) (o9_ : Option AV) (o10_ : Option AV) (o11_ : Option AV) (h : AH) : rn E d 7 133 [some (vR (some t)), some (vI x1_), some (vI x2_), some (vI x3_), some (vI x4_), some (vI x5_), some (vI x6_), some (vI x7_), some (vI x8_), o9_, o10_, o11_] [] h =
    gd (h.kd t == 1) (nn (h.R t 18) fun a1 =>
    gd (h.kd a1 == 101 && inb x7_ (h.ln a1)) (nn (h.R t 18) fun a2 =>
    gd (h.kd a2 == 101 && inb x7_ (h.ln a2) && decide (E.bs ≤ a2)) (hs (h.setI a2 x7_.toNatClampNeg ((h.I a1 x7_.toNatClampNeg) - x6_)) fun h =>
    gd (h.kd t == 1) (nn (h.R t 18) fun a3 =>
    gd (h.kd a3 == 101 && inb x8_ (h.ln a3)) (nn (h.R t 18) fun a4 =>
    gd (h.kd a4 == 101 && inb x8_ (h.ln a4) && decide (E.bs ≤ a4)) (hs (h.setI a4 x8_.toNatClampNeg ((h.I a3 x8_.toNatClampNeg) + x6_)) fun h =>
    gd (h.kd t == 1) (nn (h.R t 18) fun a5 =>
    gd (h.kd a5 == 101 && inb x4_ (h.ln a5)) (if (h.I a5 x4_.toNatClampNeg) = 0 then
    some (Sum.inl (some (vI (-1))), h)
    else rn E d 7 169 [some (vR (some t)), some (vI x1_), some (vI x2_), some (vI x3_), some (vI x4_), some (vI x5_), some (vI x6_), some (vI x7_), some (vI x8_), o9_, o10_, o11_] [] h)))))))) := rn_b (b := b7_133) rfl
theorem e7_169 (E : EV) (d : Nat) (t : Nat) (x1_ : Int32) (x2_ : Int32) (x3_ : Int32) (x4_ : Int32) (x5_ : Int32) (x6_ : Int32) (x7_ : Int32) (x8_ : Int32) (o9_ : Option AV) (o10_ : Option AV) (o11_ : Option AV) (h : AH) : rn E d 7 169 [some (vR (some t)), some (vI x1_), some (vI x2_), some (vI x3_), some (vI x4_), some (vI x5_), some (vI x6_), some (vI x7_), some (vI x8_), o9_, o10_, o11_] [] h =
    gd (h.kd t == 1) (nn (h.R t 18) fun a1 =>
    gd (h.kd a1 == 101 && inb x4_ (h.ln a1)) (nn (h.R t 18) fun a2 =>
    gd (h.kd a2 == 101 && inb x4_ (h.ln a2) && decide (E.bs ≤ a2)) (hs (h.setI a2 x4_.toNatClampNeg ((h.I a1 x4_.toNatClampNeg) - 1)) fun h =>
    rn E d 7 189 [some (vR (some t)), some (vI x1_), some (vI x2_), some (vI x3_), some (vI x4_), some (vI x5_), some (vI x6_), some (vI x7_), some (vI x8_), some (vI 0), some (vI 0), some (vI 0)] [] h))) := rn_b (b := b7_169) rfl
theorem e7_189 (E : EV) (d : Nat) (t : Nat) (x1_ : Int32) (x2_ : Int32) (x3_ : Int32) (x4_ : Int32) (x5_ : Int32) (x6_ : Int32) (x7_ : Int32) (x8_ : Int32) (x9_ : Int32) (x10_ : Int32) (x11_ : Int32) (h : AH) : rn E d 7 189 [some (vR (some t)), some (vI x1_), some (vI x2_), some (vI x3_), some (vI x4_), some (vI x5_), some (vI x6_), some (vI x7_), some (vI x8_), some (vI x9_), some (vI x10_), some (vI x11_)] [] h =
    if 3 ≤ x11_ then rn E d 7 236 [some (vR (some t)), some (vI x1_), some (vI x2_), some (vI x3_), some (vI x4_), some (vI x5_), some (vI x6_), some (vI x7_), some (vI x8_), some (vI x9_), some (vI x10_), some (vI x11_)] [] h else
    gd (h.kd t == 1) (nn (h.R t 18) fun a1 =>
    gd (h.kd a1 == 101 && inb x11_ (h.ln a1)) (hs (x9_ + (h.I a1 x11_.toNatClampNeg)) fun x2 =>
    gd (h.kd t == 1) (nn (h.R t 18) fun a3 =>
    gd (h.kd a3 == 101 && inb x11_ (h.ln a3)) (gd (h.kd t == 1) (nn (h.R t 4) fun a4 =>
    gd (h.kd a4 == 2) (nn (h.R a4 37) fun a5 =>
    gd (h.kd a5 == 101 && inb x11_ (h.ln a5)) (hs (x10_ + ((h.I a3 x11_.toNatClampNeg) * (h.I a5 x11_.toNatClampNeg))) fun x6 =>
    hs (x11_ + 1) fun x7 =>
    rn E d 7 189 [some (vR (some t)), some (vI x1_), some (vI x2_), some (vI x3_), some (vI x4_), some (vI x5_), some (vI x6_), some (vI x7_), some (vI x8_), some (vI x2), some (vI x6), some (vI x7)] [] h))))))) := rn_b (b := b7_189) rfl
theorem e7_236 (E : EV) (d : Nat) (t : Nat) (x1_ : Int32) (x2_ : Int32) (x3_ : Int32) (x4_ : Int32) (x5_ : Int32) (x6_ : Int32) (x7_ : Int32) (x8_ : Int32) (x9_ : Int32) (x10_ : Int32) (x11_ : Int32) (h : AH) : rn E d 7 236 [some (vR (some t)), some (vI x1_), some (vI x2_), some (vI x3_), some (vI x4_), some (vI x5_), some (vI x6_), some (vI x7_), some (vI x8_), some (vI x9_), some (vI x10_), some (vI x11_)] [] h =
    gd (h.kd t == 1) (nn (h.R t 11) fun a1 =>
    gd (h.kd a1 == 101 && inb x1_ (h.ln a1)) (if x10_ < ((h.I a1 x1_.toNatClampNeg) * x9_) then rn E d 7 264 [some (vR (some t)), some (vI x1_), some (vI x2_), some (vI x3_), some (vI x4_), some (vI x5_), some (vI x6_), some (vI x7_), some (vI x8_), some (vI x9_), some (vI x10_), some (vI x11_)] [] h else
    gd (h.kd t == 1) (nn (h.R t 12) fun a2 =>
    gd (h.kd a2 == 101 && inb x1_ (h.ln a2)) (if x10_ ≤ ((h.I a2 x1_.toNatClampNeg) * x9_) then rn E d 7 268 [some (vR (some t)), some (vI x1_), some (vI x2_), some (vI x3_), some (vI x4_), some (vI x5_), some (vI x6_), some (vI x7_), some (vI x8_), some (vI x9_), some (vI x10_), some (vI x11_)] [] h else
    rn E d 7 264 [some (vR (some t)), some (vI x1_), some (vI x2_), some (vI x3_), some (vI x4_), some (vI x5_), some (vI x6_), some (vI x7_), some (vI x8_), some (vI x9_), some (vI x10_), some (vI x11_)] [] h)))) := rn_b (b := b7_236) rfl
theorem e7_264 (E : EV) (d : Nat) (t : Nat) (x1_ : Int32) (x2_ : Int32) (x3_ : Int32) (x4_ : Int32) (x5_ : Int32) (x6_ : Int32) (x7_ : Int32) (x8_ : Int32) (x9_ : Int32) (x10_ : Int32) (x11_ : Int32) (h : AH) : rn E d 7 264 [some (vR (some t)), some (vI x1_), some (vI x2_), some (vI x3_), some (vI x4_), some (vI x5_), some (vI x6_), some (vI x7_), some (vI x8_), some (vI x9_), some (vI x10_), some (vI x11_)] [] h =
    rn E d 7 289 [some (vR (some t)), some (vI x1_), some (vI x2_), some (vI x3_), some (vI x4_), some (vI x5_), some (vI x6_), some (vI x7_), some (vI x8_), some (vI x9_), some (vI x10_), some (vI x11_)] [vI (-1)] h := rn_b (b := b7_264) rfl
theorem e7_268 (E : EV) (d : Nat) (t : Nat) (x1_ : Int32) (x2_ : Int32) (x3_ : Int32) (x4_ : Int32) (x5_ : Int32) (x6_ : Int32) (x7_ : Int32) (x8_ : Int32) (x9_ : Int32) (x10_ : Int32) (x11_ : Int32) (h : AH) : rn E d 7 268 [some (vR (some t)), some (vI x1_), some (vI x2_), some (vI x3_), some (vI x4_), some (vI x5_), some (vI x6_), some (vI x7_), some (vI x8_), some (vI x9_), some (vI x10_), some (vI x11_)] [] h =
    gd (h.kd t == 1) (nn (h.R t 18) fun a1 =>
    gd (h.kd a1 == 101 && inb 0 (h.ln a1)) (gd (h.kd t == 1) (nn (h.R t 18) fun a2 =>
    gd (h.kd a2 == 101 && inb 1 (h.ln a2)) (gd (h.kd t == 1) (nn (h.R t 18) fun a3 =>
    gd (h.kd a3 == 101 && inb 2 (h.ln a3)) (cI (cal E d 64 [vI (h.I a1 (0 : Int32).toNatClampNeg), vI (h.I a2 (1 : Int32).toNatClampNeg), vI (h.I a3 (2 : Int32).toNatClampNeg)] h) th fun v4 h =>
    rn E d 7 289 [some (vR (some t)), some (vI x1_), some (vI x2_), some (vI x3_), some (vI x4_), some (vI x5_), some (vI x6_), some (vI x7_), some (vI x8_), some (vI x9_), some (vI x10_), some (vI x11_)] [vI v4] h)))))) := rn_b (b := b7_268) rfl
theorem e7_289 (E : EV) (d : Nat) (t : Nat) (x1_ : Int32) (x2_ : Int32) (x3_ : Int32) (x4_ : Int32) (x5_ : Int32) (x6_ : Int32) (x7_ : Int32) (x8_ : Int32) (x9_ : Int32) (x10_ : Int32) (x11_ : Int32) (s0_ : Int32) (h : AH) : rn E d 7 289 [some (vR (some t)), some (vI x1_), some (vI x2_), some (vI x3_), some (vI x4_), some (vI x5_), some (vI x6_), some (vI x7_), some (vI x8_), some (vI x9_), some (vI x10_), some (vI x11_)] [vI s0_] h =
    some (Sum.inl (some (vI s0_)), h) := rn_b (b := b7_289) rfl
/-! 8 FastPlane.canGoOn(IIIII)Z -/
theorem c8 (E : EV) (d : Nat) (t : Nat) (x1_ : Int32) (x2_ : Int32) (x3_ : Int32) (x4_ : Int32) (x5_ : Int32) (h : AH) : cal E (d + 1) 8 [vR (some t), vI x1_, vI x2_, vI x3_, vI x4_, vI x5_] h = rn E d 8 0 [some (vR (some t)), some (vI x1_), some (vI x2_), some (vI x3_), some (vI x4_), some (vI x5_), none, none, none] [] h := cal_rn rfl rfl
theorem e8_0 (E : EV) (d : Nat) (t : Nat) (x1_ : Int32) (x2_ : Int32) (x3_ : Int32) (x4_ : Int32) (x5_ : Int32) (o6_ : Option AV) (o7_ : Option AV) (o8_ : Option AV) (h : AH) : rn E d 8 0 [some (vR (some t)), some (vI x1_), some (vI x2_), some (vI x3_), some (vI x4_), some (vI x5_), o6_, o7_, o8_] [] h =
    gd (h.kd t == 1) (nn (h.R t 28) fun a1 =>
    gd (h.kd a1 == 101 && inb x1_ (h.ln a1)) (hs (h.I a1 x1_.toNatClampNeg) fun x2 =>
    gd (h.kd t == 1) (nn (h.R t 29) fun a3 =>
    gd (h.kd a3 == 101 && inb x1_ (h.ln a3)) (gd (!decide ((10 : Int32) = 0)) (hs ((x2 * (h.I a3 x1_.toNatClampNeg)) / 10) fun x4 =>
    gd (h.kd t == 1) (cI (cal E d 28 [vR (some t), vI (x1_ + 1), vI x2_, vI x3_, vI (x4_ - x4), vI ((x5_ - x2) + x4)] h) th fun v5 h =>
    if v5 = 0 then rn E d 8 101 [some (vR (some t)), some (vI x1_), some (vI x2_), some (vI x3_), some (vI x4_), some (vI x5_), some (vI x2), some (vI x4), some (vI v5)] [] h else
    if x3_ = 0 then rn E d 8 97 [some (vR (some t)), some (vI x1_), some (vI x2_), some (vI x3_), some (vI x4_), some (vI x5_), some (vI x2), some (vI x4), some (vI v5)] [] h else
    gd (h.kd t == 1) (cI (cal E d 28 [vR (some t), vI (x1_ + 1), vI x2_, vI (x3_ - 1), vI x4_, vI (x5_ - x2)] h) th fun v6 h =>
    if v6 = 0 then rn E d 8 101 [some (vR (some t)), some (vI x1_), some (vI x2_), some (vI x3_), some (vI x4_), some (vI x5_), some (vI x2), some (vI x4), some (vI v5)] [] h else
    gd (h.kd t == 1) (cI (cal E d 28 [vR (some t), vI (x1_ + 1), vI x2_, vI (x3_ - 1), vI (x4_ - x2), vI x5_] h) th fun v7 h =>
    if v7 = 0 then rn E d 8 101 [some (vR (some t)), some (vI x1_), some (vI x2_), some (vI x3_), some (vI x4_), some (vI x5_), some (vI x2), some (vI x4), some (vI v5)] [] h else
    rn E d 8 97 [some (vR (some t)), some (vI x1_), some (vI x2_), some (vI x3_), some (vI x4_), some (vI x5_), some (vI x2), some (vI x4), some (vI v5)] [] h)))))))) := rn_b (b := b8_0) rfl
theorem e8_97 (E : EV) (d : Nat) (t : Nat) (x1_ : Int32) (x2_ : Int32) (x3_ : Int32) (x4_ : Int32) (x5_ : Int32) (x6_ : Int32) (x7_ : Int32) (x8_ : Int32) (h : AH) : rn E d 8 97 [some (vR (some t)), some (vI x1_), some (vI x2_), some (vI x3_), some (vI x4_), some (vI x5_), some (vI x6_), some (vI x7_), some (vI x8_)] [] h =
    rn E d 8 102 [some (vR (some t)), some (vI x1_), some (vI x2_), some (vI x3_), some (vI x4_), some (vI x5_), some (vI x6_), some (vI x7_), some (vI x8_)] [vI 1] h := rn_b (b := b8_97) rfl
theorem e8_101 (E : EV) (d : Nat) (t : Nat) (x1_ : Int32) (x2_ : Int32) (x3_ : Int32) (x4_ : Int32) (x5_ : Int32) (x6_ : Int32) (x7_ : Int32) (x8_ : Int32) (h : AH) : rn E d 8 101 [some (vR (some t)), some (vI x1_), some (vI x2_), some (vI x3_), some (vI x4_), some (vI x5_), some (vI x6_), some (vI x7_), some (vI x8_)] [] h =
    rn E d 8 102 [some (vR (some t)), some (vI x1_), some (vI x2_), some (vI x3_), some (vI x4_), some (vI x5_), some (vI x6_), some (vI x7_), some (vI x8_)] [vI 0] h := rn_b (b := b8_101) rfl
theorem e8_102 (E : EV) (d : Nat) (t : Nat) (x1_ : Int32) (x2_ : Int32) (x3_ : Int32) (x4_ : Int32) (x5_ : Int32) (x6_ : Int32) (x7_ : Int32) (x8_ : Int32) (s0_ : Int32) (h : AH) : rn E d 8 102 [some (vR (some t)), some (vI x1_), some (vI x2_), some (vI x3_), some (vI x4_), some (vI x5_), some (vI x6_), some (vI x7_), some (vI x8_)] [vI s0_] h =
    gd (decide (s0_ = 0) || decide (s0_ = 1)) (some (Sum.inl (some (vI s0_)), h)) := rn_b (b := b8_102) rfl
/-! 9 FastPlane.canPlan(III)Z -/
theorem c9 (E : EV) (d : Nat) (t : Nat) (x1_ : Int32) (x2_ : Int32) (x3_ : Int32) (h : AH) : cal E (d + 1) 9 [vR (some t), vI x1_, vI x2_, vI x3_] h = rn E d 9 0 [some (vR (some t)), some (vI x1_), some (vI x2_), some (vI x3_)] [] h := cal_rn rfl rfl
theorem e9_0 (E : EV) (d : Nat) (t : Nat) (x1_ : Int32) (x2_ : Int32) (x3_ : Int32) (h : AH) : rn E d 9 0 [some (vR (some t)), some (vI x1_), some (vI x2_), some (vI x3_)] [] h =
    gd (h.kd t == 1) (if (h.I t 9) ≤ 0 then rn E d 9 62 [some (vR (some t)), some (vI x1_), some (vI x2_), some (vI x3_)] [] h else
    gd (h.kd t == 1) (nn (h.R t 4) fun a1 =>
    gd (h.kd a1 == 2) (nn (h.R a1 38) fun a2 =>
    gd (h.kd a2 == 101 && inb 0 (h.ln a2)) (cI (cal E d 26 [vI x1_, vI 0, vI (h.I a2 (0 : Int32).toNatClampNeg)] h) th fun v3 h =>
    if v3 = 0 then rn E d 9 62 [some (vR (some t)), some (vI x1_), some (vI x2_), some (vI x3_)] [] h else
    gd (h.kd t == 1) (nn (h.R t 4) fun a4 =>
    gd (h.kd a4 == 2) (nn (h.R a4 38) fun a5 =>
    gd (h.kd a5 == 101 && inb 1 (h.ln a5)) (cI (cal E d 26 [vI x2_, vI 0, vI (h.I a5 (1 : Int32).toNatClampNeg)] h) th fun v6 h =>
    if v6 = 0 then rn E d 9 62 [some (vR (some t)), some (vI x1_), some (vI x2_), some (vI x3_)] [] h else
    gd (h.kd t == 1) (nn (h.R t 4) fun a7 =>
    gd (h.kd a7 == 2) (nn (h.R a7 38) fun a8 =>
    gd (h.kd a8 == 101 && inb 2 (h.ln a8)) (cI (cal E d 26 [vI x3_, vI 0, vI (h.I a8 (2 : Int32).toNatClampNeg)] h) th fun v9 h =>
    if v9 = 0 then rn E d 9 62 [some (vR (some t)), some (vI x1_), some (vI x2_), some (vI x3_)] [] h else
    rn E d 9 63 [some (vR (some t)), some (vI x1_), some (vI x2_), some (vI x3_)] [vI 1] h)))))))))) := rn_b (b := b9_0) rfl
theorem e9_62 (E : EV) (d : Nat) (t : Nat) (x1_ : Int32) (x2_ : Int32) (x3_ : Int32) (h : AH) : rn E d 9 62 [some (vR (some t)), some (vI x1_), some (vI x2_), some (vI x3_)] [] h =
    rn E d 9 63 [some (vR (some t)), some (vI x1_), some (vI x2_), some (vI x3_)] [vI 0] h := rn_b (b := b9_62) rfl
theorem e9_63 (E : EV) (d : Nat) (t : Nat) (x1_ : Int32) (x2_ : Int32) (x3_ : Int32) (s0_ : Int32) (h : AH) : rn E d 9 63 [some (vR (some t)), some (vI x1_), some (vI x2_), some (vI x3_)] [vI s0_] h =
    gd (decide (s0_ = 0) || decide (s0_ = 1)) (some (Sum.inl (some (vI s0_)), h)) := rn_b (b := b9_63) rfl
/-! 10 FastPlane.canWait(IIIII)Z -/
theorem c10 (E : EV) (d : Nat) (t : Nat) (x1_ : Int32) (x2_ : Int32) (x3_ : Int32) (x4_ : Int32) (x5_ : Int32) (h : AH) : cal E (d + 1) 10 [vR (some t), vI x1_, vI x2_, vI x3_, vI x4_, vI x5_] h = rn E d 10 0 [some (vR (some t)), some (vI x1_), some (vI x2_), some (vI x3_), some (vI x4_), some (vI x5_)] [] h := cal_rn rfl rfl
theorem e10_0 (E : EV) (d : Nat) (t : Nat) (x1_ : Int32) (x2_ : Int32) (x3_ : Int32) (x4_ : Int32) (x5_ : Int32) (h : AH) : rn E d 10 0 [some (vR (some t)), some (vI x1_), some (vI x2_), some (vI x3_), some (vI x4_), some (vI x5_)] [] h =
    if x2_ ≤ 0 then rn E d 10 51 [some (vR (some t)), some (vI x1_), some (vI x2_), some (vI x3_), some (vI x4_), some (vI x5_)] [] h else
    gd (h.kd t == 1) (nn (h.R t 33) fun a1 =>
    gd (decide (105 ≤ h.kd a1) && inb x1_ (h.ln a1)) (nn (h.R a1 x1_.toNatClampNeg) fun a2 =>
    gd (decide (105 ≤ h.kd a2) && inb (x2_ - 1) (h.ln a2)) (nn (h.R a2 (x2_ - 1).toNatClampNeg) fun a3 =>
    gd (decide (105 ≤ h.kd a3) && inb x3_ (h.ln a3)) (gd (h.kd t == 1) (hs (h.R a3 x3_.toNatClampNeg) fun q5 =>
    cI (cal E d 295 [vI 30, vI (x4_ + (h.I t 31))] h) th fun v4 h =>
    gd (h.kd t == 1) (cI (cal E d 295 [vI 30, vI (x5_ + (h.I t 31))] h) th fun v6 h =>
    cI (cal E d 54 [vI v4, vI v6] h) th fun v7 h =>
    nn q5 fun a8 =>
    gd ((h.kd a8 == 102 || h.kd a8 == 103) && inb v7 (h.ln a8)) (if (h.I a8 v7.toNatClampNeg) = 0 then rn E d 10 51 [some (vR (some t)), some (vI x1_), some (vI x2_), some (vI x3_), some (vI x4_), some (vI x5_)] [] h else
    rn E d 10 52 [some (vR (some t)), some (vI x1_), some (vI x2_), some (vI x3_), some (vI x4_), some (vI x5_)] [vI 1] h))))))) := rn_b (b := b10_0) rfl
theorem e10_51 (E : EV) (d : Nat) (t : Nat) (x1_ : Int32) (x2_ : Int32) (x3_ : Int32) (x4_ : Int32) (x5_ : Int32) (h : AH) : rn E d 10 51 [some (vR (some t)), some (vI x1_), some (vI x2_), some (vI x3_), some (vI x4_), some (vI x5_)] [] h =
    rn E d 10 52 [some (vR (some t)), some (vI x1_), some (vI x2_), some (vI x3_), some (vI x4_), some (vI x5_)] [vI 0] h := rn_b (b := b10_51) rfl
theorem e10_52 (E : EV) (d : Nat) (t : Nat) (x1_ : Int32) (x2_ : Int32) (x3_ : Int32) (x4_ : Int32) (x5_ : Int32) (s0_ : Int32) (h : AH) : rn E d 10 52 [some (vR (some t)), some (vI x1_), some (vI x2_), some (vI x3_), some (vI x4_), some (vI x5_)] [vI s0_] h =
    gd (decide (s0_ = 0) || decide (s0_ = 1)) (some (Sum.inl (some (vI s0_)), h)) := rn_b (b := b10_52) rfl
/-! 11 FastPlane.change(II)I -/
theorem c11 (E : EV) (d : Nat) (t : Nat) (x1_ : Int32) (x2_ : Int32) (h : AH) : cal E (d + 1) 11 [vR (some t), vI x1_, vI x2_] h = rn E d 11 0 [some (vR (some t)), some (vI x1_), some (vI x2_)] [] h := cal_rn rfl rfl
theorem e11_0 (E : EV) (d : Nat) (t : Nat) (x1_ : Int32) (x2_ : Int32) (h : AH) : rn E d 11 0 [some (vR (some t)), some (vI x1_), some (vI x2_)] [] h =
    gd (h.kd t == 1) (cR (cal E d 50 [vR (some t), vI x1_] h) th fun r1 h =>
    if r1 = none then rn E d 11 20 [some (vR (some t)), some (vI x1_), some (vI x2_)] [vR (some t)] h else
    cI (cal E d 27 [vI x2_] h) th fun v2 h =>
    if v2 = 0 then rn E d 11 20 [some (vR (some t)), some (vI x1_), some (vI x2_)] [vR (some t)] h else
    rn E d 11 21 [some (vR (some t)), some (vI x1_), some (vI x2_)] [vI 1, vR (some t)] h) := rn_b (b := b11_0) rfl
theorem e11_20 (E : EV) (d : Nat) (t : Nat) (x1_ : Int32) (x2_ : Int32) (s0_ : Option Nat) (h : AH) : rn E d 11 20 [some (vR (some t)), some (vI x1_), some (vI x2_)] [vR s0_] h =
    rn E d 11 21 [some (vR (some t)), some (vI x1_), some (vI x2_)] [vI 0, vR s0_] h := rn_b (b := b11_20) rfl
theorem e11_21 (E : EV) (d : Nat) (t : Nat) (x1_ : Int32) (x2_ : Int32) (s0_ : Option Nat) (s1_ : Int32) (h : AH) : rn E d 11 21 [some (vR (some t)), some (vI x1_), some (vI x2_)] [vI s1_, vR s0_] h =
    gd (decide (h.nx + 1 ≤ E.lc) && decide (h.us + 4 ≤ E.lu)) (hs h.nx fun n1 => hs (h.mk 20 0 4) fun h =>
    gd (h.kd t == 1) (cV (cal E d 104 [vR (some n1), vI x1_, vI x2_, vI (h.I t 7)] h) th fun h =>
    gd (rcO 89 [vR s0_, vI s1_, vR (some n1)] h) (cI (cal E d 65 [vR s0_, vI s1_, vR (some n1)] h) th fun v2 h =>
    some (Sum.inl (some (vI v2)), h)))) := rn_b (b := b11_21) rfl
/-! 12 FastPlane.clash(I)I -/
theorem c12 (E : EV) (d : Nat) (t : Nat) (x1_ : Int32) (h : AH) : cal E (d + 1) 12 [vR (some t), vI x1_] h = rn E d 12 0 [some (vR (some t)), some (vI x1_), none, none] [] h := cal_rn rfl rfl
theorem e12_0 (E : EV) (d : Nat) (t : Nat) (x1_ : Int32) (o2_ : Option AV) (o3_ : Option AV) (h : AH) : rn E d 12 0 [some (vR (some t)), some (vI x1_), o2_, o3_] [] h =
    cI (cal E d 29 [vI x1_] h) th fun v1 h =>
    if v1 = 0 then
    some (Sum.inl (some (vI (-1))), h)
    else rn E d 12 9 [some (vR (some t)), some (vI x1_), o2_, o3_] [] h := rn_b (b := b12_0) rfl
theorem e12_9 (E : EV) (d : Nat) (t : Nat) (x1_ : Int32) (o2_ : Option AV) (o3_ : Option AV) (h : AH) : rn E d 12 9 [some (vR (some t)), some (vI x1_), o2_, o3_] [] h =
    rn E d 12 13 [some (vR (some t)), some (vI x1_), some (vI 0), some (vI 0)] [] h := rn_b (b := b12_9) rfl
theorem e12_13 (E : EV) (d : Nat) (t : Nat) (x1_ : Int32) (x2_ : Int32) (x3_ : Int32) (h : AH) : rn E d 12 13 [some (vR (some t)), some (vI x1_), some (vI x2_), some (vI x3_)] [] h =
    gd (h.kd t == 1) (nn (h.R t 4) fun a1 =>
    gd (h.kd a1 == 2) (gd (rcO 76 [vR (h.R a1 35)] h) (cI (cal E d 268 [vR (h.R a1 35)] h) th fun v2 h =>
    if v2 ≤ x3_ then rn E d 12 64 [some (vR (some t)), some (vI x1_), some (vI x2_), some (vI x3_)] [] h else
    gd (h.kd t == 1) (nn (h.R t 4) fun a3 =>
    gd (h.kd a3 == 2) (gd (rcO 82 [vR (h.R a3 35), vI x3_] h) (cR (cal E d 264 [vR (h.R a3 35), vI x3_] h) th fun r4 h =>
    gd (okC 11 h r4) (gd (rcO 83 [vR r4, vI x1_] h) (cI (cal E d 72 [vR r4, vI x1_] h) th fun v5 h =>
    if v5 = 0 then rn E d 12 53 [some (vR (some t)), some (vI x1_), some (vI x2_), some (vI x3_)] [vI x2_] h else
    rn E d 12 56 [some (vR (some t)), some (vI x1_), some (vI x2_), some (vI x3_)] [vI 0, vI x2_] h)))))))) := rn_b (b := b12_13) rfl
theorem e12_53 (E : EV) (d : Nat) (t : Nat) (x1_ : Int32) (x2_ : Int32) (x3_ : Int32) (s0_ : Int32) (h : AH) : rn E d 12 53 [some (vR (some t)), some (vI x1_), some (vI x2_), some (vI x3_)] [vI s0_] h =
    rn E d 12 56 [some (vR (some t)), some (vI x1_), some (vI x2_), some (vI x3_)] [vI (1 <<< (x3_ &&& 31)), vI s0_] h := rn_b (b := b12_53) rfl
theorem e12_56 (E : EV) (d : Nat) (t : Nat) (x1_ : Int32) (x2_ : Int32) (x3_ : Int32) (s0_ : Int32) (s1_ : Int32) (h : AH) : rn E d 12 56 [some (vR (some t)), some (vI x1_), some (vI x2_), some (vI x3_)] [vI s1_, vI s0_] h =
    hs (s0_ ||| s1_) fun x1 =>
    hs (x3_ + 1) fun x2 =>
    rn E d 12 13 [some (vR (some t)), some (vI x1_), some (vI x1), some (vI x2)] [] h := rn_b (b := b12_56) rfl
theorem e12_64 (E : EV) (d : Nat) (t : Nat) (x1_ : Int32) (x2_ : Int32) (x3_ : Int32) (h : AH) : rn E d 12 64 [some (vR (some t)), some (vI x1_), some (vI x2_), some (vI x3_)] [] h =
    some (Sum.inl (some (vI x2_)), h) := rn_b (b := b12_64) rfl
/-! 13 FastPlane.cost(II)I -/
theorem c13 (E : EV) (d : Nat) (t : Nat) (x1_ : Int32) (x2_ : Int32) (h : AH) : cal E (d + 1) 13 [vR (some t), vI x1_, vI x2_] h = rn E d 13 0 [some (vR (some t)), some (vI x1_), some (vI x2_)] [] h := cal_rn rfl rfl
theorem e13_0 (E : EV) (d : Nat) (t : Nat) (x1_ : Int32) (x2_ : Int32) (h : AH) : rn E d 13 0 [some (vR (some t)), some (vI x1_), some (vI x2_)] [] h =
    cI (cal E d 26 [vI x1_, vI 0, vI 999] h) th fun v1 h =>
    if v1 = 0 then
    some (Sum.inl (some (vI (-1))), h)
    else rn E d 13 13 [some (vR (some t)), some (vI x1_), some (vI x2_)] [] h := rn_b (b := b13_0) rfl
theorem e13_13 (E : EV) (d : Nat) (t : Nat) (x1_ : Int32) (x2_ : Int32) (h : AH) : rn E d 13 13 [some (vR (some t)), some (vI x1_), some (vI x2_)] [] h =
    gd (h.kd t == 1) (cV (cal E d 31 [vR (some t), vI x2_] h) th fun h =>
    gd (h.kd t == 1) (cI (cal E d 14 [vR (some t), vI x1_, vI x1_] h) th fun v1 h =>
    some (Sum.inl (some (vI v1)), h))) := rn_b (b := b13_13) rfl
/-! 14 FastPlane.costs(II)I -/
theorem c14 (E : EV) (d : Nat) (t : Nat) (x1_ : Int32) (x2_ : Int32) (h : AH) : cal E (d + 1) 14 [vR (some t), vI x1_, vI x2_] h = rn E d 14 0 [some (vR (some t)), some (vI x1_), some (vI x2_), none, none] [] h := cal_rn rfl rfl
theorem e14_0 (E : EV) (d : Nat) (t : Nat) (x1_ : Int32) (x2_ : Int32) (o3_ : Option AV) (o4_ : Option AV) (h : AH) : rn E d 14 0 [some (vR (some t)), some (vI x1_), some (vI x2_), o3_, o4_] [] h =
    rn E d 14 5 [some (vR (some t)), some (vI x1_), some (vI x2_), some (vI 0), some (vI 0)] [] h := rn_b (b := b14_0) rfl
theorem e14_5 (E : EV) (d : Nat) (t : Nat) (x1_ : Int32) (x2_ : Int32) (x3_ : Int32) (x4_ : Int32) (h : AH) : rn E d 14 5 [some (vR (some t)), some (vI x1_), some (vI x2_), some (vI x3_), some (vI x4_)] [] h =
    gd (h.kd t == 1) (nn (h.R t 4) fun a1 =>
    gd (h.kd a1 == 2) (gd (rcO 76 [vR (h.R a1 34)] h) (cI (cal E d 268 [vR (h.R a1 34)] h) th fun v2 h =>
    if v2 ≤ x4_ then rn E d 14 66 [some (vR (some t)), some (vI x1_), some (vI x2_), some (vI x3_), some (vI x4_)] [] h else
    gd (h.kd t == 1) (nn (h.R t 16) fun a3 =>
    gd (h.kd a3 == 101 && inb x4_ (h.ln a3)) (cI (cal E d 26 [vI (h.I a3 x4_.toNatClampNeg), vI x1_, vI x2_] h) th fun v4 h =>
    if v4 = 0 then rn E d 14 57 [some (vR (some t)), some (vI x1_), some (vI x2_), some (vI x3_), some (vI x4_)] [vI x3_] h else
    gd (h.kd t == 1) (nn (h.R t 4) fun a5 =>
    gd (h.kd a5 == 2) (gd (rcO 82 [vR (h.R a5 34), vI x4_] h) (cR (cal E d 264 [vR (h.R a5 34), vI x4_] h) th fun r6 h =>
    gd (okC 51 h r6) (nn r6 fun a7 =>
    gd (h.kd a7 == 9 || h.kd a7 == 10) (rn E d 14 58 [some (vR (some t)), some (vI x1_), some (vI x2_), some (vI x3_), some (vI x4_)] [vI (h.I a7 78), vI x3_] h)))))))))) := rn_b (b := b14_5) rfl
theorem e14_57 (E : EV) (d : Nat) (t : Nat) (x1_ : Int32) (x2_ : Int32) (x3_ : Int32) (x4_ : Int32) (s0_ : Int32) (h : AH) : rn E d 14 57 [some (vR (some t)), some (vI x1_), some (vI x2_), some (vI x3_), some (vI x4_)] [vI s0_] h =
    rn E d 14 58 [some (vR (some t)), some (vI x1_), some (vI x2_), some (vI x3_), some (vI x4_)] [vI 0, vI s0_] h := rn_b (b := b14_57) rfl
theorem e14_58 (E : EV) (d : Nat) (t : Nat) (x1_ : Int32) (x2_ : Int32) (x3_ : Int32) (x4_ : Int32) (s0_ : Int32) (s1_ : Int32) (h : AH) : rn E d 14 58 [some (vR (some t)), some (vI x1_), some (vI x2_), some (vI x3_), some (vI x4_)] [vI s1_, vI s0_] h =
    hs (s0_ + s1_) fun x1 =>
    hs (x4_ + 1) fun x2 =>
    rn E d 14 5 [some (vR (some t)), some (vI x1_), some (vI x2_), some (vI x1), some (vI x2)] [] h := rn_b (b := b14_58) rfl
theorem e14_66 (E : EV) (d : Nat) (t : Nat) (x1_ : Int32) (x2_ : Int32) (x3_ : Int32) (x4_ : Int32) (h : AH) : rn E d 14 66 [some (vR (some t)), some (vI x1_), some (vI x2_), some (vI x3_), some (vI x4_)] [] h =
    some (Sum.inl (some (vI x3_)), h) := rn_b (b := b14_66) rfl
/-! 15 FastPlane.end(I)I -/
theorem c15 (E : EV) (d : Nat) (t : Nat) (x1_ : Int32) (h : AH) : cal E (d + 1) 15 [vR (some t), vI x1_] h = rn E d 15 0 [some (vR (some t)), some (vI x1_)] [] h := cal_rn rfl rfl
theorem e15_0 (E : EV) (d : Nat) (t : Nat) (x1_ : Int32) (h : AH) : rn E d 15 0 [some (vR (some t)), some (vI x1_)] [] h =
    if x1_ < 0 then rn E d 15 12 [some (vR (some t)), some (vI x1_)] [] h else
    gd (h.kd t == 1) (if x1_ ≤ (h.I t 1) then rn E d 15 14 [some (vR (some t)), some (vI x1_)] [] h else
    rn E d 15 12 [some (vR (some t)), some (vI x1_)] [] h) := rn_b (b := b15_0) rfl
theorem e15_12 (E : EV) (d : Nat) (t : Nat) (x1_ : Int32) (h : AH) : rn E d 15 12 [some (vR (some t)), some (vI x1_)] [] h =
    some (Sum.inl (some (vI (-1))), h) := rn_b (b := b15_12) rfl
theorem e15_14 (E : EV) (d : Nat) (t : Nat) (x1_ : Int32) (h : AH) : rn E d 15 14 [some (vR (some t)), some (vI x1_)] [] h =
    gd ((h.kd t == 1) && decide (E.bs ≤ t) && true) (hs (h.setI t 1 x1_) fun h =>
    some (Sum.inl (some (vI x1_)), h)) := rn_b (b := b15_14) rfl
/-! 16 FastPlane.enter(IIII)V -/
theorem c16 (E : EV) (d : Nat) (t : Nat) (x1_ : Int32) (x2_ : Int32) (x3_ : Int32) (x4_ : Int32) (h : AH) : cal E (d + 1) 16 [vR (some t), vI x1_, vI x2_, vI x3_, vI x4_] h = rn E d 16 0 [some (vR (some t)), some (vI x1_), some (vI x2_), some (vI x3_), some (vI x4_)] [] h := cal_rn rfl rfl
theorem e16_0 (E : EV) (d : Nat) (t : Nat) (x1_ : Int32) (x2_ : Int32) (x3_ : Int32) (x4_ : Int32) (h : AH) : rn E d 16 0 [some (vR (some t)), some (vI x1_), some (vI x2_), some (vI x3_), some (vI x4_)] [] h =
    if x4_ < x1_ then rn E d 16 26 [some (vR (some t)), some (vI x1_), some (vI x2_), some (vI x3_), some (vI x4_)] [] h else
    gd (h.kd t == 1) (nn (h.R t 19) fun a1 =>
    gd (decide (105 ≤ h.kd a1) && inb x1_ (h.ln a1)) (gd (h.kd t == 1) (nn (h.R t 19) fun a2 =>
    gd (decide (105 ≤ h.kd a2) && inb x1_ (h.ln a2)) (nn (h.R a2 x1_.toNatClampNeg) fun a3 =>
    gd (h.kd a3 == 101 && inb x2_ (h.ln a3)) (hs (h.R a1 x1_.toNatClampNeg) fun q5 =>
    cI (cal E d 295 [vI (h.I a3 x2_.toNatClampNeg), vI x3_] h) th fun v4 h =>
    nn q5 fun a6 =>
    gd (h.kd a6 == 101 && inb x2_ (h.ln a6) && decide (E.bs ≤ a6)) (hs (h.setI a6 x2_.toNatClampNeg v4) fun h =>
    rn E d 16 26 [some (vR (some t)), some (vI x1_), some (vI x2_), some (vI x3_), some (vI x4_)] [] h)))))) := rn_b (b := b16_0) rfl
theorem e16_26 (E : EV) (d : Nat) (t : Nat) (x1_ : Int32) (x2_ : Int32) (x3_ : Int32) (x4_ : Int32) (h : AH) : rn E d 16 26 [some (vR (some t)), some (vI x1_), some (vI x2_), some (vI x3_), some (vI x4_)] [] h =
    some (Sum.inl none, h) := rn_b (b := b16_26) rfl
/-! 17 FastPlane.estimate(II)I -/
theorem c17 (E : EV) (d : Nat) (t : Nat) (x1_ : Int32) (x2_ : Int32) (h : AH) : cal E (d + 1) 17 [vR (some t), vI x1_, vI x2_] h = rn E d 17 0 [some (vR (some t)), some (vI x1_), some (vI x2_)] [] h := cal_rn rfl rfl
theorem e17_0 (E : EV) (d : Nat) (t : Nat) (x1_ : Int32) (x2_ : Int32) (h : AH) : rn E d 17 0 [some (vR (some t)), some (vI x1_), some (vI x2_)] [] h =
    cI (cal E d 27 [vI x1_] h) th fun v1 h =>
    if v1 = 0 then rn E d 17 23 [some (vR (some t)), some (vI x1_), some (vI x2_)] [vR (some t)] h else
    cI (cal E d 26 [vI x2_, vI 0, vI 99999] h) th fun v2 h =>
    if v2 = 0 then rn E d 17 23 [some (vR (some t)), some (vI x1_), some (vI x2_)] [vR (some t)] h else
    rn E d 17 24 [some (vR (some t)), some (vI x1_), some (vI x2_)] [vI 1, vR (some t)] h := rn_b (b := b17_0) rfl
theorem e17_23 (E : EV) (d : Nat) (t : Nat) (x1_ : Int32) (x2_ : Int32) (s0_ : Option Nat) (h : AH) : rn E d 17 23 [some (vR (some t)), some (vI x1_), some (vI x2_)] [vR s0_] h =
    rn E d 17 24 [some (vR (some t)), some (vI x1_), some (vI x2_)] [vI 0, vR s0_] h := rn_b (b := b17_23) rfl
theorem e17_24 (E : EV) (d : Nat) (t : Nat) (x1_ : Int32) (x2_ : Int32) (s0_ : Option Nat) (s1_ : Int32) (h : AH) : rn E d 17 24 [some (vR (some t)), some (vI x1_), some (vI x2_)] [vI s1_, vR s0_] h =
    gd (decide (h.nx + 1 ≤ E.lc) && decide (h.us + 4 ≤ E.lu)) (hs h.nx fun n1 => hs (h.mk 21 0 4) fun h =>
    gd (h.kd t == 1) (cV (cal E d 105 [vR (some n1), vI x1_, vI x2_, vI (h.I t 7)] h) th fun h =>
    gd (rcO 89 [vR s0_, vI s1_, vR (some n1)] h) (cI (cal E d 65 [vR s0_, vI s1_, vR (some n1)] h) th fun v2 h =>
    some (Sum.inl (some (vI v2)), h)))) := rn_b (b := b17_24) rfl
/-! 18 FastPlane.fault(I)I -/
theorem c18 (E : EV) (d : Nat) (t : Nat) (x1_ : Int32) (h : AH) : cal E (d + 1) 18 [vR (some t), vI x1_] h = rn E d 18 0 [some (vR (some t)), some (vI x1_)] [] h := cal_rn rfl rfl
theorem e18_0 (E : EV) (d : Nat) (t : Nat) (x1_ : Int32) (h : AH) : rn E d 18 0 [some (vR (some t)), some (vI x1_)] [] h =
    if x1_ = 0 then
    gd (h.kd t == 1) (rn E d 18 24 [some (vR (some t)), some (vI x1_)] [vI (h.I t 2)] h)
    else rn E d 18 11 [some (vR (some t)), some (vI x1_)] [] h := rn_b (b := b18_0) rfl
theorem e18_11 (E : EV) (d : Nat) (t : Nat) (x1_ : Int32) (h : AH) : rn E d 18 11 [some (vR (some t)), some (vI x1_)] [] h =
    if x1_ = 1 then
    gd (h.kd t == 1) (rn E d 18 24 [some (vR (some t)), some (vI x1_)] [vI (h.I t 3)] h)
    else rn E d 18 23 [some (vR (some t)), some (vI x1_)] [] h := rn_b (b := b18_11) rfl
theorem e18_23 (E : EV) (d : Nat) (t : Nat) (x1_ : Int32) (h : AH) : rn E d 18 23 [some (vR (some t)), some (vI x1_)] [] h =
    rn E d 18 24 [some (vR (some t)), some (vI x1_)] [vI (-1)] h := rn_b (b := b18_23) rfl
theorem e18_24 (E : EV) (d : Nat) (t : Nat) (x1_ : Int32) (s0_ : Int32) (h : AH) : rn E d 18 24 [some (vR (some t)), some (vI x1_)] [vI s0_] h =
    some (Sum.inl (some (vI s0_)), h) := rn_b (b := b18_24) rfl
/-! 19 FastPlane.feed(IIIII)I -/
theorem c19 (E : EV) (d : Nat) (t : Nat) (x1_ : Int32) (x2_ : Int32) (x3_ : Int32) (x4_ : Int32) (x5_ : Int32) (h : AH) : cal E (d + 1) 19 [vR (some t), vI x1_, vI x2_, vI x3_, vI x4_, vI x5_] h = rn E d 19 0 [some (vR (some t)), some (vI x1_), some (vI x2_), some (vI x3_), some (vI x4_), some (vI x5_), none, none, none, none, none, none] [] h := cal_rn rfl rfl
theorem e19_0 (E : EV) (d : Nat) (t : Nat) (x1_ : Int32) (x2_ : Int32) (x3_ : Int32) (x4_ : Int32) (x5_ : Int32) (o6_ : Option AV) (o7_ : Option AV) (o8_ : Option AV) (o9_ : Option AV) (o10_ : Option AV) (o11_ : Option AV) (h : AH) : rn E d 19 0 [some (vR (some t)), some (vI x1_), some (vI x2_), some (vI x3_), some (vI x4_), some (vI x5_), o6_, o7_, o8_, o9_, o10_, o11_] [] h =
    gd (h.kd t == 1) (if ((h.I t 1) + 20) ≤ 1300 then rn E d 19 15 [some (vR (some t)), some (vI x1_), some (vI x2_), some (vI x3_), some (vI x4_), some (vI x5_), o6_, o7_, o8_, o9_, o10_, o11_] [] h else
    some (Sum.inl (some (vI (-1))), h)) := rn_b (b := b19_0) rfl
theorem e19_15 (E : EV) (d : Nat) (t : Nat) (x1_ : Int32) (x2_ : Int32) (x3_ : Int32) (x4_ : Int32) (x5_ : Int32) (o6_ : Option AV) (o7_ : Option AV) (o8_ : Option AV) (o9_ : Option AV) (o10_ : Option AV) (o11_ : Option AV) (h : AH) : rn E d 19 15 [some (vR (some t)), some (vI x1_), some (vI x2_), some (vI x3_), some (vI x4_), some (vI x5_), o6_, o7_, o8_, o9_, o10_, o11_] [] h =
    gd (decide (0 ≤ (5 : Int32)) && decide ((5 : Int32).toNatClampNeg ≤ 1048576) && decide (h.nx + 1 ≤ E.lc) && decide (h.us + (5 : Int32).toNatClampNeg ≤ E.lu)) (hs h.nx fun n1 => hs (h.mk 101 (5 : Int32).toNatClampNeg (5 : Int32).toNatClampNeg) fun h =>
    gd (h.kd n1 == 101 && inb 0 (h.ln n1) && decide (E.bs ≤ n1)) (hs (h.setI n1 (0 : Int32).toNatClampNeg x1_) fun h =>
    gd (h.kd n1 == 101 && inb 1 (h.ln n1) && decide (E.bs ≤ n1)) (hs (h.setI n1 (1 : Int32).toNatClampNeg x2_) fun h =>
    gd (h.kd n1 == 101 && inb 2 (h.ln n1) && decide (E.bs ≤ n1)) (hs (h.setI n1 (2 : Int32).toNatClampNeg x3_) fun h =>
    gd (h.kd n1 == 101 && inb 3 (h.ln n1) && decide (E.bs ≤ n1)) (hs (h.setI n1 (3 : Int32).toNatClampNeg x4_) fun h =>
    gd (h.kd n1 == 101 && inb 4 (h.ln n1) && decide (E.bs ≤ n1)) (hs (h.setI n1 (4 : Int32).toNatClampNeg x5_) fun h =>
    gd (decide (101 ≤ h.kd n1)) (hs (Int32.ofNat (h.ln n1)) fun x2 =>
    rn E d 19 54 [some (vR (some t)), some (vI x1_), some (vI x2_), some (vI x3_), some (vI x4_), some (vI x5_), some (vR (some n1)), some (vR (some n1)), some (vI x2), some (vI 0), o10_, o11_] [] h))))))) := rn_b (b := b19_15) rfl
theorem e19_54 (E : EV) (d : Nat) (t : Nat) (x1_ : Int32) (x2_ : Int32) (x3_ : Int32) (x4_ : Int32) (x5_ : Int32) (r6_ : Option Nat) (r7_ : Option Nat) (x8_ : Int32) (x9_ : Int32) (o10_ : Option AV) (o11_ : Option AV) (h : AH) : rn E d 19 54 [some (vR (some t)), some (vI x1_), some (vI x2_), some (vI x3_), some (vI x4_), some (vI x5_), some (vR r6_), some (vR r7_), some (vI x8_), some (vI x9_), o10_, o11_] [] h =
    if x8_ ≤ x9_ then rn E d 19 114 [some (vR (some t)), some (vI x1_), some (vI x2_), some (vI x3_), some (vI x4_), some (vI x5_), some (vR r6_), some (vR r7_), some (vI x8_), some (vI x9_), o10_, o11_] [] h else
    nn r7_ fun a1 =>
    gd (h.kd a1 == 101 && inb x9_ (h.ln a1)) (hs (h.I a1 x9_.toNatClampNeg) fun x2 =>
    rn E d 19 72 [some (vR (some t)), some (vI x1_), some (vI x2_), some (vI x3_), some (vI x4_), some (vI x5_), some (vR r6_), some (vR r7_), some (vI x8_), some (vI x9_), some (vI x2), some (vI 24)] [] h) := rn_b (b := b19_54) rfl
theorem e19_72 (E : EV) (d : Nat) (t : Nat) (x1_ : Int32) (x2_ : Int32) (x3_ : Int32) (x4_ : Int32) (x5_ : Int32) (r6_ : Option Nat) (r7_ : Option Nat) (x8_ : Int32) (x9_ : Int32) (x10_ : Int32) (x11_ : Int32) (h : AH) : rn E d 19 72 [some (vR (some t)), some (vI x1_), some (vI x2_), some (vI x3_), some (vI x4_), some (vI x5_), some (vR r6_), some (vR r7_), some (vI x8_), some (vI x9_), some (vI x10_), some (vI x11_)] [] h =
    if x11_ < 0 then rn E d 19 108 [some (vR (some t)), some (vI x1_), some (vI x2_), some (vI x3_), some (vI x4_), some (vI x5_), some (vR r6_), some (vR r7_), some (vI x8_), some (vI x9_), some (vI x10_), some (vI x11_)] [] h else
    gd (h.kd t == 1) (gd (h.kd t == 1) (nn (h.R t 0) fun a1 =>
    gd ((h.kd a1 == 102 || h.kd a1 == 103) && inb (h.I t 1) (h.ln a1) && decide (E.bs ≤ a1)) (hs (h.setI a1 (h.I t 1).toNatClampNeg (if h.kd a1 = 102 then ((x10_ >>> (x11_ &&& 31)).toInt8.toInt32).toInt8.toInt32 else ((x10_ >>> (x11_ &&& 31)).toInt8.toInt32) &&& 1)) fun h =>
    gd (h.kd t == 1) (gd ((h.kd t == 1) && decide (E.bs ≤ t) && true) (hs (h.setI t 1 ((h.I t 1) + 1)) fun h =>
    hs (x11_ + (-8)) fun x2 =>
    rn E d 19 72 [some (vR (some t)), some (vI x1_), some (vI x2_), some (vI x3_), some (vI x4_), some (vI x5_), some (vR r6_), some (vR r7_), some (vI x8_), some (vI x9_), some (vI x10_), some (vI x2)] [] h))))) := rn_b (b := b19_72) rfl
theorem e19_108 (E : EV) (d : Nat) (t : Nat) (x1_ : Int32) (x2_ : Int32) (x3_ : Int32) (x4_ : Int32) (x5_ : Int32) (r6_ : Option Nat) (r7_ : Option Nat) (x8_ : Int32) (x9_ : Int32) (x10_ : Int32) (x11_ : Int32) (h : AH) : rn E d 19 108 [some (vR (some t)), some (vI x1_), some (vI x2_), some (vI x3_), some (vI x4_), some (vI x5_), some (vR r6_), some (vR r7_), some (vI x8_), some (vI x9_), some (vI x10_), some (vI x11_)] [] h =
    hs (x9_ + 1) fun x1 =>
    rn E d 19 54 [some (vR (some t)), some (vI x1_), some (vI x2_), some (vI x3_), some (vI x4_), some (vI x5_), some (vR r6_), some (vR r7_), some (vI x8_), some (vI x1), some (vI x10_), some (vI x11_)] [] h := rn_b (b := b19_108) rfl
theorem e19_114 (E : EV) (d : Nat) (t : Nat) (x1_ : Int32) (x2_ : Int32) (x3_ : Int32) (x4_ : Int32) (x5_ : Int32) (r6_ : Option Nat) (r7_ : Option Nat) (x8_ : Int32) (x9_ : Int32) (o10_ : Option AV) (o11_ : Option AV) (h : AH) : rn E d 19 114 [some (vR (some t)), some (vI x1_), some (vI x2_), some (vI x3_), some (vI x4_), some (vI x5_), some (vR r6_), some (vR r7_), some (vI x8_), some (vI x9_), o10_, o11_] [] h =
    gd (h.kd t == 1) (some (Sum.inl (some (vI (h.I t 1))), h)) := rn_b (b := b19_114) rfl
/-! 20 FastPlane.fill(III)I -/
theorem c20 (E : EV) (d : Nat) (t : Nat) (x1_ : Int32) (x2_ : Int32) (x3_ : Int32) (h : AH) : cal E (d + 1) 20 [vR (some t), vI x1_, vI x2_, vI x3_] h = rn E d 20 0 [some (vR (some t)), some (vI x1_), some (vI x2_), some (vI x3_), none, none, none, none, none, none] [] h := cal_rn rfl rfl
theorem e20_0 (E : EV) (d : Nat) (t : Nat) (x1_ : Int32) (x2_ : Int32) (x3_ : Int32) (o4_ : Option AV) (o5_ : Option AV) (o6_ : Option AV) (o7_ : Option AV) (o8_ : Option AV) (o9_ : Option AV) (h : AH) : rn E d 20 0 [some (vR (some t)), some (vI x1_), some (vI x2_), some (vI x3_), o4_, o5_, o6_, o7_, o8_, o9_] [] h =
    rn E d 20 3 [some (vR (some t)), some (vI x1_), some (vI x2_), some (vI x3_), some (vI 0), o5_, o6_, o7_, o8_, o9_] [] h := rn_b (b := b20_0) rfl
theorem e20_3 (E : EV) (d : Nat) (t : Nat) (x1_ : Int32) (x2_ : Int32) (x3_ : Int32) (x4_ : Int32) (o5_ : Option AV) (o6_ : Option AV) (o7_ : Option AV) (o8_ : Option AV) (o9_ : Option AV) (h : AH) : rn E d 20 3 [some (vR (some t)), some (vI x1_), some (vI x2_), some (vI x3_), some (vI x4_), o5_, o6_, o7_, o8_, o9_] [] h =
    if 4096 ≤ x4_ then rn E d 20 30 [some (vR (some t)), some (vI x1_), some (vI x2_), some (vI x3_), some (vI x4_), o5_, o6_, o7_, o8_, o9_] [] h else
    gd (h.kd t == 1) (gd (h.kd t == 1) (nn (h.R t 17) fun a1 =>
    gd (decide (105 ≤ h.kd a1) && inb (h.I t 9) (h.ln a1)) (nn (h.R a1 (h.I t 9).toNatClampNeg) fun a2 =>
    gd (h.kd a2 == 101 && inb x4_ (h.ln a2) && decide (E.bs ≤ a2)) (hs (h.setI a2 x4_.toNatClampNeg 0) fun h =>
    hs (x4_ + 1) fun x3 =>
    rn E d 20 3 [some (vR (some t)), some (vI x1_), some (vI x2_), some (vI x3_), some (vI x3), o5_, o6_, o7_, o8_, o9_] [] h)))) := rn_b (b := b20_3) rfl
theorem e20_30 (E : EV) (d : Nat) (t : Nat) (x1_ : Int32) (x2_ : Int32) (x3_ : Int32) (x4_ : Int32) (o5_ : Option AV) (o6_ : Option AV) (o7_ : Option AV) (o8_ : Option AV) (o9_ : Option AV) (h : AH) : rn E d 20 30 [some (vR (some t)), some (vI x1_), some (vI x2_), some (vI x3_), some (vI x4_), o5_, o6_, o7_, o8_, o9_] [] h =
    gd (h.kd t == 1) (hs ((h.I t 9) - 1) fun x1 =>
    rn E d 20 38 [some (vR (some t)), some (vI x1_), some (vI x2_), some (vI x3_), some (vI x1), o5_, o6_, o7_, o8_, o9_] [] h) := rn_b (b := b20_30) rfl
theorem e20_38 (E : EV) (d : Nat) (t : Nat) (x1_ : Int32) (x2_ : Int32) (x3_ : Int32) (x4_ : Int32) (o5_ : Option AV) (o6_ : Option AV) (o7_ : Option AV) (o8_ : Option AV) (o9_ : Option AV) (h : AH) : rn E d 20 38 [some (vR (some t)), some (vI x1_), some (vI x2_), some (vI x3_), some (vI x4_), o5_, o6_, o7_, o8_, o9_] [] h =
    if x4_ < 0 then rn E d 20 202 [some (vR (some t)), some (vI x1_), some (vI x2_), some (vI x3_), some (vI x4_), o5_, o6_, o7_, o8_, o9_] [] h else
    rn E d 20 46 [some (vR (some t)), some (vI x1_), some (vI x2_), some (vI x3_), some (vI x4_), some (vI 0), o6_, o7_, o8_, o9_] [] h := rn_b (b := b20_38) rfl
theorem e20_46 (E : EV) (d : Nat) (t : Nat) (x1_ : Int32) (x2_ : Int32) (x3_ : Int32) (x4_ : Int32) (x5_ : Int32) (o6_ : Option AV) (o7_ : Option AV) (o8_ : Option AV) (o9_ : Option AV) (h : AH) : rn E d 20 46 [some (vR (some t)), some (vI x1_), some (vI x2_), some (vI x3_), some (vI x4_), some (vI x5_), o6_, o7_, o8_, o9_] [] h =
    if 4096 ≤ x5_ then rn E d 20 196 [some (vR (some t)), some (vI x1_), some (vI x2_), some (vI x3_), some (vI x4_), some (vI x5_), o6_, o7_, o8_, o9_] [] h else
    gd (h.kd t == 1) (nn (h.R t 4) fun a1 =>
    gd (h.kd a1 == 2) (nn (h.R a1 38) fun a2 =>
    gd (h.kd a2 == 101 && inb 0 (h.ln a2)) (if (h.I a2 (0 : Int32).toNatClampNeg) < (x5_ >>> (8 &&& 31)) then rn E d 20 116 [some (vR (some t)), some (vI x1_), some (vI x2_), some (vI x3_), some (vI x4_), some (vI x5_), some (vI 1000000), o7_, o8_, o9_] [] h else
    gd (h.kd t == 1) (nn (h.R t 4) fun a3 =>
    gd (h.kd a3 == 2) (nn (h.R a3 38) fun a4 =>
    gd (h.kd a4 == 101 && inb 1 (h.ln a4)) (if (h.I a4 (1 : Int32).toNatClampNeg) < ((x5_ >>> (4 &&& 31)) &&& 15) then rn E d 20 116 [some (vR (some t)), some (vI x1_), some (vI x2_), some (vI x3_), some (vI x4_), some (vI x5_), some (vI 1000000), o7_, o8_, o9_] [] h else
    gd (h.kd t == 1) (nn (h.R t 4) fun a5 =>
    gd (h.kd a5 == 2) (nn (h.R a5 38) fun a6 =>
    gd (h.kd a6 == 101 && inb 2 (h.ln a6)) (if (h.I a6 (2 : Int32).toNatClampNeg) < (x5_ &&& 15) then rn E d 20 116 [some (vR (some t)), some (vI x1_), some (vI x2_), some (vI x3_), some (vI x4_), some (vI x5_), some (vI 1000000), o7_, o8_, o9_] [] h else
    rn E d 20 117 [some (vR (some t)), some (vI x1_), some (vI x2_), some (vI x3_), some (vI x4_), some (vI x5_), some (vI 1000000), o7_, o8_, o9_] [vI 1] h))))))))) := rn_b (b := b20_46) rfl
theorem e20_116 (E : EV) (d : Nat) (t : Nat) (x1_ : Int32) (x2_ : Int32) (x3_ : Int32) (x4_ : Int32) (x5_ : Int32) (x6_ : Int32) (o7_ : Option AV) (o8_ : Option AV) (o9_ : Option AV) (h : AH) : rn E d 20 116 [some (vR (some t)), some (vI x1_), some (vI x2_), some (vI x3_), some (vI x4_), some (vI x5_), some (vI x6_), o7_, o8_, o9_] [] h =
    rn E d 20 117 [some (vR (some t)), some (vI x1_), some (vI x2_), some (vI x3_), some (vI x4_), some (vI x5_), some (vI x6_), o7_, o8_, o9_] [vI 0] h := rn_b (b := b20_116) rfl
theorem e20_117 (E : EV) (d : Nat) (t : Nat) (x1_ : Int32) (x2_ : Int32) (x3_ : Int32) (x4_ : Int32) (x5_ : Int32) (x6_ : Int32) (o7_ : Option AV) (o8_ : Option AV) (o9_ : Option AV) (s0_ : Int32) (h : AH) : rn E d 20 117 [some (vR (some t)), some (vI x1_), some (vI x2_), some (vI x3_), some (vI x4_), some (vI x5_), some (vI x6_), o7_, o8_, o9_] [vI s0_] h =
    rn E d 20 122 [some (vR (some t)), some (vI x1_), some (vI x2_), some (vI x3_), some (vI x4_), some (vI x5_), some (vI x6_), some (vI s0_), some (vI 0), o9_] [] h := rn_b (b := b20_117) rfl
theorem e20_122 (E : EV) (d : Nat) (t : Nat) (x1_ : Int32) (x2_ : Int32) (x3_ : Int32) (x4_ : Int32) (x5_ : Int32) (x6_ : Int32) (x7_ : Int32) (x8_ : Int32) (o9_ : Option AV) (h : AH) : rn E d 20 122 [some (vR (some t)), some (vI x1_), some (vI x2_), some (vI x3_), some (vI x4_), some (vI x5_), some (vI x6_), some (vI x7_), some (vI x8_), o9_] [] h =
    if 3 ≤ x8_ then rn E d 20 178 [some (vR (some t)), some (vI x1_), some (vI x2_), some (vI x3_), some (vI x4_), some (vI x5_), some (vI x6_), some (vI x7_), some (vI x8_), o9_] [] h else
    if x7_ = 0 then rn E d 20 178 [some (vR (some t)), some (vI x1_), some (vI x2_), some (vI x3_), some (vI x4_), some (vI x5_), some (vI x6_), some (vI x7_), some (vI x8_), o9_] [] h else
    rn E d 20 136 [some (vR (some t)), some (vI x1_), some (vI x2_), some (vI x3_), some (vI x4_), some (vI x5_), some (vI x6_), some (vI x7_), some (vI x8_), some (vI 0)] [] h := rn_b (b := b20_122) rfl
theorem e20_136 (E : EV) (d : Nat) (t : Nat) (x1_ : Int32) (x2_ : Int32) (x3_ : Int32) (x4_ : Int32) (x5_ : Int32) (x6_ : Int32) (x7_ : Int32) (x8_ : Int32) (x9_ : Int32) (h : AH) : rn E d 20 136 [some (vR (some t)), some (vI x1_), some (vI x2_), some (vI x3_), some (vI x4_), some (vI x5_), some (vI x6_), some (vI x7_), some (vI x8_), some (vI x9_)] [] h =
    if 36 ≤ x9_ then rn E d 20 172 [some (vR (some t)), some (vI x1_), some (vI x2_), some (vI x3_), some (vI x4_), some (vI x5_), some (vI x6_), some (vI x7_), some (vI x8_), some (vI x9_)] [] h else
    gd (h.kd t == 1) (cI (cal E d 69 [vR (some t), vI x4_, vI x5_, vI ((100 * x8_) + x9_)] h) th fun v1 h =>
    cI (cal E d 295 [vI x6_, vI v1] h) th fun v2 h =>
    hs (x9_ + 1) fun x3 =>
    rn E d 20 136 [some (vR (some t)), some (vI x1_), some (vI x2_), some (vI x3_), some (vI x4_), some (vI x5_), some (vI v2), some (vI x7_), some (vI x8_), some (vI x3)] [] h) := rn_b (b := b20_136) rfl
theorem e20_172 (E : EV) (d : Nat) (t : Nat) (x1_ : Int32) (x2_ : Int32) (x3_ : Int32) (x4_ : Int32) (x5_ : Int32) (x6_ : Int32) (x7_ : Int32) (x8_ : Int32) (x9_ : Int32) (h : AH) : rn E d 20 172 [some (vR (some t)), some (vI x1_), some (vI x2_), some (vI x3_), some (vI x4_), some (vI x5_), some (vI x6_), some (vI x7_), some (vI x8_), some (vI x9_)] [] h =
    hs (x8_ + 1) fun x1 =>
    rn E d 20 122 [some (vR (some t)), some (vI x1_), some (vI x2_), some (vI x3_), some (vI x4_), some (vI x5_), some (vI x6_), some (vI x7_), some (vI x1), some (vI x9_)] [] h := rn_b (b := b20_172) rfl
theorem e20_178 (E : EV) (d : Nat) (t : Nat) (x1_ : Int32) (x2_ : Int32) (x3_ : Int32) (x4_ : Int32) (x5_ : Int32) (x6_ : Int32) (x7_ : Int32) (x8_ : Int32) (o9_ : Option AV) (h : AH) : rn E d 20 178 [some (vR (some t)), some (vI x1_), some (vI x2_), some (vI x3_), some (vI x4_), some (vI x5_), some (vI x6_), some (vI x7_), some (vI x8_), o9_] [] h =
    gd (h.kd t == 1) (nn (h.R t 17) fun a1 =>
    gd (decide (105 ≤ h.kd a1) && inb x4_ (h.ln a1)) (nn (h.R a1 x4_.toNatClampNeg) fun a2 =>
    gd (h.kd a2 == 101 && inb x5_ (h.ln a2) && decide (E.bs ≤ a2)) (hs (h.setI a2 x5_.toNatClampNeg x6_) fun h =>
    hs (x5_ + 1) fun x3 =>
    rn E d 20 46 [some (vR (some t)), some (vI x1_), some (vI x2_), some (vI x3_), some (vI x4_), some (vI x3), some (vI x6_), some (vI x7_), some (vI x8_), o9_] [] h))) := rn_b (b := b20_178) rfl
theorem e20_196 (E : EV) (d : Nat) (t : Nat) (x1_ : Int32) (x2_ : Int32) (x3_ : Int32) (x4_ : Int32) (x5_ : Int32) (o6_ : Option AV) (o7_ : Option AV) (o8_ : Option AV) (o9_ : Option AV) (h : AH) : rn E d 20 196 [some (vR (some t)), some (vI x1_), some (vI x2_), some (vI x3_), some (vI x4_), some (vI x5_), o6_, o7_, o8_, o9_] [] h =
    hs (x4_ + (-1)) fun x1 =>
    rn E d 20 38 [some (vR (some t)), some (vI x1_), some (vI x2_), some (vI x3_), some (vI x1), some (vI x5_), o6_, o7_, o8_, o9_] [] h := rn_b (b := b20_196) rfl
theorem e20_202 (E : EV) (d : Nat) (t : Nat) (x1_ : Int32) (x2_ : Int32) (x3_ : Int32) (x4_ : Int32) (o5_ : Option AV) (o6_ : Option AV) (o7_ : Option AV) (o8_ : Option AV) (o9_ : Option AV) (h : AH) : rn E d 20 202 [some (vR (some t)), some (vI x1_), some (vI x2_), some (vI x3_), some (vI x4_), o5_, o6_, o7_, o8_, o9_] [] h =
    gd (h.kd t == 1) (nn (h.R t 17) fun a1 =>
    gd (decide (105 ≤ h.kd a1) && inb 0 (h.ln a1)) (hs (h.R a1 (0 : Int32).toNatClampNeg) fun q3 =>
    cI (cal E d 64 [vI x1_, vI x2_, vI x3_] h) th fun v2 h =>
    nn q3 fun a4 =>
    gd (h.kd a4 == 101 && inb v2 (h.ln a4)) (some (Sum.inl (some (vI (h.I a4 v2.toNatClampNeg))), h)))) := rn_b (b := b20_202) rfl
/-! 21 FastPlane.fitting(LFastPlane$Part;I)I -/
theorem c21 (E : EV) (d : Nat) (t : Nat) (x1_ : Option Nat) (x2_ : Int32) (h : AH) : cal E (d + 1) 21 [vR (some t), vR x1_, vI x2_] h = rn E d 21 0 [some (vR (some t)), some (vR x1_), some (vI x2_), none, none, none, none, none] [] h := cal_rn rfl rfl
theorem e21_0 (E : EV) (d : Nat) (t : Nat) (r1_ : Option Nat) (x2_ : Int32) (o3_ : Option AV) (o4_ : Option AV) (o5_ : Option AV) (o6_ : Option AV) (o7_ : Option AV) (h : AH) : rn E d 21 0 [some (vR (some t)), some (vR r1_), some (vI x2_), o3_, o4_, o5_, o6_, o7_] [] h =
    rn E d 21 5 [some (vR (some t)), some (vR r1_), some (vI x2_), some (vI 0), some (vI 0), o5_, o6_, o7_] [] h := rn_b (b := b21_0) rfl
theorem e21_5 (E : EV) (d : Nat) (t : Nat) (r1_ : Option Nat) (x2_ : Int32) (x3_ : Int32) (x4_ : Int32) (o5_ : Option AV) (o6_ : Option AV) (o7_ : Option AV) (h : AH) : rn E d 21 5 [some (vR (some t)), some (vR r1_), some (vI x2_), some (vI x3_), some (vI x4_), o5_, o6_, o7_] [] h =
    gd (h.kd t == 1) (nn (h.R t 4) fun a1 =>
    gd (h.kd a1 == 2) (gd (rcO 76 [vR (h.R a1 35)] h) (cI (cal E d 268 [vR (h.R a1 35)] h) th fun v2 h =>
    if v2 ≤ x4_ then rn E d 21 113 [some (vR (some t)), some (vR r1_), some (vI x2_), some (vI x3_), some (vI x4_), o5_, o6_, o7_] [] h else
    gd (h.kd t == 1) (nn (h.R t 4) fun a3 =>
    gd (h.kd a3 == 2) (gd (rcO 82 [vR (h.R a3 35), vI x4_] h) (cR (cal E d 264 [vR (h.R a3 35), vI x4_] h) th fun r4 h =>
    gd (okC 11 h r4) (nn r4 fun a5 =>
    gd (h.kd a5 == 11) (if (h.R a5 79) = r1_ then
    rn E d 21 58 [some (vR (some t)), some (vR r1_), some (vI x2_), some (vI x3_), some (vI x4_), some (vR r4), o6_, o7_] [vI x2_] h
    else rn E d 21 50 [some (vR (some t)), some (vR r1_), some (vI x2_), some (vI x3_), some (vI x4_), some (vR r4), o6_, o7_] [] h)))))))) := rn_b (b := b21_5) rfl
theorem e21_50 (E : EV) (d : Nat) (t : Nat) (r1_ : Option Nat) (x2_ : Int32) (x3_ : Int32) (x4_ : Int32) (r5_ : Option Nat) (o6_ : Option AV) (o7_ : Option AV) (h : AH) : rn E d 21 50 [some (vR (some t)), some (vR r1_), some (vI x2_), some (vI x3_), some (vI x4_), some (vR r5_), o6_, o7_] [] h =
    nn r5_ fun a1 =>
    gd (h.kd a1 == 11) (nn (h.R a1 79) fun a3 =>
    gd (h.kd a3 == 9 || h.kd a3 == 10) (cI (cal E d (if h.kd a3 = 9 then vt0_9 else vt0_10) [vR (some a3)] h) th fun v2 h =>
    rn E d 21 58 [some (vR (some t)), some (vR r1_), some (vI x2_), some (vI x3_), some (vI x4_), some (vR r5_), o6_, o7_] [vI v2] h)) := rn_b (b := b21_50) rfl
theorem e21_58 (E : EV) (d : Nat) (t : Nat) (r1_ : Option Nat) (x2_ : Int32) (x3_ : Int32) (x4_ : Int32) (r5_ : Option Nat) (o6_ : Option AV) (o7_ : Option AV) (s0_ : Int32) (h : AH) : rn E d 21 58 [some (vR (some t)), some (vR r1_), some (vI x2_), some (vI x3_), some (vI x4_), some (vR r5_), o6_, o7_] [vI s0_] h =
    nn r5_ fun a1 =>
    gd (h.kd a1 == 11) (if (h.R a1 80) = r1_ then
    rn E d 21 81 [some (vR (some t)), some (vR r1_), some (vI x2_), some (vI x3_), some (vI x4_), some (vR r5_), some (vI s0_), o7_] [vI x2_] h
    else rn E d 21 73 [some (vR (some t)), some (vR r1_), some (vI x2_), some (vI x3_), some (vI x4_), some (vR r5_), some (vI s0_), o7_] [] h) := rn_b (b := b21_58) rfl
theorem e21_73 (E : EV) (d : Nat) (t : Nat) (r1_ : Option Nat) (x2_ : Int32) (x3_ : Int32) (x4_ : Int32) (r5_ : Option Nat) (x6_ : Int32) (o7_ : Option AV) (h : AH) : rn E d 21 73 [some (vR (some t)), some (vR r1_), some (vI x2_), some (vI x3_), some (vI x4_), some (vR r5_), some (vI x6_), o7_] [] h =
    nn r5_ fun a1 =>
    gd (h.kd a1 == 11) (nn (h.R a1 80) fun a3 =>
    gd (h.kd a3 == 9 || h.kd a3 == 10) (cI (cal E d (if h.kd a3 = 9 then vt0_9 else vt0_10) [vR (some a3)] h) th fun v2 h =>
    rn E d 21 81 [some (vR (some t)), some (vR r1_), some (vI x2_), some (vI x3_), some (vI x4_), some (vR r5_), some (vI x6_), o7_] [vI v2] h)) := rn_b (b := b21_73) rfl
theorem e21_81 (E : EV) (d : Nat) (t : Nat) (r1_ : Option Nat) (x2_ : Int32) (x3_ : Int32) (x4_ : Int32) (r5_ : Option Nat) (x6_ : Int32) (o7_ : Option AV) (s0_ : Int32) (h : AH) : rn E d 21 81 [some (vR (some t)), some (vR r1_), some (vI x2_), some (vI x3_), some (vI x4_), some (vR r5_), some (vI x6_), o7_] [vI s0_] h =
    cI (cal E d 293 [vI (x6_ - s0_)] h) th fun v1 h =>
    nn r5_ fun a2 =>
    gd (h.kd a2 == 11) (if (h.I a2 81) < v1 then rn E d 21 104 [some (vR (some t)), some (vR r1_), some (vI x2_), some (vI x3_), some (vI x4_), some (vR r5_), some (vI x6_), some (vI s0_)] [vI x3_] h else
    rn E d 21 105 [some (vR (some t)), some (vR r1_), some (vI x2_), some (vI x3_), some (vI x4_), some (vR r5_), some (vI x6_), some (vI s0_)] [vI 1, vI x3_] h) := rn_b (b := b21_81) rfl
theorem e21_104 (E : EV) (d : Nat) (t : Nat) (r1_ : Option Nat) (x2_ : Int32) (x3_ : Int32) (x4_ : Int32) (r5_ : Option Nat) (x6_ : Int32) (x7_ : Int32) (s0_ : Int32) (h : AH) : rn E d 21 104 [some (vR (some t)), some (vR r1_), some (vI x2_), some (vI x3_), some (vI x4_), some (vR r5_), some (vI x6_), some (vI x7_)] [vI s0_] h =
    rn E d 21 105 [some (vR (some t)), some (vR r1_), some (vI x2_), some (vI x3_), some (vI x4_), some (vR r5_), some (vI x6_), some (vI x7_)] [vI 0, vI s0_] h := rn_b (b := b21_104) rfl
theorem e21_105 (E : EV) (d : Nat) (t : Nat) (r1_ : Option Nat) (x2_ : Int32) (x3_ : Int32) (x4_ : Int32) (r5_ : Option Nat) (x6_ : Int32) (x7_ : Int32) (s0_ : Int32) (s1_ : Int32) (h : AH) : rn E d 21 105 [some (vR (some t)), some (vR r1_), some (vI x2_), some (vI x3_), some (vI x4_), some (vR r5_), some (vI x6_), some (vI x7_)] [vI s1_, vI s0_] h =
    hs (s0_ + s1_) fun x1 =>
    hs (x4_ + 1) fun x2 =>
    rn E d 21 5 [some (vR (some t)), some (vR r1_), some (vI x2_), some (vI x1), some (vI x2), some (vR r5_), some (vI x6_), some (vI x7_)] [] h := rn_b (b := b21_105) rfl
theorem e21_113 (E : EV) (d : Nat) (t : Nat) (r1_ : Option Nat) (x2_ : Int32) (x3_ : Int32) (x4_ : Int32) (o5_ : Option AV) (o6_ : Option AV) (o7_ : Option AV) (h : AH) : rn E d 21 113 [some (vR (some t)), some (vR r1_), some (vI x2_), some (vI x3_), some (vI x4_), o5_, o6_, o7_] [] h =
    some (Sum.inl (some (vI x3_)), h) := rn_b (b := b21_113) rfl
/-! 22 FastPlane.grant(II)Z -/
theorem c22 (E : EV) (d : Nat) (t : Nat) (x1_ : Int32) (x2_ : Int32) (h : AH) : cal E (d + 1) 22 [vR (some t), vI x1_, vI x2_] h = rn E d 22 0 [some (vR (some t)), some (vI x1_), some (vI x2_)] [] h := cal_rn rfl rfl
theorem e22_0 (E : EV) (d : Nat) (t : Nat) (x1_ : Int32) (x2_ : Int32) (h : AH) : rn E d 22 0 [some (vR (some t)), some (vI x1_), some (vI x2_)] [] h =
    cI (cal E d 26 [vI x1_, vI 0, vI 9] h) th fun v1 h =>
    if v1 = 0 then rn E d 22 19 [some (vR (some t)), some (vI x1_), some (vI x2_)] [] h else
    cI (cal E d 26 [vI x2_, vI 0, vI 4] h) th fun v2 h =>
    if v2 = 0 then
    rn E d 22 19 [some (vR (some t)), some (vI x1_), some (vI x2_)] [] h
    else rn E d 22 21 [some (vR (some t)), some (vI x1_), some (vI x2_)] [] h := rn_b (b := b22_0) rfl
theorem e22_19 (E : EV) (d : Nat) (t : Nat) (x1_ : Int32) (x2_ : Int32) (h : AH) : rn E d 22 19 [some (vR (some t)), some (vI x1_), some (vI x2_)] [] h =
    some (Sum.inl (some (vI 0)), h) := rn_b (b := b22_19) rfl
theorem e22_21 (E : EV) (d : Nat) (t : Nat) (x1_ : Int32) (x2_ : Int32) (h : AH) : rn E d 22 21 [some (vR (some t)), some (vI x1_), some (vI x2_)] [] h =
    gd ((h.kd t == 1) && decide (E.bs ≤ t) && true) (hs (h.setI t 31 x1_) fun h =>
    gd ((h.kd t == 1) && decide (E.bs ≤ t) && true) (hs (h.setI t 32 x2_) fun h =>
    some (Sum.inl (some (vI 1)), h))) := rn_b (b := b22_21) rfl
/-! 23 FastPlane.hold(III)I -/
theorem c23 (E : EV) (d : Nat) (t : Nat) (x1_ : Int32) (x2_ : Int32) (x3_ : Int32) (h : AH) : cal E (d + 1) 23 [vR (some t), vI x1_, vI x2_, vI x3_] h = rn E d 23 0 [some (vR (some t)), some (vI x1_), some (vI x2_), some (vI x3_)] [] h := cal_rn rfl rfl
theorem e23_0 (E : EV) (d : Nat) (t : Nat) (x1_ : Int32) (x2_ : Int32) (x3_ : Int32) (h : AH) : rn E d 23 0 [some (vR (some t)), some (vI x1_), some (vI x2_), some (vI x3_)] [] h =
    cI (cal E d 27 [vI x1_] h) th fun v1 h =>
    if v1 = 0 then rn E d 23 24 [some (vR (some t)), some (vI x1_), some (vI x2_), some (vI x3_)] [] h else
    cI (cal E d 30 [vI x2_] h) th fun v2 h =>
    if v2 = 0 then rn E d 23 24 [some (vR (some t)), some (vI x1_), some (vI x2_), some (vI x3_)] [] h else
    gd (h.kd t == 1) (cI (cal E d 35 [vR (some t), vI x1_, vI x2_, vI x3_] h) th fun v3 h =>
    rn E d 23 25 [some (vR (some t)), some (vI x1_), some (vI x2_), some (vI x3_)] [vI v3] h) := rn_b (b := b23_0) rfl
theorem e23_24 (E : EV) (d : Nat) (t : Nat) (x1_ : Int32) (x2_ : Int32) (x3_ : Int32) (h : AH) : rn E d 23 24 [some (vR (some t)), some (vI x1_), some (vI x2_), some (vI x3_)] [] h =
    rn E d 23 25 [some (vR (some t)), some (vI x1_), some (vI x2_), some (vI x3_)] [vI (-1)] h := rn_b (b := b23_24) rfl
theorem e23_25 (E : EV) (d : Nat) (t : Nat) (x1_ : Int32) (x2_ : Int32) (x3_ : Int32) (s0_ : Int32) (h : AH) : rn E d 23 25 [some (vR (some t)), some (vI x1_), some (vI x2_), some (vI x3_)] [vI s0_] h =
    some (Sum.inl (some (vI s0_)), h) := rn_b (b := b23_25) rfl
/-! 24 FastPlane.<init>()V -/
theorem c24 (E : EV) (d : Nat) (t : Nat) (h : AH) : cal E (d + 1) 24 [vR (some t)] h = rn E d 24 0 [some (vR (some t)), none] [] h := cal_rn rfl rfl
theorem e24_0 (E : EV) (d : Nat) (t : Nat) (o1_ : Option AV) (h : AH) : rn E d 24 0 [some (vR (some t)), o1_] [] h =
    gd (decide (0 ≤ (1300 : Int32)) && decide ((1300 : Int32).toNatClampNeg ≤ 1048576) && decide (h.nx + 1 ≤ E.lc) && decide (h.us + (1300 : Int32).toNatClampNeg ≤ E.lu)) (hs h.nx fun n1 => hs (h.mk 102 (1300 : Int32).toNatClampNeg (1300 : Int32).toNatClampNeg) fun h =>
    gd ((h.kd t == 1) && decide (E.bs ≤ t)) (hs (h.setR t 0 (some n1)) fun h =>
    gd ((h.kd t == 1) && decide (E.bs ≤ t) && true) (hs (h.setI t 3 (-1)) fun h =>
    gd (decide (h.nx + 1 ≤ E.lc) && decide (h.us + 9 ≤ E.lu)) (hs h.nx fun n2 => hs (h.mk 2 0 9) fun h =>
    cV (cal E d 70 [vR (some n2)] h) th fun h =>
    gd ((h.kd t == 1) && decide (E.bs ≤ t)) (hs (h.setR t 4 (some n2)) fun h =>
    gd (decide (0 ≤ (3 : Int32)) && decide ((3 : Int32).toNatClampNeg ≤ 1048576) && decide (h.nx + 1 ≤ E.lc) && decide (h.us + (3 : Int32).toNatClampNeg ≤ E.lu)) (hs h.nx fun n3 => hs (h.mk 107 (3 : Int32).toNatClampNeg (3 : Int32).toNatClampNeg) fun h =>
    gd ((h.kd t == 1) && decide (E.bs ≤ t)) (hs (h.setR t 5 (some n3)) fun h =>
    gd (decide (h.nx + 1 ≤ E.lc) && decide (h.us + 3 ≤ E.lu)) (hs h.nx fun n4 => hs (h.mk 3 0 3) fun h =>
    cV (cal E d 267 [vR (some n4), vI 4] h) th fun h =>
    gd ((h.kd t == 1) && decide (E.bs ≤ t)) (hs (h.setR t 6 (some n4)) fun h =>
    gd ((h.kd t == 1) && decide (E.bs ≤ t) && true) (hs (h.setI t 8 2) fun h =>
    gd (decide (0 ≤ (11 : Int32)) && decide ((11 : Int32).toNatClampNeg ≤ 1048576) && decide (h.nx + 1 ≤ E.lc) && decide (h.us + (11 : Int32).toNatClampNeg ≤ E.lu)) (hs h.nx fun n5 => hs (h.mk 101 (11 : Int32).toNatClampNeg (11 : Int32).toNatClampNeg) fun h =>
    gd ((h.kd t == 1) && decide (E.bs ≤ t)) (hs (h.setR t 10 (some n5)) fun h =>
    gd (decide (0 ≤ (12 : Int32)) && decide ((12 : Int32).toNatClampNeg ≤ 1048576) && decide (h.nx + 1 ≤ E.lc) && decide (h.us + (12 : Int32).toNatClampNeg ≤ E.lu)) (hs h.nx fun n6 => hs (h.mk 101 (12 : Int32).toNatClampNeg (12 : Int32).toNatClampNeg) fun h =>
    gd ((h.kd t == 1) && decide (E.bs ≤ t)) (hs (h.setR t 11 (some n6)) fun h =>
    gd (decide (0 ≤ (12 : Int32)) && decide ((12 : Int32).toNatClampNeg ≤ 1048576) && decide (h.nx + 1 ≤ E.lc) && decide (h.us + (12 : Int32).toNatClampNeg ≤ E.lu)) (hs h.nx fun n7 => hs (h.mk 101 (12 : Int32).toNatClampNeg (12 : Int32).toNatClampNeg) fun h =>
    gd ((h.kd t == 1) && decide (E.bs ≤ t)) (hs (h.setR t 12 (some n7)) fun h =>
    gd (decide (0 ≤ (12 : Int32)) && decide ((12 : Int32).toNatClampNeg ≤ 1048576) && decide (h.nx + 1 ≤ E.lc) && decide (h.us + (12 : Int32).toNatClampNeg ≤ E.lu)) (hs h.nx fun n8 => hs (h.mk 101 (12 : Int32).toNatClampNeg (12 : Int32).toNatClampNeg) fun h =>
    gd ((h.kd t == 1) && decide (E.bs ≤ t)) (hs (h.setR t 16 (some n8)) fun h =>
    gd (decide (0 ≤ (13 : Int32)) && decide (0 ≤ (4096 : Int32)) && decide ((13 : Int32).toNatClampNeg ≤ 1048576) && decide ((4096 : Int32).toNatClampNeg ≤ 1048576) && decide ((mna 108 [(13 : Int32).toNatClampNeg, (4096 : Int32).toNatClampNeg] h).nx ≤ E.lc) && decide ((mna 108 [(13 : Int32).toNatClampNeg, (4096 : Int32).toNatClampNeg] h).us ≤ E.lu)) (hs h.nx fun n9 => hs (mna 108 [(13 : Int32).toNatClampNeg, (4096 : Int32).toNatClampNeg] h) fun h =>
    gd ((h.kd t == 1) && decide (E.bs ≤ t)) (hs (h.setR t 17 (some n9)) fun h =>
    gd (decide (0 ≤ (3 : Int32)) && decide ((3 : Int32).toNatClampNeg ≤ 1048576) && decide (h.nx + 1 ≤ E.lc) && decide (h.us + (3 : Int32).toNatClampNeg ≤ E.lu)) (hs h.nx fun n10 => hs (h.mk 101 (3 : Int32).toNatClampNeg (3 : Int32).toNatClampNeg) fun h =>
    gd ((h.kd t == 1) && decide (E.bs ≤ t)) (hs (h.setR t 18 (some n10)) fun h =>
    gd (decide (0 ≤ (100 : Int32)) && decide (0 ≤ (64 : Int32)) && decide ((100 : Int32).toNatClampNeg ≤ 1048576) && decide ((64 : Int32).toNatClampNeg ≤ 1048576) && decide ((mna 108 [(100 : Int32).toNatClampNeg, (64 : Int32).toNatClampNeg] h).nx ≤ E.lc) && decide ((mna 108 [(100 : Int32).toNatClampNeg, (64 : Int32).toNatClampNeg] h).us ≤ E.lu)) (hs h.nx fun n11 => hs (mna 108 [(100 : Int32).toNatClampNeg, (64 : Int32).toNatClampNeg] h) fun h =>
    gd ((h.kd t == 1) && decide (E.bs ≤ t)) (hs (h.setR t 19 (some n11)) fun h =>
    gd (decide (0 ≤ (10 : Int32)) && decide ((10 : Int32).toNatClampNeg ≤ 1048576) && decide (h.nx + 1 ≤ E.lc) && decide (h.us + (10 : Int32).toNatClampNeg ≤ E.lu)) (hs h.nx fun n12 => hs (h.mk 101 (10 : Int32).toNatClampNeg (10 : Int32).toNatClampNeg) fun h =>
    gd ((h.kd t == 1) && decide (E.bs ≤ t)) (hs (h.setR t 20 (some n12)) fun h =>
    gd (decide (0 ≤ (10 : Int32)) && decide ((10 : Int32).toNatClampNeg ≤ 1048576) && decide (h.nx + 1 ≤ E.lc) && decide (h.us + (10 : Int32).toNatClampNeg ≤ E.lu)) (hs h.nx fun n13 => hs (h.mk 101 (10 : Int32).toNatClampNeg (10 : Int32).toNatClampNeg) fun h =>
    gd ((h.kd t == 1) && decide (E.bs ≤ t)) (hs (h.setR t 21 (some n13)) fun h =>
    gd (decide (0 ≤ (10 : Int32)) && decide ((10 : Int32).toNatClampNeg ≤ 1048576) && decide (h.nx + 1 ≤ E.lc) && decide (h.us + (10 : Int32).toNatClampNeg ≤ E.lu)) (hs h.nx fun n14 => hs (h.mk 101 (10 : Int32).toNatClampNeg (10 : Int32).toNatClampNeg) fun h =>
    gd ((h.kd t == 1) && decide (E.bs ≤ t)) (hs (h.setR t 22 (some n14)) fun h =>
    gd (decide (0 ≤ (12 : Int32)) && decide ((12 : Int32).toNatClampNeg ≤ 1048576) && decide (h.nx + 1 ≤ E.lc) && decide (h.us + (12 : Int32).toNatClampNeg ≤ E.lu)) (hs h.nx fun n15 => hs (h.mk 101 (12 : Int32).toNatClampNeg (12 : Int32).toNatClampNeg) fun h =>
    gd ((h.kd t == 1) && decide (E.bs ≤ t)) (hs (h.setR t 24 (some n15)) fun h =>
    gd (decide (0 ≤ (12 : Int32)) && decide ((12 : Int32).toNatClampNeg ≤ 1048576) && decide (h.nx + 1 ≤ E.lc) && decide (h.us + (12 : Int32).toNatClampNeg ≤ E.lu)) (hs h.nx fun n16 => hs (h.mk 101 (12 : Int32).toNatClampNeg (12 : Int32).toNatClampNeg) fun h =>
    gd ((h.kd t == 1) && decide (E.bs ≤ t)) (hs (h.setR t 25 (some n16)) fun h =>
    gd (decide (0 ≤ (8 : Int32)) && decide ((8 : Int32).toNatClampNeg ≤ 1048576) && decide (h.nx + 1 ≤ E.lc) && decide (h.us + (8 : Int32).toNatClampNeg ≤ E.lu)) (hs h.nx fun n17 => hs (h.mk 101 (8 : Int32).toNatClampNeg (8 : Int32).toNatClampNeg) fun h =>
    gd ((h.kd t == 1) && decide (E.bs ≤ t)) (hs (h.setR t 28 (some n17)) fun h =>
    gd (decide (0 ≤ (8 : Int32)) && decide ((8 : Int32).toNatClampNeg ≤ 1048576) && decide (h.nx + 1 ≤ E.lc) && decide (h.us + (8 : Int32).toNatClampNeg ≤ E.lu)) (hs h.nx fun n18 => hs (h.mk 101 (8 : Int32).toNatClampNeg (8 : Int32).toNatClampNeg) fun h =>
    gd ((h.kd t == 1) && decide (E.bs ≤ t)) (hs (h.setR t 29 (some n18)) fun h =>
    gd (decide (0 ≤ (9 : Int32)) && decide (0 ≤ (5 : Int32)) && decide (0 ≤ (7 : Int32)) && decide (0 ≤ (961 : Int32)) && decide ((9 : Int32).toNatClampNeg ≤ 1048576) && decide ((5 : Int32).toNatClampNeg ≤ 1048576) && decide ((7 : Int32).toNatClampNeg ≤ 1048576) && decide ((961 : Int32).toNatClampNeg ≤ 1048576) && decide ((mna 111 [(9 : Int32).toNatClampNeg, (5 : Int32).toNatClampNeg, (7 : Int32).toNatClampNeg, (961 : Int32).toNatClampNeg] h).nx ≤ E.lc) && decide ((mna 111 [(9 : Int32).toNatClampNeg, (5 : Int32).toNatClampNeg, (7 : Int32).toNatClampNeg, (961 : Int32).toNatClampNeg] h).us ≤ E.lu)) (hs h.nx fun n19 => hs (mna 111 [(9 : Int32).toNatClampNeg, (5 : Int32).toNatClampNeg, (7 : Int32).toNatClampNeg, (961 : Int32).toNatClampNeg] h) fun h =>
    gd ((h.kd t == 1) && decide (E.bs ≤ t)) (hs (h.setR t 33 (some n19)) fun h =>
    rn E d 24 192 [some (vR (some t)), some (vI 0)] [] h)))))))))))))))))))))))))))))))))))))))) := rn_b (b := b24_0) rfl
theorem e24_192 (E : EV) (d : Nat) (t : Nat) (x1_ : Int32) (h : AH) : rn E d 24 192 [some (vR (some t)), some (vI x1_)] [] h =
    if 3 ≤ x1_ then rn E d 24 216 [some (vR (some t)), some (vI x1_)] [] h else
    gd (h.kd t == 1) (gd (decide (h.nx + 1 ≤ E.lc) && decide (h.us + 2 ≤ E.lu)) (hs h.nx fun n1 => hs (h.R t 5) fun q2 =>
    hs (h.mk 4 0 2) fun h =>
    cV (cal E d 102 [vR (some n1)] h) th fun h =>
    nn q2 fun a3 =>
    gd (decide (105 ≤ h.kd a3) && decide (h.kd a3 < 108) && inb x1_ (h.ln a3) && decide (E.bs ≤ a3) && anyK (asg (h.kd a3)) (h.kd n1)) (hs (h.setR a3 x1_.toNatClampNeg (some n1)) fun h =>
    hs (x1_ + 1) fun x4 =>
    rn E d 24 192 [some (vR (some t)), some (vI x4)] [] h))) := rn_b (b := b24_192) rfl
theorem e24_216 (E : EV) (d : Nat) (t : Nat) (x1_ : Int32) (h : AH) : rn E d 24 216 [some (vR (some t)), some (vI x1_)] [] h =
    some (Sum.inl none, h) := rn_b (b := b24_216) rfl
/-! 25 FastPlane.isCell(I)Z -/
theorem c25 (E : EV) (d : Nat) (x0_ : Int32) (h : AH) : cal E (d + 1) 25 [vI x0_] h = rn E d 25 0 [some (vI x0_)] [] h := cal_rn rfl rfl
theorem e25_0 (E : EV) (d : Nat) (x0_ : Int32) (h : AH) : rn E d 25 0 [some (vI x0_)] [] h =
    cI (cal E d 26 [vI x0_, vI 0, vI 63] h) th fun v1 h =>
    gd (decide (v1 = 0) || decide (v1 = 1)) (some (Sum.inl (some (vI v1)), h)) := rn_b (b := b25_0) rfl
/-! 26 FastPlane.isIn(III)Z -/
theorem c26 (E : EV) (d : Nat) (x0_ : Int32) (x1_ : Int32) (x2_ : Int32) (h : AH) : cal E (d + 1) 26 [vI x0_, vI x1_, vI x2_] h = rn E d 26 0 [some (vI x0_), some (vI x1_), some (vI x2_)] [] h := cal_rn rfl rfl
theorem e26_0 (E : EV) (d : Nat) (x0_ : Int32) (x1_ : Int32) (x2_ : Int32) (h : AH) : rn E d 26 0 [some (vI x0_), some (vI x1_), some (vI x2_)] [] h =
    if x0_ < x1_ then rn E d 26 14 [some (vI x0_), some (vI x1_), some (vI x2_)] [] h else
    if x2_ < x0_ then rn E d 26 14 [some (vI x0_), some (vI x1_), some (vI x2_)] [] h else
    rn E d 26 15 [some (vI x0_), some (vI x1_), some (vI x2_)] [vI 1] h := rn_b (b := b26_0) rfl
theorem e26_14 (E : EV) (d : Nat) (x0_ : Int32) (x1_ : Int32) (x2_ : Int32) (h : AH) : rn E d 26 14 [some (vI x0_), some (vI x1_), some (vI x2_)] [] h =
    rn E d 26 15 [some (vI x0_), some (vI x1_), some (vI x2_)] [vI 0] h := rn_b (b := b26_14) rfl
theorem e26_15 (E : EV) (d : Nat) (x0_ : Int32) (x1_ : Int32) (x2_ : Int32) (s0_ : Int32) (h : AH) : rn E d 26 15 [some (vI x0_), some (vI x1_), some (vI x2_)] [vI s0_] h =
    gd (decide (s0_ = 0) || decide (s0_ = 1)) (some (Sum.inl (some (vI s0_)), h)) := rn_b (b := b26_15) rfl
/-! 27 FastPlane.isMonth(I)Z -/
theorem c27 (E : EV) (d : Nat) (x0_ : Int32) (h : AH) : cal E (d + 1) 27 [vI x0_] h = rn E d 27 0 [some (vI x0_)] [] h := cal_rn rfl rfl
theorem e27_0 (E : EV) (d : Nat) (x0_ : Int32) (h : AH) : rn E d 27 0 [some (vI x0_)] [] h =
    cI (cal E d 26 [vI x0_, vI 0, vI 199] h) th fun v1 h =>
    gd (decide (v1 = 0) || decide (v1 = 1)) (some (Sum.inl (some (vI v1)), h)) := rn_b (b := b27_0) rfl
/-! 28 FastPlane.isSafe(IIIII)Z -/
theorem c28 (E : EV) (d : Nat) (t : Nat) (x1_ : Int32) (x2_ : Int32) (x3_ : Int32) (x4_ : Int32) (x5_ : Int32) (h : AH) : cal E (d + 1) 28 [vR (some t), vI x1_, vI x2_, vI x3_, vI x4_, vI x5_] h = rn E d 28 0 [some (vR (some t)), some (vI x1_), some (vI x2_), some (vI x3_), some (vI x4_), some (vI x5_)] [] h := cal_rn rfl rfl
theorem e28_0 (E : EV) (d : Nat) (t : Nat) (x1_ : Int32) (x2_ : Int32) (x3_ : Int32) (x4_ : Int32) (x5_ : Int32) (h : AH) : rn E d 28 0 [some (vR (some t)), some (vI x1_), some (vI x2_), some (vI x3_), some (vI x4_), some (vI x5_)] [] h =
    if x4_ < 0 then rn E d 28 35 [some (vR (some t)), some (vI x1_), some (vI x2_), some (vI x3_), some (vI x4_), some (vI x5_)] [] h else
    if x5_ < 0 then rn E d 28 35 [some (vR (some t)), some (vI x1_), some (vI x2_), some (vI x3_), some (vI x4_), some (vI x5_)] [] h else
    gd (h.kd t == 1) (nn (h.R t 33) fun a1 =>
    gd (decide (105 ≤ h.kd a1) && inb x1_ (h.ln a1)) (nn (h.R a1 x1_.toNatClampNeg) fun a2 =>
    gd (decide (105 ≤ h.kd a2) && inb x2_ (h.ln a2)) (nn (h.R a2 x2_.toNatClampNeg) fun a3 =>
    gd (decide (105 ≤ h.kd a3) && inb x3_ (h.ln a3)) (hs (h.R a3 x3_.toNatClampNeg) fun q5 =>
    cI (cal E d 54 [vI x4_, vI x5_] h) th fun v4 h =>
    nn q5 fun a6 =>
    gd ((h.kd a6 == 102 || h.kd a6 == 103) && inb v4 (h.ln a6)) (if (h.I a6 v4.toNatClampNeg) = 0 then rn E d 28 35 [some (vR (some t)), some (vI x1_), some (vI x2_), some (vI x3_), some (vI x4_), some (vI x5_)] [] h else
    rn E d 28 36 [some (vR (some t)), some (vI x1_), some (vI x2_), some (vI x3_), some (vI x4_), some (vI x5_)] [vI 1] h))))) := rn_b (b := b28_0) rfl
theorem e28_35 (E : EV) (d : Nat) (t : Nat) (x1_ : Int32) (x2_ : Int32) (x3_ : Int32) (x4_ : Int32) (x5_ : Int32) (h : AH) : rn E d 28 35 [some (vR (some t)), some (vI x1_), some (vI x2_), some (vI x3_), some (vI x4_), some (vI x5_)] [] h =
    rn E d 28 36 [some (vR (some t)), some (vI x1_), some (vI x2_), some (vI x3_), some (vI x4_), some (vI x5_)] [vI 0] h := rn_b (b := b28_35) rfl
theorem e28_36 (E : EV) (d : Nat) (t : Nat) (x1_ : Int32) (x2_ : Int32) (x3_ : Int32) (x4_ : Int32) (x5_ : Int32) (s0_ : Int32) (h : AH) : rn E d 28 36 [some (vR (some t)), some (vI x1_), some (vI x2_), some (vI x3_), some (vI x4_), some (vI x5_)] [vI s0_] h =
    gd (decide (s0_ = 0) || decide (s0_ = 1)) (some (Sum.inl (some (vI s0_)), h)) := rn_b (b := b28_36) rfl
/-! 29 FastPlane.isSpeed(I)Z -/
theorem c29 (E : EV) (d : Nat) (x0_ : Int32) (h : AH) : cal E (d + 1) 29 [vI x0_] h = rn E d 29 0 [some (vI x0_)] [] h := cal_rn rfl rfl
theorem e29_0 (E : EV) (d : Nat) (x0_ : Int32) (h : AH) : rn E d 29 0 [some (vI x0_)] [] h =
    cI (cal E d 26 [vI x0_, vI 0, vI 30] h) th fun v1 h =>
    gd (decide (v1 = 0) || decide (v1 = 1)) (some (Sum.inl (some (vI v1)), h)) := rn_b (b := b29_0) rfl
/-! 30 FastPlane.isTongue(I)Z -/
theorem c30 (E : EV) (d : Nat) (x0_ : Int32) (h : AH) : cal E (d + 1) 30 [vI x0_] h = rn E d 30 0 [some (vI x0_)] [] h := cal_rn rfl rfl
theorem e30_0 (E : EV) (d : Nat) (x0_ : Int32) (h : AH) : rn E d 30 0 [some (vI x0_)] [] h =
    cI (cal E d 26 [vI x0_, vI 0, vI 2] h) th fun v1 h =>
    gd (decide (v1 = 0) || decide (v1 = 1)) (some (Sum.inl (some (vI v1)), h)) := rn_b (b := b30_0) rfl
/-! 31 FastPlane.know(I)V -/
theorem c31 (E : EV) (d : Nat) (t : Nat) (x1_ : Int32) (h : AH) : cal E (d + 1) 31 [vR (some t), vI x1_] h = rn E d 31 0 [some (vR (some t)), some (vI x1_), none, none, none] [] h := cal_rn rfl rfl
theorem e31_0 (E : EV) (d : Nat) (t : Nat) (x1_ : Int32) (o2_ : Option AV) (o3_ : Option AV) (o4_ : Option AV) (h : AH) : rn E d 31 0 [some (vR (some t)), some (vI x1_), o2_, o3_, o4_] [] h =
    rn E d 31 2 [some (vR (some t)), some (vI x1_), some (vI 0), o3_, o4_] [] h := rn_b (b := b31_0) rfl
theorem e31_2 (E : EV) (d : Nat) (t : Nat) (x1_ : Int32) (x2_ : Int32) (o3_ : Option AV) (o4_ : Option AV) (h : AH) : rn E d 31 2 [some (vR (some t)), some (vI x1_), some (vI x2_), o3_, o4_] [] h =
    if 12 ≤ x2_ then rn E d 31 23 [some (vR (some t)), some (vI x1_), some (vI x2_), o3_, o4_] [] h else
    gd (h.kd t == 1) (nn (h.R t 16) fun a1 =>
    gd (h.kd a1 == 101 && inb x2_ (h.ln a1) && decide (E.bs ≤ a1)) (hs (h.setI a1 x2_.toNatClampNeg 1000000) fun h =>
    hs (x2_ + 1) fun x2 =>
    rn E d 31 2 [some (vR (some t)), some (vI x1_), some (vI x2), o3_, o4_] [] h)) := rn_b (b := b31_2) rfl
theorem e31_23 (E : EV) (d : Nat) (t : Nat) (x1_ : Int32) (x2_ : Int32) (o3_ : Option AV) (o4_ : Option AV) (h : AH) : rn E d 31 23 [some (vR (some t)), some (vI x1_), some (vI x2_), o3_, o4_] [] h =
    rn E d 31 25 [some (vR (some t)), some (vI x1_), some (vI 0), o3_, o4_] [] h := rn_b (b := b31_23) rfl
theorem e31_25 (E : EV) (d : Nat) (t : Nat) (x1_ : Int32) (x2_ : Int32) (o3_ : Option AV) (o4_ : Option AV) (h : AH) : rn E d 31 25 [some (vR (some t)), some (vI x1_), some (vI x2_), o3_, o4_] [] h =
    gd (h.kd t == 1) (gd (rcO 76 [vR (h.R t 6)] h) (cI (cal E d 268 [vR (h.R t 6)] h) th fun v1 h =>
    if v1 ≤ x2_ then rn E d 31 109 [some (vR (some t)), some (vI x1_), some (vI x2_), o3_, o4_] [] h else
    gd (h.kd t == 1) (gd (rcO 82 [vR (h.R t 6), vI x2_] h) (cR (cal E d 264 [vR (h.R t 6), vI x2_] h) th fun r2 h =>
    iof 20 h r2 fun x3 =>
    if x3 = 0 then rn E d 31 64 [some (vR (some t)), some (vI x1_), some (vI x2_), o3_, o4_] [] h else
    gd (h.kd t == 1) (gd (rcO 82 [vR (h.R t 6), vI x2_] h) (cR (cal E d 264 [vR (h.R t 6), vI x2_] h) th fun r4 h =>
    gd (okC 20 h r4) (rn E d 31 65 [some (vR (some t)), some (vI x1_), some (vI x2_), o3_, o4_] [vR r4] h))))))) := rn_b (b := b31_25) rfl
theorem e31_64 (E : EV) (d : Nat) (t : Nat) (x1_ : Int32) (x2_ : Int32) (o3_ : Option AV) (o4_ : Option AV) (h : AH) : rn E d 31 64 [some (vR (some t)), some (vI x1_), some (vI x2_), o3_, o4_] [] h =
    rn E d 31 65 [some (vR (some t)), some (vI x1_), some (vI x2_), o3_, o4_] [vR none] h := rn_b (b := b31_64) rfl
theorem e31_65 (E : EV) (d : Nat) (t : Nat) (x1_ : Int32) (x2_ : Int32) (o3_ : Option AV) (o4_ : Option AV) (s0_ : Option Nat) (h : AH) : rn E d 31 65 [some (vR (some t)), some (vI x1_), some (vI x2_), o3_, o4_] [vR s0_] h =
    if s0_ = none then rn E d 31 103 [some (vR (some t)), some (vI x1_), some (vI x2_), some (vR s0_), o4_] [] h else
    gd (rcO 101 [vR s0_, vI x1_] h) (cI (cal E d 98 [vR s0_, vI x1_] h) th fun v1 h =>
    if v1 = 0 then rn E d 31 103 [some (vR (some t)), some (vI x1_), some (vI x2_), some (vR s0_), o4_] [] h else
    gd (h.kd t == 1) (nn s0_ fun a2 =>
    gd (h.kd a2 == 20) (gd (h.kd t == 1) (nn s0_ fun a3 =>
    gd (h.kd a3 == 20) (nn (h.R t 16) fun a4 =>
    gd (h.kd a4 == 101 && inb (h.I a3 101) (h.ln a4)) (nn s0_ fun a5 =>
    gd (h.kd a5 == 20 || (h.kd a5 == 21 || h.kd a5 == 22)) (hs (h.R t 16) fun q7 =>
    hs (h.I a2 101) fun y8 =>
    cI (cal E d 295 [vI (h.I a4 (h.I a3 101).toNatClampNeg), vI (h.I a5 98)] h) th fun v6 h =>
    nn q7 fun a9 =>
    gd (h.kd a9 == 101 && inb y8 (h.ln a9) && decide (E.bs ≤ a9)) (hs (h.setI a9 y8.toNatClampNeg v6) fun h =>
    rn E d 31 103 [some (vR (some t)), some (vI x1_), some (vI x2_), some (vR s0_), o4_] [] h)))))))) := rn_b (b := b31_65) rfl
theorem e31_103 (E : EV) (d : Nat) (t : Nat) (x1_ : Int32) (x2_ : Int32) (r3_ : Option Nat) (o4_ : Option AV) (h : AH) : rn E d 31 103 [some (vR (some t)), some (vI x1_), some (vI x2_), some (vR r3_), o4_] [] h =
    hs (x2_ + 1) fun x1 =>
    rn E d 31 25 [some (vR (some t)), some (vI x1_), some (vI x1), some (vR r3_), o4_] [] h := rn_b (b := b31_103) rfl
theorem e31_109 (E : EV) (d : Nat) (t : Nat) (x1_ : Int32) (x2_ : Int32) (o3_ : Option AV) (o4_ : Option AV) (h : AH) : rn E d 31 109 [some (vR (some t)), some (vI x1_), some (vI x2_), o3_, o4_] [] h =
    rn E d 31 111 [some (vR (some t)), some (vI x1_), some (vI 1), o3_, o4_] [] h := rn_b (b := b31_109) rfl
theorem e31_111 (E : EV) (d : Nat) (t : Nat) (x1_ : Int32) (x2_ : Int32) (o3_ : Option AV) (o4_ : Option AV) (h : AH) : rn E d 31 111 [some (vR (some t)), some (vI x1_), some (vI x2_), o3_, o4_] [] h =
    if x2_ = 0 then rn E d 31 249 [some (vR (some t)), some (vI x1_), some (vI x2_), o3_, o4_] [] h else
    rn E d 31 119 [some (vR (some t)), some (vI x1_), some (vI 0), some (vI 0), o4_] [] h := rn_b (b := b31_111) rfl
theorem e31_119 (E : EV) (d : Nat) (t : Nat) (x1_ : Int32) (x2_ : Int32) (x3_ : Int32) (o4_ : Option AV) (h : AH) : rn E d 31 119 [some (vR (some t)), some (vI x1_), some (vI x2_), some (vI x3_), o4_] [] h =
    gd (h.kd t == 1) (nn (h.R t 4) fun a1 =>
    gd (h.kd a1 == 2) (gd (rcO 76 [vR (h.R a1 36)] h) (cI (cal E d 268 [vR (h.R a1 36)] h) th fun v2 h =>
    if v2 ≤ x3_ then rn E d 31 246 [some (vR (some t)), some (vI x1_), some (vI x2_), some (vI x3_), o4_] [] h else
    gd (h.kd t == 1) (nn (h.R t 4) fun a3 =>
    gd (h.kd a3 == 2) (gd (rcO 82 [vR (h.R a3 36), vI x3_] h) (cR (cal E d 264 [vR (h.R a3 36), vI x3_] h) th fun r4 h =>
    gd (okC 11 h r4) (gd (h.kd t == 1) (nn r4 fun a5 =>
    gd (h.kd a5 == 11) (nn (h.R a5 79) fun a6 =>
    gd (h.kd a6 == 9 || h.kd a6 == 10) (nn (h.R t 16) fun a7 =>
    gd (h.kd a7 == 101 && inb (h.I a6 74) (h.ln a7)) (if (h.I a7 (h.I a6 74).toNatClampNeg) = 1000000 then rn E d 31 240 [some (vR (some t)), some (vI x1_), some (vI x2_), some (vI x3_), some (vR r4)] [] h else
    gd (h.kd t == 1) (nn r4 fun a8 =>
    gd (h.kd a8 == 11) (nn (h.R a8 79) fun a9 =>
    gd (h.kd a9 == 9 || h.kd a9 == 10) (nn (h.R t 16) fun a10 =>
    gd (h.kd a10 == 101 && inb (h.I a9 74) (h.ln a10)) (nn r4 fun a11 =>
    gd (h.kd a11 == 11) (gd (h.kd t == 1) (nn r4 fun a12 =>
    gd (h.kd a12 == 11) (nn (h.R a12 80) fun a13 =>
    gd (h.kd a13 == 9 || h.kd a13 == 10) (nn (h.R t 16) fun a14 =>
    gd (h.kd a14 == 101 && inb (h.I a13 74) (h.ln a14)) (if ((h.I a10 (h.I a9 74).toNatClampNeg) + (h.I a11 81)) < (h.I a14 (h.I a13 74).toNatClampNeg) then rn E d 31 206 [some (vR (some t)), some (vI x1_), some (vI x2_), some (vI x3_), some (vR r4)] [] h else
    rn E d 31 240 [some (vR (some t)), some (vI x1_), some (vI x2_), some (vI x3_), some (vR r4)] [] h)))))))))))))))))))) := rn_b (b := b31_119) rfl
theorem e31_206 (E : EV) (d : Nat) (t : Nat) (x1_ : Int32) (x2_ : Int32) (x3_ : Int32) (r4_ : Option Nat) (h : AH) : rn E d 31 206 [some (vR (some t)), some (vI x1_), some (vI x2_), some (vI x3_), some (vR r4_)] [] h =
    gd (h.kd t == 1) (nn r4_ fun a1 =>
    gd (h.kd a1 == 11) (nn (h.R a1 80) fun a2 =>
    gd (h.kd a2 == 9 || h.kd a2 == 10) (gd (h.kd t == 1) (nn r4_ fun a3 =>
    gd (h.kd a3 == 11) (nn (h.R a3 79) fun a4 =>
    gd (h.kd a4 == 9 || h.kd a4 == 10) (nn (h.R t 16) fun a5 =>
    gd (h.kd a5 == 101 && inb (h.I a4 74) (h.ln a5)) (nn r4_ fun a6 =>
    gd (h.kd a6 == 11) (nn (h.R t 16) fun a7 =>
    gd (h.kd a7 == 101 && inb (h.I a2 74) (h.ln a7) && decide (E.bs ≤ a7)) (hs (h.setI a7 (h.I a2 74).toNatClampNeg ((h.I a5 (h.I a4 74).toNatClampNeg) + (h.I a6 81))) fun h =>
    rn E d 31 240 [some (vR (some t)), some (vI x1_), some (vI 1), some (vI x3_), some (vR r4_)] [] h))))))))) := rn_b (b := b31_206) rfl
theorem e31_240 (E : EV) (d : Nat) (t : Nat) (x1_ : Int32) (x2_ : Int32) (x3_ : Int32) (r4_ : Option Nat) (h : AH) : rn E d 31 240 [some (vR (some t)), some (vI x1_), some (vI x2_), some (vI x3_), some (vR r4_)] [] h =
    hs (x3_ + 1) fun x1 =>
    rn E d 31 119 [some (vR (some t)), some (vI x1_), some (vI x2_), some (vI x1), some (vR r4_)] [] h := rn_b (b := b31_240) rfl
theorem e31_246 (E : EV) (d : Nat) (t : Nat) (x1_ : Int32) (x2_ : Int32) (x3_ : Int32) (o4_ : Option AV) (h : AH) : rn E d 31 246 [some (vR (some t)), some (vI x1_), some (vI x2_), some (vI x3_), o4_] [] h =
    rn E d 31 111 [some (vR (some t)), some (vI x1_), some (vI x2_), some (vI x3_), o4_] [] h := rn_b (b := b31_246) rfl
theorem e31_249 (E : EV) (d : Nat) (t : Nat) (x1_ : Int32) (x2_ : Int32) (o3_ : Option AV) (o4_ : Option AV) (h : AH) : rn E d 31 249 [some (vR (some t)), some (vI x1_), some (vI x2_), o3_, o4_] [] h =
    some (Sum.inl none, h) := rn_b (b := b31_249) rfl
/-! 32 FastPlane.known(Ljava/lang/String;)I -/
theorem c32 (E : EV) (d : Nat) (x0_ : Option Nat) (h : AH) : cal E (d + 1) 32 [vR x0_] h = rn E d 32 0 [some (vR x0_), none, none] [] h := cal_rn rfl rfl
theorem e32_0 (E : EV) (d : Nat) (r0_ : Option Nat) (o1_ : Option AV) (o2_ : Option AV) (h : AH) : rn E d 32 0 [some (vR r0_), o1_, o2_] [] h =
    gd (rcO 102 [vR r0_] h) (cI (cal E d 283 [vR r0_] h) th fun v1 h =>
    if v1 = (-1237460601) then rn E d 32 164 [some (vR r0_), some (vR r0_), some (vI (-1))] [] h else
    if v1 = (-1006804125) then rn E d 32 237 [some (vR r0_), some (vR r0_), some (vI (-1))] [] h else
    if v1 = (-991792066) then rn E d 32 207 [some (vR r0_), some (vR r0_), some (vI (-1))] [] h else
    if v1 = 3059661 then rn E d 32 122 [some (vR r0_), some (vR r0_), some (vI (-1))] [] h else
    if v1 = 3208676 then rn E d 32 178 [some (vR r0_), some (vR r0_), some (vI (-1))] [] h else
    if v1 = 3314155 then rn E d 32 108 [some (vR r0_), some (vR r0_), some (vI (-1))] [] h else
    if v1 = 3423444 then rn E d 32 150 [some (vR r0_), some (vR r0_), some (vI (-1))] [] h else
    if v1 = 104080000 then rn E d 32 136 [some (vR r0_), some (vR r0_), some (vI (-1))] [] h else
    if v1 = 106934601 then rn E d 32 252 [some (vR r0_), some (vR r0_), some (vI (-1))] [] h else
    if v1 = 109413649 then rn E d 32 222 [some (vR r0_), some (vR r0_), some (vI (-1))] [] h else
    if v1 = 109641799 then rn E d 32 192 [some (vR r0_), some (vR r0_), some (vI (-1))] [] h else
    rn E d 32 264 [some (vR r0_), some (vR r0_), some (vI (-1))] [] h) := rn_b (b := b32_0) rfl
theorem e32_108 (E : EV) (d : Nat) (r0_ : Option Nat) (r1_ : Option Nat) (x2_ : Int32) (h : AH) : rn E d 32 108 [some (vR r0_), some (vR r1_), some (vI x2_)] [] h =
    gd (rcO 103 [vR r1_, vR (some (E.sa 3))] h) (cI (cal E d 282 [vR r1_, vR (some (E.sa 3))] h) th fun v1 h =>
    if v1 = 0 then rn E d 32 264 [some (vR r0_), some (vR r1_), some (vI x2_)] [] h else
    rn E d 32 264 [some (vR r0_), some (vR r1_), some (vI 0)] [] h) := rn_b (b := b32_108) rfl
theorem e32_122 (E : EV) (d : Nat) (r0_ : Option Nat) (r1_ : Option Nat) (x2_ : Int32) (h : AH) : rn E d 32 122 [some (vR r0_), some (vR r1_), some (vI x2_)] [] h =
    gd (rcO 103 [vR r1_, vR (some (E.sa 4))] h) (cI (cal E d 282 [vR r1_, vR (some (E.sa 4))] h) th fun v1 h =>
    if v1 = 0 then rn E d 32 264 [some (vR r0_), some (vR r1_), some (vI x2_)] [] h else
    rn E d 32 264 [some (vR r0_), some (vR r1_), some (vI 1)] [] h) := rn_b (b := b32_122) rfl
theorem e32_136 (E : EV) (d : Nat) (r0_ : Option Nat) (r1_ : Option Nat) (x2_ : Int32) (h : AH) : rn E d 32 136 [some (vR r0_), some (vR r1_), some (vI x2_)] [] h =
    gd (rcO 103 [vR r1_, vR (some (E.sa 5))] h) (cI (cal E d 282 [vR r1_, vR (some (E.sa 5))] h) th fun v1 h =>
    if v1 = 0 then rn E d 32 264 [some (vR r0_), some (vR r1_), some (vI x2_)] [] h else
    rn E d 32 264 [some (vR r0_), some (vR r1_), some (vI 2)] [] h) := rn_b (b := b32_136) rfl
theorem e32_150 (E : EV) (d : Nat) (r0_ : Option Nat) (r1_ : Option Nat) (x2_ : Int32) (h : AH) : rn E d 32 150 [some (vR r0_), some (vR r1_), some (vI x2_)] [] h =
    gd (rcO 103 [vR r1_, vR (some (E.sa 6))] h) (cI (cal E d 282 [vR r1_, vR (some (E.sa 6))] h) th fun v1 h =>
    if v1 = 0 then rn E d 32 264 [some (vR r0_), some (vR r1_), some (vI x2_)] [] h else
    rn E d 32 264 [some (vR r0_), some (vR r1_), some (vI 3)] [] h) := rn_b (b := b32_150) rfl
theorem e32_164 (E : EV) (d : Nat) (r0_ : Option Nat) (r1_ : Option Nat) (x2_ : Int32) (h : AH) : rn E d 32 164 [some (vR r0_), some (vR r1_), some (vI x2_)] [] h =
    gd (rcO 103 [vR r1_, vR (some (E.sa 7))] h) (cI (cal E d 282 [vR r1_, vR (some (E.sa 7))] h) th fun v1 h =>
    if v1 = 0 then rn E d 32 264 [some (vR r0_), some (vR r1_), some (vI x2_)] [] h else
    rn E d 32 264 [some (vR r0_), some (vR r1_), some (vI 4)] [] h) := rn_b (b := b32_164) rfl
theorem e32_178 (E : EV) (d : Nat) (r0_ : Option Nat) (r1_ : Option Nat) (x2_ : Int32) (h : AH) : rn E d 32 178 [some (vR r0_), some (vR r1_), some (vI x2_)] [] h =
    gd (rcO 103 [vR r1_, vR (some (E.sa 8))] h) (cI (cal E d 282 [vR r1_, vR (some (E.sa 8))] h) th fun v1 h =>
    if v1 = 0 then rn E d 32 264 [some (vR r0_), some (vR r1_), some (vI x2_)] [] h else
    rn E d 32 264 [some (vR r0_), some (vR r1_), some (vI 5)] [] h) := rn_b (b := b32_178) rfl
theorem e32_192 (E : EV) (d : Nat) (r0_ : Option Nat) (r1_ : Option Nat) (x2_ : Int32) (h : AH) : rn E d 32 192 [some (vR r0_), some (vR r1_), some (vI x2_)] [] h =
    gd (rcO 103 [vR r1_, vR (some (E.sa 9))] h) (cI (cal E d 282 [vR r1_, vR (some (E.sa 9))] h) th fun v1 h =>
    if v1 = 0 then rn E d 32 264 [some (vR r0_), some (vR r1_), some (vI x2_)] [] h else
    rn E d 32 264 [some (vR r0_), some (vR r1_), some (vI 6)] [] h) := rn_b (b := b32_192) rfl
theorem e32_207 (E : EV) (d : Nat) (r0_ : Option Nat) (r1_ : Option Nat) (x2_ : Int32) (h : AH) : rn E d 32 207 [some (vR r0_), some (vR r1_), some (vI x2_)] [] h =
    gd (rcO 103 [vR r1_, vR (some (E.sa 10))] h) (cI (cal E d 282 [vR r1_, vR (some (E.sa 10))] h) th fun v1 h =>
    if v1 = 0 then rn E d 32 264 [some (vR r0_), some (vR r1_), some (vI x2_)] [] h else
    rn E d 32 264 [some (vR r0_), some (vR r1_), some (vI 7)] [] h) := rn_b (b := b32_207) rfl
theorem e32_222 (E : EV) (d : Nat) (r0_ : Option Nat) (r1_ : Option Nat) (x2_ : Int32) (h : AH) : rn E d 32 222 [some (vR r0_), some (vR r1_), some (vI x2_)] [] h =
    gd (rcO 103 [vR r1_, vR (some (E.sa 11))] h) (cI (cal E d 282 [vR r1_, vR (some (E.sa 11))] h) th fun v1 h =>
    if v1 = 0 then rn E d 32 264 [some (vR r0_), some (vR r1_), some (vI x2_)] [] h else
    rn E d 32 264 [some (vR r0_), some (vR r1_), some (vI 8)] [] h) := rn_b (b := b32_222) rfl
theorem e32_237 (E : EV) (d : Nat) (r0_ : Option Nat) (r1_ : Option Nat) (x2_ : Int32) (h : AH) : rn E d 32 237 [some (vR r0_), some (vR r1_), some (vI x2_)] [] h =
    gd (rcO 103 [vR r1_, vR (some (E.sa 12))] h) (cI (cal E d 282 [vR r1_, vR (some (E.sa 12))] h) th fun v1 h =>
    if v1 = 0 then rn E d 32 264 [some (vR r0_), some (vR r1_), some (vI x2_)] [] h else
    rn E d 32 264 [some (vR r0_), some (vR r1_), some (vI 9)] [] h) := rn_b (b := b32_237) rfl
theorem e32_252 (E : EV) (d : Nat) (r0_ : Option Nat) (r1_ : Option Nat) (x2_ : Int32) (h : AH) : rn E d 32 252 [some (vR r0_), some (vR r1_), some (vI x2_)] [] h =
    gd (rcO 103 [vR r1_, vR (some (E.sa 13))] h) (cI (cal E d 282 [vR r1_, vR (some (E.sa 13))] h) th fun v1 h =>
    if v1 = 0 then rn E d 32 264 [some (vR r0_), some (vR r1_), some (vI x2_)] [] h else
    rn E d 32 264 [some (vR r0_), some (vR r1_), some (vI 10)] [] h) := rn_b (b := b32_252) rfl
theorem e32_264 (E : EV) (d : Nat) (r0_ : Option Nat) (r1_ : Option Nat) (x2_ : Int32) (h : AH) : rn E d 32 264 [some (vR r0_), some (vR r1_), some (vI x2_)] [] h =
    if x2_ = 0 then rn E d 32 324 [some (vR r0_), some (vR r1_), some (vI x2_)] [] h else
    if x2_ = 1 then rn E d 32 326 [some (vR r0_), some (vR r1_), some (vI x2_)] [] h else
    if x2_ = 2 then rn E d 32 328 [some (vR r0_), some (vR r1_), some (vI x2_)] [] h else
    if x2_ = 3 then rn E d 32 330 [some (vR r0_), some (vR r1_), some (vI x2_)] [] h else
    if x2_ = 4 then rn E d 32 332 [some (vR r0_), some (vR r1_), some (vI x2_)] [] h else
    if x2_ = 5 then rn E d 32 334 [some (vR r0_), some (vR r1_), some (vI x2_)] [] h else
    if x2_ = 6 then rn E d 32 336 [some (vR r0_), some (vR r1_), some (vI x2_)] [] h else
    if x2_ = 7 then rn E d 32 339 [some (vR r0_), some (vR r1_), some (vI x2_)] [] h else
    if x2_ = 8 then rn E d 32 342 [some (vR r0_), some (vR r1_), some (vI x2_)] [] h else
    if x2_ = 9 then rn E d 32 345 [some (vR r0_), some (vR r1_), some (vI x2_)] [] h else
    if x2_ = 10 then rn E d 32 348 [some (vR r0_), some (vR r1_), some (vI x2_)] [] h else
    rn E d 32 351 [some (vR r0_), some (vR r1_), some (vI x2_)] [] h := rn_b (b := b32_264) rfl
theorem e32_324 (E : EV) (d : Nat) (r0_ : Option Nat) (r1_ : Option Nat) (x2_ : Int32) (h : AH) : rn E d 32 324 [some (vR r0_), some (vR r1_), some (vI x2_)] [] h =
    some (Sum.inl (some (vI 0)), h) := rn_b (b := b32_324) rfl
theorem e32_326 (E : EV) (d : Nat) (r0_ : Option Nat) (r1_ : Option Nat) (x2_ : Int32) (h : AH) : rn E d 32 326 [some (vR r0_), some (vR r1_), some (vI x2_)] [] h =
    some (Sum.inl (some (vI 1)), h) := rn_b (b := b32_326) rfl
theorem e32_328 (E : EV) (d : Nat) (r0_ : Option Nat) (r1_ : Option Nat) (x2_ : Int32) (h : AH) : rn E d 32 328 [some (vR r0_), some (vR r1_), some (vI x2_)] [] h =
    some (Sum.inl (some (vI 2)), h) := rn_b (b := b32_328) rfl
theorem e32_330 (E : EV) (d : Nat) (r0_ : Option Nat) (r1_ : Option Nat) (x2_ : Int32) (h : AH) : rn E d 32 330 [some (vR r0_), some (vR r1_), some (vI x2_)] [] h =
    some (Sum.inl (some (vI 3)), h) := rn_b (b := b32_330) rfl
theorem e32_332 (E : EV) (d : Nat) (r0_ : Option Nat) (r1_ : Option Nat) (x2_ : Int32) (h : AH) : rn E d 32 332 [some (vR r0_), some (vR r1_), some (vI x2_)] [] h =
    some (Sum.inl (some (vI 4)), h) := rn_b (b := b32_332) rfl
theorem e32_334 (E : EV) (d : Nat) (r0_ : Option Nat) (r1_ : Option Nat) (x2_ : Int32) (h : AH) : rn E d 32 334 [some (vR r0_), some (vR r1_), some (vI x2_)] [] h =
    some (Sum.inl (some (vI 5)), h) := rn_b (b := b32_334) rfl
theorem e32_336 (E : EV) (d : Nat) (r0_ : Option Nat) (r1_ : Option Nat) (x2_ : Int32) (h : AH) : rn E d 32 336 [some (vR r0_), some (vR r1_), some (vI x2_)] [] h =
    some (Sum.inl (some (vI 6)), h) := rn_b (b := b32_336) rfl
theorem e32_339 (E : EV) (d : Nat) (r0_ : Option Nat) (r1_ : Option Nat) (x2_ : Int32) (h : AH) : rn E d 32 339 [some (vR r0_), some (vR r1_), some (vI x2_)] [] h =
    some (Sum.inl (some (vI 7)), h) := rn_b (b := b32_339) rfl
theorem e32_342 (E : EV) (d : Nat) (r0_ : Option Nat) (r1_ : Option Nat) (x2_ : Int32) (h : AH) : rn E d 32 342 [some (vR r0_), some (vR r1_), some (vI x2_)] [] h =
    some (Sum.inl (some (vI 8)), h) := rn_b (b := b32_342) rfl
theorem e32_345 (E : EV) (d : Nat) (r0_ : Option Nat) (r1_ : Option Nat) (x2_ : Int32) (h : AH) : rn E d 32 345 [some (vR r0_), some (vR r1_), some (vI x2_)] [] h =
    some (Sum.inl (some (vI 9)), h) := rn_b (b := b32_345) rfl
theorem e32_348 (E : EV) (d : Nat) (r0_ : Option Nat) (r1_ : Option Nat) (x2_ : Int32) (h : AH) : rn E d 32 348 [some (vR r0_), some (vR r1_), some (vI x2_)] [] h =
    some (Sum.inl (some (vI 10)), h) := rn_b (b := b32_348) rfl
theorem e32_351 (E : EV) (d : Nat) (r0_ : Option Nat) (r1_ : Option Nat) (x2_ : Int32) (h : AH) : rn E d 32 351 [some (vR r0_), some (vR r1_), some (vI x2_)] [] h =
    some (Sum.inl (some (vI (-1))), h) := rn_b (b := b32_351) rfl
/-! 33 FastPlane.land()I -/
theorem c33 (E : EV) (d : Nat) (t : Nat) (h : AH) : cal E (d + 1) 33 [vR (some t)] h = rn E d 33 0 [some (vR (some t)), none] [] h := cal_rn rfl rfl
theorem e33_0 (E : EV) (d : Nat) (t : Nat) (o1_ : Option AV) (h : AH) : rn E d 33 0 [some (vR (some t)), o1_] [] h =
    gd (h.kd t == 1) (hs (h.I t 9) fun x1 =>
    gd ((h.kd t == 1) && decide (E.bs ≤ t) && true) (hs (h.setI t 9 0) fun h =>
    some (Sum.inl (some (vI x1)), h))) := rn_b (b := b33_0) rfl
/-! 34 FastPlane.lapse(IIII)I -/
theorem c34 (E : EV) (d : Nat) (t : Nat) (x1_ : Int32) (x2_ : Int32) (x3_ : Int32) (x4_ : Int32) (h : AH) : cal E (d + 1) 34 [vR (some t), vI x1_, vI x2_, vI x3_, vI x4_] h = rn E d 34 0 [some (vR (some t)), some (vI x1_), some (vI x2_), some (vI x3_), some (vI x4_)] [] h := cal_rn rfl rfl
theorem e34_0 (E : EV) (d : Nat) (t : Nat) (x1_ : Int32) (x2_ : Int32) (x3_ : Int32) (x4_ : Int32) (h : AH) : rn E d 34 0 [some (vR (some t)), some (vI x1_), some (vI x2_), some (vI x3_), some (vI x4_)] [] h =
    if x1_ < 0 then rn E d 34 26 [some (vR (some t)), some (vI x1_), some (vI x2_), some (vI x3_), some (vI x4_)] [] h else
    gd (h.kd t == 1) (if (h.I t 23) ≤ x1_ then rn E d 34 26 [some (vR (some t)), some (vI x1_), some (vI x2_), some (vI x3_), some (vI x4_)] [] h else
    cI (cal E d 27 [vI x2_] h) th fun v1 h =>
    if v1 = 0 then rn E d 34 26 [some (vR (some t)), some (vI x1_), some (vI x2_), some (vI x3_), some (vI x4_)] [] h else
    cI (cal E d 30 [vI x3_] h) th fun v2 h =>
    if v2 = 0 then
    rn E d 34 26 [some (vR (some t)), some (vI x1_), some (vI x2_), some (vI x3_), some (vI x4_)] [] h
    else rn E d 34 28 [some (vR (some t)), some (vI x1_), some (vI x2_), some (vI x3_), some (vI x4_)] [] h) := rn_b (b := b34_0) rfl
theorem e34_26 (E : EV) (d : Nat) (t : Nat) (x1_ : Int32) (x2_ : Int32) (x3_ : Int32) (x4_ : Int32) (h : AH) : rn E d 34 26 [some (vR (some t)), some (vI x1_), some (vI x2_), some (vI x3_), some (vI x4_)] [] h =
    some (Sum.inl (some (vI (-1))), h) := rn_b (b := b34_26) rfl
theorem e34_28 (E : EV) (d : Nat) (t : Nat) (x1_ : Int32) (x2_ : Int32) (x3_ : Int32) (x4_ : Int32) (h : AH) : rn E d 34 28 [some (vR (some t)), some (vI x1_), some (vI x2_), some (vI x3_), some (vI x4_)] [] h =
    gd (h.kd t == 1) (cI (cal E d 35 [vR (some t), vI x2_, vI x3_, vI x4_] h) th fun v1 h =>
    gd (h.kd t == 1) (nn (h.R t 22) fun a2 =>
    gd (h.kd a2 == 101 && inb x1_ (h.ln a2)) (some (Sum.inl (some (vI (h.I a2 x1_.toNatClampNeg))), h)))) := rn_b (b := b34_28) rfl
/-! 35 FastPlane.lapsing(III)I -/
theorem c35 (E : EV) (d : Nat) (t : Nat) (x1_ : Int32) (x2_ : Int32) (x3_ : Int32) (h : AH) : cal E (d + 1) 35 [vR (some t), vI x1_, vI x2_, vI x3_] h = rn E d 35 0 [some (vR (some t)), some (vI x1_), some (vI x2_), some (vI x3_), none, none, none, none, none] [] h := cal_rn rfl rfl
theorem e35_0 (E : EV) (d : Nat) (t : Nat) (x1_ : Int32) (x2_ : Int32) (x3_ : Int32) (o4_ : Option AV) (o5_ : Option AV) (o6_ : Option AV) (o7_ : Option AV) (o8_ : Option AV) (h : AH) : rn E d 35 0 [some (vR (some t)), some (vI x1_), some (vI x2_), some (vI x3_), o4_, o5_, o6_, o7_, o8_] [] h =
    rn E d 35 9 [some (vR (some t)), some (vI x1_), some (vI x2_), some (vI x3_), some (vI 0), some (vI 0), some (vI 0), o7_, o8_] [] h := rn_b (b := b35_0) rfl
theorem e35_9 (E : EV) (d : Nat) (t : Nat) (x1_ : Int32) (x2_ : Int32) (x3_ : Int32) (x4_ : Int32) (x5_ : Int32) (x6_ : Int32) (o7_ : Option AV) (o8_ : Option AV) (h : AH) : rn E d 35 9 [some (vR (some t)), some (vI x1_), some (vI x2_), some (vI x3_), some (vI x4_), some (vI x5_), some (vI x6_), o7_, o8_] [] h =
    gd (h.kd t == 1) (gd (rcO 76 [vR (h.R t 6)] h) (cI (cal E d 268 [vR (h.R t 6)] h) th fun v1 h =>
    if v1 ≤ x6_ then rn E d 35 100 [some (vR (some t)), some (vI x1_), some (vI x2_), some (vI x3_), some (vI x4_), some (vI x5_), some (vI x6_), o7_, o8_] [] h else
    gd (h.kd t == 1) (gd (rcO 82 [vR (h.R t 6), vI x6_] h) (cR (cal E d 264 [vR (h.R t 6), vI x6_] h) th fun r2 h =>
    iof 22 h r2 fun x3 =>
    if x3 = 0 then rn E d 35 94 [some (vR (some t)), some (vI x1_), some (vI x2_), some (vI x3_), some (vI x4_), some (vI x5_), some (vI x6_), o7_, o8_] [] h else
    gd (h.kd t == 1) (gd (rcO 82 [vR (h.R t 6), vI x6_] h) (cR (cal E d 264 [vR (h.R t 6), vI x6_] h) th fun r4 h =>
    gd (okC 53 h r4) (gd (rcO 104 [vR r4, vI x3_] h) (cI (cal E d 98 [vR r4, vI x3_] h) th fun v5 h =>
    if v5 = 0 then rn E d 35 94 [some (vR (some t)), some (vI x1_), some (vI x2_), some (vI x3_), some (vI x4_), some (vI x5_), some (vI x6_), o7_, o8_] [] h else
    gd (h.kd t == 1) (gd (rcO 82 [vR (h.R t 6), vI x6_] h) (cR (cal E d 264 [vR (h.R t 6), vI x6_] h) th fun r6 h =>
    gd (okC 53 h r6) (nn r6 fun a7 =>
    gd (h.kd a7 == 20 || (h.kd a7 == 21 || h.kd a7 == 22)) (if x1_ < (h.I a7 98) then rn E d 35 94 [some (vR (some t)), some (vI x1_), some (vI x2_), some (vI x3_), some (vI x4_), some (vI x5_), some (vI x6_), o7_, o8_] [] h else
    gd (h.kd t == 1) (gd (rcO 82 [vR (h.R t 6), vI x6_] h) (cR (cal E d 264 [vR (h.R t 6), vI x6_] h) th fun r8 h =>
    gd (okC 22 h r8) (nn r8 fun a9 =>
    gd (h.kd a9 == 22) (hs (x4_ ||| (h.I a9 103)) fun x10 =>
    rn E d 35 94 [some (vR (some t)), some (vI x1_), some (vI x2_), some (vI x3_), some (vI x10), some (vI x5_), some (vI x6_), o7_, o8_] [] h)))))))))))))))) := rn_b (b := b35_9) rfl
theorem e35_94 (E : EV) (d : Nat) (t : Nat) (x1_ : Int32) (x2_ : Int32) (x3_ : Int32) (x4_ : Int32) (x5_ : Int32) (x6_ : Int32) (o7_ : Option AV) (o8_ : Option AV) (h : AH) : rn E d 35 94 [some (vR (some t)), some (vI x1_), some (vI x2_), some (vI x3_), some (vI x4_), some (vI x5_), some (vI x6_), o7_, o8_] [] h =
    hs (x6_ + 1) fun x1 =>
    rn E d 35 9 [some (vR (some t)), some (vI x1_), some (vI x2_), some (vI x3_), some (vI x4_), some (vI x5_), some (vI x1), o7_, o8_] [] h := rn_b (b := b35_94) rfl
theorem e35_100 (E : EV) (d : Nat) (t : Nat) (x1_ : Int32) (x2_ : Int32) (x3_ : Int32) (x4_ : Int32) (x5_ : Int32) (x6_ : Int32) (o7_ : Option AV) (o8_ : Option AV) (h : AH) : rn E d 35 100 [some (vR (some t)), some (vI x1_), some (vI x2_), some (vI x3_), some (vI x4_), some (vI x5_), some (vI x6_), o7_, o8_] [] h =
    rn E d 35 103 [some (vR (some t)), some (vI x1_), some (vI x2_), some (vI x3_), some (vI x4_), some (vI x5_), some (vI 0), o7_, o8_] [] h := rn_b (b := b35_100) rfl
theorem e35_103 (E : EV) (d : Nat) (t : Nat) (x1_ : Int32) (x2_ : Int32) (x3_ : Int32) (x4_ : Int32) (x5_ : Int32) (x6_ : Int32) (o7_ : Option AV) (o8_ : Option AV) (h : AH) : rn E d 35 103 [some (vR (some t)), some (vI x1_), some (vI x2_), some (vI x3_), some (vI x4_), some (vI x5_), some (vI x6_), o7_, o8_] [] h =
    gd (h.kd t == 1) (if (h.I t 23) ≤ x6_ then rn E d 35 161 [some (vR (some t)), some (vI x1_), some (vI x2_), some (vI x3_), some (vI x4_), some (vI x5_), some (vI x6_), o7_, o8_] [] h else
    gd (h.kd t == 1) (gd (h.kd t == 1) (nn (h.R t 21) fun a1 =>
    gd (h.kd a1 == 101 && inb x6_ (h.ln a1)) (if (h.I a1 x6_.toNatClampNeg) ≤ x1_ then rn E d 35 133 [some (vR (some t)), some (vI x1_), some (vI x2_), some (vI x3_), some (vI x4_), some (vI x5_), some (vI x6_), o7_, o8_] [vI x6_, vR (h.R t 22)] h else
    rn E d 35 134 [some (vR (some t)), some (vI x1_), some (vI x2_), some (vI x3_), some (vI x4_), some (vI x5_), some (vI x6_), o7_, o8_] [vI 0, vI x6_, vR (h.R t 22)] h)))) := rn_b (b := b35_103) rfl
theorem e35_133 (E : EV) (d : Nat) (t : Nat) (x1_ : Int32) (x2_ : Int32) (x3_ : Int32) (x4_ : Int32) (x5_ : Int32) (x6_ : Int32) (o7_ : Option AV) (o8_ : Option AV) (s0_ : Option Nat) (s1_ : Int32) (h : AH) : rn E d 35 133 [some (vR (some t)), some (vI x1_), some (vI x2_), some (vI x3_), some (vI x4_), some (vI x5_), some (vI x6_), o7_, o8_] [vI s1_, vR s0_] h =
    rn E d 35 134 [some (vR (some t)), some (vI x1_), some (vI x2_), some (vI x3_), some (vI x4_), some (vI x5_), some (vI x6_), o7_, o8_] [vI (-1), vI s1_, vR s0_] h := rn_b (b := b35_133) rfl
theorem e35_134 (E : EV) (d : Nat) (t : Nat) (x1_ : Int32) (x2_ : Int32) (x3_ : Int32) (x4_ : Int32) (x5_ : Int32) (x6_ : Int32) (o7_ : Option AV) (o8_ : Option AV) (s0_ : Option Nat) (s1_ : Int32) (s2_ : Int32) (h : AH) : rn E d 35 134 [some (vR (some t)), some (vI x1_), some (vI x2_), some (vI x3_), some (vI x4_), some (vI x5_), some (vI x6_), o7_, o8_] [vI s2_, vI s1_, vR s0_] h =
    nn s0_ fun a1 =>
    gd (h.kd a1 == 101 && inb s1_ (h.ln a1) && decide (E.bs ≤ a1)) (hs (h.setI a1 s1_.toNatClampNeg s2_) fun h =>
    gd (h.kd t == 1) (nn (h.R t 21) fun a2 =>
    gd (h.kd a2 == 101 && inb x6_ (h.ln a2)) (if (h.I a2 x6_.toNatClampNeg) ≤ x1_ then rn E d 35 155 [some (vR (some t)), some (vI x1_), some (vI x2_), some (vI x3_), some (vI x4_), some (vI x5_), some (vI x6_), o7_, o8_] [] h else
    hs (x5_ ||| (1 <<< (x6_ &&& 31))) fun x3 =>
    rn E d 35 155 [some (vR (some t)), some (vI x1_), some (vI x2_), some (vI x3_), some (vI x4_), some (vI x3), some (vI x6_), o7_, o8_] [] h))) := rn_b (b := b35_134) rfl
theorem e35_155 (E : EV) (d : Nat) (t : Nat) (x1_ : Int32) (x2_ : Int32) (x3_ : Int32) (x4_ : Int32) (x5_ : Int32) (x6_ : Int32) (o7_ : Option AV) (o8_ : Option AV) (h : AH) : rn E d 35 155 [some (vR (some t)), some (vI x1_), some (vI x2_), some (vI x3_), some (vI x4_), some (vI x5_), some (vI x6_), o7_, o8_] [] h =
    hs (x6_ + 1) fun x1 =>
    rn E d 35 103 [some (vR (some t)), some (vI x1_), some (vI x2_), some (vI x3_), some (vI x4_), some (vI x5_), some (vI x1), o7_, o8_] [] h := rn_b (b := b35_155) rfl
theorem e35_161 (E : EV) (d : Nat) (t : Nat) (x1_ : Int32) (x2_ : Int32) (x3_ : Int32) (x4_ : Int32) (x5_ : Int32) (x6_ : Int32) (o7_ : Option AV) (o8_ : Option AV) (h : AH) : rn E d 35 161 [some (vR (some t)), some (vI x1_), some (vI x2_), some (vI x3_), some (vI x4_), some (vI x5_), some (vI x6_), o7_, o8_] [] h =
    rn E d 35 167 [some (vR (some t)), some (vI x1_), some (vI x2_), some (vI x3_), some (vI x4_), some (vI x5_), some (vI 1), some (vI 1), o8_] [] h := rn_b (b := b35_161) rfl
theorem e35_167 (E : EV) (d : Nat) (t : Nat) (x1_ : Int32) (x2_ : Int32) (x3_ : Int32) (x4_ : Int32) (x5_ : Int32) (x6_ : Int32) (x7_ : Int32) (o8_ : Option AV) (h : AH) : rn E d 35 167 [some (vR (some t)), some (vI x1_), some (vI x2_), some (vI x3_), some (vI x4_), some (vI x5_), some (vI x6_), some (vI x7_), o8_] [] h =
    if x6_ = 0 then rn E d 35 313 [some (vR (some t)), some (vI x1_), some (vI x2_), some (vI x3_), some (vI x4_), some (vI x5_), some (vI x6_), some (vI x7_), o8_] [] h else
    rn E d 35 178 [some (vR (some t)), some (vI x1_), some (vI x2_), some (vI x3_), some (vI x4_), some (vI x5_), some (vI 0), some (vI x7_), some (vI 0)] [] h := rn_b (b := b35_167) rfl
theorem e35_178 (E : EV) (d : Nat) (t : Nat) (x1_ : Int32) (x2_ : Int32) (x3_ : Int32) (x4_ : Int32) (x5_ : Int32) (x6_ : Int32) (x7_ : Int32) (x8_ : Int32) (h : AH) : rn E d 35 178 [some (vR (some t)), some (vI x1_), some (vI x2_), some (vI x3_), some (vI x4_), some (vI x5_), some (vI x6_), some (vI x7_), some (vI x8_)] [] h =
    gd (h.kd t == 1) (if (h.I t 23) ≤ x8_ then rn E d 35 298 [some (vR (some t)), some (vI x1_), some (vI x2_), some (vI x3_), some (vI x4_), some (vI x5_), some (vI x6_), some (vI x7_), some (vI x8_)] [] h else
    if ((x5_ >>> (x8_ &&& 31)) &&& 1) = 0 then
    rn E d 35 292 [some (vR (some t)), some (vI x1_), some (vI x2_), some (vI x3_), some (vI x4_), some (vI x5_), some (vI x6_), some (vI x7_), some (vI x8_)] [] h
    else rn E d 35 200 [some (vR (some t)), some (vI x1_), some (vI x2_), some (vI x3_), some (vI x4_), some (vI x5_), some (vI x6_), some (vI x7_), some (vI x8_)] [] h) := rn_b (b := b35_178) rfl
theorem e35_200 (E : EV) (d : Nat) (t : Nat) (x1_ : Int32) (x2_ : Int32) (x3_ : Int32) (x4_ : Int32) (x5_ : Int32) (x6_ : Int32) (x7_ : Int32) (x8_ : Int32) (h : AH) : rn E d 35 200 [some (vR (some t)), some (vI x1_), some (vI x2_), some (vI x3_), some (vI x4_), some (vI x5_), some (vI x6_), some (vI x7_), some (vI x8_)] [] h =
    gd (h.kd t == 1) (nn (h.R t 10) fun a1 =>
    gd (h.kd a1 == 101 && inb 7 (h.ln a1) && decide (E.bs ≤ a1)) (hs (h.setI a1 (7 : Int32).toNatClampNeg x8_) fun h =>
    gd (h.kd t == 1) (nn (h.R t 10) fun a2 =>
    gd (h.kd a2 == 101 && inb 8 (h.ln a2) && decide (E.bs ≤ a2)) (hs (h.setI a2 (8 : Int32).toNatClampNeg x4_) fun h =>
    gd (h.kd t == 1) (hs (h.R t 10) fun q4 =>
    cI (cal E d 257 [vI x5_] h) th fun v3 h =>
    nn q4 fun a5 =>
    gd (h.kd a5 == 101 && inb 9 (h.ln a5) && decide (E.bs ≤ a5)) (hs (h.setI a5 (9 : Int32).toNatClampNeg (v3 - 1)) fun h =>
    gd (h.kd t == 1) (gd (h.kd t == 1) (nn (h.R t 20) fun a6 =>
    gd (h.kd a6 == 101 && inb x8_ (h.ln a6)) (nn (h.R t 10) fun a7 =>
    gd (h.kd a7 == 101 && inb 10 (h.ln a7) && decide (E.bs ≤ a7)) (hs (h.setI a7 (10 : Int32).toNatClampNeg (h.I a6 x8_.toNatClampNeg)) fun h =>
    gd (h.kd t == 1) (nn (h.R t 10) fun a8 =>
    gd (h.kd a8 == 101 && inb 2 (h.ln a8) && decide (E.bs ≤ a8)) (hs (h.setI a8 (2 : Int32).toNatClampNeg x1_) fun h =>
    gd (h.kd t == 1) (nn (h.R t 5) fun a9 =>
    gd (decide (105 ≤ h.kd a9) && inb x2_ (h.ln a9)) (gd (h.kd t == 1) (gd (rcO 106 [vR (h.R a9 x2_.toNatClampNeg), vI 3, vI 1, vR (h.R t 10)] h) (cI (cal E d 101 [vR (h.R a9 x2_.toNatClampNeg), vI 3, vI 1, vR (h.R t 10)] h) th fun v10 h =>
    if v10 = 0 then rn E d 35 274 [some (vR (some t)), some (vI x1_), some (vI x2_), some (vI x3_), some (vI x4_), some (vI x5_), some (vI x6_), some (vI x7_), some (vI x8_)] [] h else
    rn E d 35 292 [some (vR (some t)), some (vI x1_), some (vI x2_), some (vI x3_), some (vI x4_), some (vI x5_), some (vI x6_), some (vI x7_), some (vI x8_)] [] h)))))))))))))))) := rn_b (b := b35_200) rfl
theorem e35_274 (E : EV) (d : Nat) (t : Nat) (x1_ : Int32) (x2_ : Int32) (x3_ : Int32) (x4_ : Int32) (x5_ : Int32) (x6_ : Int32) (x7_ : Int32) (x8_ : Int32) (h : AH) : rn E d 35 274 [some (vR (some t)), some (vI x1_), some (vI x2_), some (vI x3_), some (vI x4_), some (vI x5_), some (vI x6_), some (vI x7_), some (vI x8_)] [] h =
    hs (x6_ ||| (1 <<< (x8_ &&& 31))) fun x1 =>
    gd (h.kd t == 1) (nn (h.R t 22) fun a2 =>
    gd (h.kd a2 == 101 && inb x8_ (h.ln a2) && decide (E.bs ≤ a2)) (hs (h.setI a2 x8_.toNatClampNeg x7_) fun h =>
    rn E d 35 292 [some (vR (some t)), some (vI x1_), some (vI x2_), some (vI x3_), some (vI x4_), some (vI x5_), some (vI x1), some (vI x7_), some (vI x8_)] [] h)) := rn_b (b := b35_274) rfl
theorem e35_292 (E : EV) (d : Nat) (t : Nat) (x1_ : Int32) (x2_ : Int32) (x3_ : Int32) (x4_ : Int32) (x5_ : Int32) (x6_ : Int32) (x7_ : Int32) (x8_ : Int32) (h : AH) : rn E d 35 292 [some (vR (some t)), some (vI x1_), some (vI x2_), some (vI x3_), some (vI x4_), some (vI x5_), some (vI x6_), some (vI x7_), some (vI x8_)] [] h =
    hs (x8_ + 1) fun x1 =>
    rn E d 35 178 [some (vR (some t)), some (vI x1_), some (vI x2_), some (vI x3_), some (vI x4_), some (vI x5_), some (vI x6_), some (vI x7_), some (vI x1)] [] h := rn_b (b := b35_292) rfl
theorem e35_298 (E : EV) (d : Nat) (t : Nat) (x1_ : Int32) (x2_ : Int32) (x3_ : Int32) (x4_ : Int32) (x5_ : Int32) (x6_ : Int32) (x7_ : Int32) (x8_ : Int32) (h : AH) : rn E d 35 298 [some (vR (some t)), some (vI x1_), some (vI x2_), some (vI x3_), some (vI x4_), some (vI x5_), some (vI x6_), some (vI x7_), some (vI x8_)] [] h =
    hs (x5_ &&& (x6_ ^^^ (-1))) fun x1 =>
    hs (x7_ + 1) fun x2 =>
    rn E d 35 167 [some (vR (some t)), some (vI x1_), some (vI x2_), some (vI x3_), some (vI x4_), some (vI x1), some (vI x6_), some (vI x2), some (vI x8_)] [] h := rn_b (b := b35_298) rfl
theorem e35_313 (E : EV) (d : Nat) (t : Nat) (x1_ : Int32) (x2_ : Int32) (x3_ : Int32) (x4_ : Int32) (x5_ : Int32) (x6_ : Int32) (x7_ : Int32) (o8_ : Option AV) (h : AH) : rn E d 35 313 [some (vR (some t)), some (vI x1_), some (vI x2_), some (vI x3_), some (vI x4_), some (vI x5_), some (vI x6_), some (vI x7_), o8_] [] h =
    some (Sum.inl (some (vI x5_)), h) := rn_b (b := b35_313) rfl
/-! 36 FastPlane.later(I)I -/
theorem c36 (E : EV) (d : Nat) (t : Nat) (x1_ : Int32) (h : AH) : cal E (d + 1) 36 [vR (some t), vI x1_] h = rn E d 36 0 [some (vR (some t)), some (vI x1_)] [] h := cal_rn rfl rfl
theorem e36_0 (E : EV) (d : Nat) (t : Nat) (x1_ : Int32) (h : AH) : rn E d 36 0 [some (vR (some t)), some (vI x1_)] [] h =
    if x1_ < 0 then rn E d 36 23 [some (vR (some t)), some (vI x1_)] [] h else
    if 1000 < x1_ then rn E d 36 23 [some (vR (some t)), some (vI x1_)] [] h else
    gd (h.kd t == 1) (if ((h.I t 7) + x1_) ≤ 100000 then rn E d 36 25 [some (vR (some t)), some (vI x1_)] [] h else
    rn E d 36 23 [some (vR (some t)), some (vI x1_)] [] h) := rn_b (b := b36_0) rfl
theorem e36_23 (E : EV) (d : Nat) (t : Nat) (x1_ : Int32) (h : AH) : rn E d 36 23 [some (vR (some t)), some (vI x1_)] [] h =
    some (Sum.inl (some (vI (-1))), h) := rn_b (b := b36_23) rfl
theorem e36_25 (E : EV) (d : Nat) (t : Nat) (x1_ : Int32) (h : AH) : rn E d 36 25 [some (vR (some t)), some (vI x1_)] [] h =
    gd (h.kd t == 1) (gd ((h.kd t == 1) && decide (E.bs ≤ t) && true) (hs (h.setI t 7 ((h.I t 7) + x1_)) fun h =>
    gd (h.kd t == 1) (some (Sum.inl (some (vI (h.I t 7))), h)))) := rn_b (b := b36_25) rfl
/-! 37 FastPlane.lay(IIIII)V -/
theorem c37 (E : EV) (d : Nat) (t : Nat) (x1_ : Int32) (x2_ : Int32) (x3_ : Int32) (x4_ : Int32) (x5_ : Int32) (h : AH) : cal E (d + 1) 37 [vR (some t), vI x1_, vI x2_, vI x3_, vI x4_, vI x5_] h = rn E d 37 0 [some (vR (some t)), some (vI x1_), some (vI x2_), some (vI x3_), some (vI x4_), some (vI x5_), none, none] [] h := cal_rn rfl rfl
theorem e37_0 (E : EV) (d : Nat) (t : Nat) (x1_ : Int32) (x2_ : Int32) (x3_ : Int32) (x4_ : Int32) (x5_ : Int32) (o6_ : Option AV) (o7_ : Option AV) (h : AH) : rn E d 37 0 [some (vR (some t)), some (vI x1_), some (vI x2_), some (vI x3_), some (vI x4_), some (vI x5_), o6_, o7_] [] h =
    gd (h.kd t == 1) (if (h.I t 26) < 0 then rn E d 37 17 [some (vR (some t)), some (vI x1_), some (vI x2_), some (vI x3_), some (vI x4_), some (vI x5_), o6_, o7_] [] h else
    gd (h.kd t == 1) (if x4_ < (h.I t 26) then rn E d 37 17 [some (vR (some t)), some (vI x1_), some (vI x2_), some (vI x3_), some (vI x4_), some (vI x5_), o6_, o7_] [] h else
    some (Sum.inl none, h))) := rn_b (b := b37_0) rfl
theorem e37_17 (E : EV) (d : Nat) (t : Nat) (x1_ : Int32) (x2_ : Int32) (x3_ : Int32) (x4_ : Int32) (x5_ : Int32) (o6_ : Option AV) (o7_ : Option AV) (h : AH) : rn E d 37 17 [some (vR (some t)), some (vI x1_), some (vI x2_), some (vI x3_), some (vI x4_), some (vI x5_), o6_, o7_] [] h =
    gd (h.kd t == 1) (nn (h.R t 4) fun a1 =>
    gd (h.kd a1 == 2) (gd (rcO 76 [vR (h.R a1 34)] h) (cI (cal E d 268 [vR (h.R a1 34)] h) th fun v2 h =>
    if x1_ = v2 then
    gd (h.kd t == 1) (if (100 * x2_) < (x5_ * (h.I t 27)) then rn E d 37 59 [some (vR (some t)), some (vI x1_), some (vI x2_), some (vI x3_), some (vI x4_), some (vI x5_), o6_, o7_] [] h else
    gd (h.kd t == 1) (if (x5_ * (h.I t 27)) ≤ (100 * x3_) then rn E d 37 60 [some (vR (some t)), some (vI x1_), some (vI x2_), some (vI x3_), some (vI x4_), some (vI x5_), o6_, o7_] [] h else
    rn E d 37 59 [some (vR (some t)), some (vI x1_), some (vI x2_), some (vI x3_), some (vI x4_), some (vI x5_), o6_, o7_] [] h))
    else rn E d 37 81 [some (vR (some t)), some (vI x1_), some (vI x2_), some (vI x3_), some (vI x4_), some (vI x5_), o6_, o7_] [] h))) := rn_b (b := b37_17) rfl
theorem e37_59 (E : EV) (d : Nat) (t : Nat) (x1_ : Int32) (x2_ : Int32) (x3_ : Int32) (x4_ : Int32) (x5_ : Int32) (o6_ : Option AV) (o7_ : Option AV) (h : AH) : rn E d 37 59 [some (vR (some t)), some (vI x1_), some (vI x2_), some (vI x3_), some (vI x4_), some (vI x5_), o6_, o7_] [] h =
    some (Sum.inl none, h) := rn_b (b := b37_59) rfl
theorem e37_60 (E : EV) (d : Nat) (t : Nat) (x1_ : Int32) (x2_ : Int32) (x3_ : Int32) (x4_ : Int32) (x5_ : Int32) (o6_ : Option AV) (o7_ : Option AV) (h : AH) : rn E d 37 60 [some (vR (some t)), some (vI x1_), some (vI x2_), some (vI x3_), some (vI x4_), some (vI x5_), o6_, o7_] [] h =
    gd ((h.kd t == 1) && decide (E.bs ≤ t) && true) (hs (h.setI t 26 x4_) fun h =>
    gd (h.kd t == 1) (gd (h.kd t == 1) (cV (cal E d 301 [vR (h.R t 24), vI 0, vR (h.R t 25), vI 0, vI x1_] h) th fun h =>
    some (Sum.inl none, h)))) := rn_b (b := b37_60) rfl
theorem e37_81 (E : EV) (d : Nat) (t : Nat) (x1_ : Int32) (x2_ : Int32) (x3_ : Int32) (x4_ : Int32) (x5_ : Int32) (o6_ : Option AV) (o7_ : Option AV) (h : AH) : rn E d 37 81 [some (vR (some t)), some (vI x1_), some (vI x2_), some (vI x3_), some (vI x4_), some (vI x5_), o6_, o7_] [] h =
    gd (h.kd t == 1) (nn (h.R t 4) fun a1 =>
    gd (h.kd a1 == 2) (gd (rcO 82 [vR (h.R a1 34), vI x1_] h) (cR (cal E d 264 [vR (h.R a1 34), vI x1_] h) th fun r2 h =>
    gd (okC 51 h r2) (nn r2 fun a3 =>
    gd (h.kd a3 == 9 || h.kd a3 == 10) (hs (h.I a3 78) fun x4 =>
    rn E d 37 103 [some (vR (some t)), some (vI x1_), some (vI x2_), some (vI x3_), some (vI x4_), some (vI x5_), some (vI x4), some (vI 0)] [] h))))) := rn_b (b := b37_81) rfl
theorem e37_103 (E : EV) (d : Nat) (t : Nat) (x1_ : Int32) (x2_ : Int32) (x3_ : Int32) (x4_ : Int32) (x5_ : Int32) (x6_ : Int32) (x7_ : Int32) (h : AH) : rn E d 37 103 [some (vR (some t)), some (vI x1_), some (vI x2_), some (vI x3_), some (vI x4_), some (vI x5_), some (vI x6_), some (vI x7_)] [] h =
    if 3 ≤ x7_ then rn E d 37 174 [some (vR (some t)), some (vI x1_), some (vI x2_), some (vI x3_), some (vI x4_), some (vI x5_), some (vI x6_), some (vI x7_)] [] h else
    gd (h.kd t == 1) (nn (h.R t 24) fun a1 =>
    gd (h.kd a1 == 101 && inb x1_ (h.ln a1) && decide (E.bs ≤ a1)) (hs (h.setI a1 x1_.toNatClampNeg x7_) fun h =>
    if x7_ = 1 then rn E d 37 133 [some (vR (some t)), some (vI x1_), some (vI x2_), some (vI x3_), some (vI x4_), some (vI x5_), some (vI x6_), some (vI x7_)] [vI x2_, vI (x1_ + 1), vR (some t)] h else
    rn E d 37 134 [some (vR (some t)), some (vI x1_), some (vI x2_), some (vI x3_), some (vI x4_), some (vI x5_), some (vI x6_), some (vI x7_)] [vI x6_, vI x2_, vI (x1_ + 1), vR (some t)] h)) := rn_b (b := b37_103) rfl
theorem e37_133 (E : EV) (d : Nat) (t : Nat) (x1_ : Int32) (x2_ : Int32) (x3_ : Int32) (x4_ : Int32) (x5_ : Int32) (x6_ : Int32) (x7_ : Int32) (s0_ : Option Nat) (s1_ : Int32) (s2_ : Int32) (h : AH) : rn E d 37 133 [some (vR (some t)), some (vI x1_), some (vI x2_), some (vI x3_), some (vI x4_), some (vI x5_), some (vI x6_), some (vI x7_)] [vI s2_, vI s1_, vR s0_] h =
    rn E d 37 134 [some (vR (some t)), some (vI x1_), some (vI x2_), some (vI x3_), some (vI x4_), some (vI x5_), some (vI x6_), some (vI x7_)] [vI 0, vI s2_, vI s1_, vR s0_] h := rn_b (b := b37_133) rfl
theorem e37_134 (E : EV) (d : Nat) (t : Nat) (x1_ : Int32) (x2_ : Int32) (x3_ : Int32) (x4_ : Int32) (x5_ : Int32) (x6_ : Int32) (x7_ : Int32) (s0_ : Option Nat) (s1_ : Int32) (s2_ : Int32) (s3_ : Int32) (h : AH) : rn E d 37 134 [some (vR (some t)), some (vI x1_), some (vI x2_), some (vI x3_), some (vI x4_), some (vI x5_), some (vI x6_), some (vI x7_)] [vI s3_, vI s2_, vI s1_, vR s0_] h =
    if x7_ = 0 then rn E d 37 146 [some (vR (some t)), some (vI x1_), some (vI x2_), some (vI x3_), some (vI x4_), some (vI x5_), some (vI x6_), some (vI x7_)] [vI x3_, vI (s2_ + s3_), vI s1_, vR s0_] h else
    rn E d 37 147 [some (vR (some t)), some (vI x1_), some (vI x2_), some (vI x3_), some (vI x4_), some (vI x5_), some (vI x6_), some (vI x7_)] [vI x6_, vI x3_, vI (s2_ + s3_), vI s1_, vR s0_] h := rn_b (b := b37_134) rfl
theorem e37_146 (E : EV) (d : Nat) (t : Nat) (x1_ : Int32) (x2_ : Int32) (x3_ : Int32) (x4_ : Int32) (x5_ : Int32) (x6_ : Int32) (x7_ : Int32) (s0_ : Option Nat) (s1_ : Int32) (s2_ : Int32) (s3_ : Int32) (h : AH) : rn E d 37 146 [some (vR (some t)), some (vI x1_), some (vI x2_), some (vI x3_), some (vI x4_), some (vI x5_), some (vI x6_), some (vI x7_)] [vI s3_, vI s2_, vI s1_, vR s0_] h =
    rn E d 37 147 [some (vR (some t)), some (vI x1_), some (vI x2_), some (vI x3_), some (vI x4_), some (vI x5_), some (vI x6_), some (vI x7_)] [vI 0, vI s3_, vI s2_, vI s1_, vR s0_] h := rn_b (b := b37_146) rfl
theorem e37_147 (E : EV) (d : Nat) (t : Nat) (x1_ : Int32) (x2_ : Int32) (x3_ : Int32) (x4_ : Int32) (x5_ : Int32) (x6_ : Int32) (x7_ : Int32) (s0_ : Option Nat) (s1_ : Int32) (s2_ : Int32) (s3_ : Int32) (s4_ : Int32) (h : AH) : rn E d 37 147 [some (vR (some t)), some (vI x1_), some (vI x2_), some (vI x3_), some (vI x4_), some (vI x5_), some (vI x6_), some (vI x7_)] [vI s4_, vI s3_, vI s2_, vI s1_, vR s0_] h =
    if x7_ = 2 then
    rn E d 37 162 [some (vR (some t)), some (vI x1_), some (vI x2_), some (vI x3_), some (vI x4_), some (vI x5_), some (vI x6_), some (vI x7_)] [vI x6_, vI x4_, vI (s3_ + s4_), vI s2_, vI s1_, vR s0_] h
    else rn E d 37 161 [some (vR (some t)), some (vI x1_), some (vI x2_), some (vI x3_), some (vI x4_), some (vI x5_), some (vI x6_), some (vI x7_)] [vI x4_, vI (s3_ + s4_), vI s2_, vI s1_, vR s0_] h := rn_b (b := b37_147) rfl
theorem e37_161 (E : EV) (d : Nat) (t : Nat) (x1_ : Int32) (x2_ : Int32) (x3_ : Int32) (x4_ : Int32) (x5_ : Int32) (x6_ : Int32) (x7_ : Int32) (s0_ : Option Nat) (s1_ : Int32) (s2_ : Int32) (s3_ : Int32) (s4_ : Int32) (h : AH) : rn E d 37 161 [some (vR (some t)), some (vI x1_), some (vI x2_), some (vI x3_), some (vI x4_), some (vI x5_), some (vI x6_), some (vI x7_)] [vI s4_, vI s3_, vI s2_, vI s1_, vR s0_] h =
    rn E d 37 162 [some (vR (some t)), some (vI x1_), some (vI x2_), some (vI x3_), some (vI x4_), some (vI x5_), some (vI x6_), some (vI x7_)] [vI 0, vI s4_, vI s3_, vI s2_, vI s1_, vR s0_] h := rn_b (b := b37_161) rfl
theorem e37_162 (E : EV) (d : Nat) (t : Nat) (x1_ : Int32) (x2_ : Int32) (x3_ : Int32) (x4_ : Int32) (x5_ : Int32) (x6_ : Int32) (x7_ : Int32) (s0_ : Option Nat) (s1_ : Int32) (s2_ : Int32) (s3_ : Int32) (s4_ : Int32) (s5_ : Int32) (h : AH) : rn E d 37 162 [some (vR (some t)), some (vI x1_), some (vI x2_), some (vI x3_), some (vI x4_), some (vI x5_), some (vI x6_), some (vI x7_)] [vI s5_, vI s4_, vI s3_, vI s2_, vI s1_, vR s0_] h =
    gd (rcO 108 [vR s0_, vI s1_, vI s2_, vI s3_, vI (s4_ + s5_), vI x5_] h) (cV (cal E d 37 [vR s0_, vI s1_, vI s2_, vI s3_, vI (s4_ + s5_), vI x5_] h) th fun h =>
    hs (x7_ + 1) fun x1 =>
    rn E d 37 103 [some (vR (some t)), some (vI x1_), some (vI x2_), some (vI x3_), some (vI x4_), some (vI x5_), some (vI x6_), some (vI x1)] [] h) := rn_b (b := b37_162) rfl
theorem e37_174 (E : EV) (d : Nat) (t : Nat) (x1_ : Int32) (x2_ : Int32) (x3_ : Int32) (x4_ : Int32) (x5_ : Int32) (x6_ : Int32) (x7_ : Int32) (h : AH) : rn E d 37 174 [some (vR (some t)), some (vI x1_), some (vI x2_), some (vI x3_), some (vI x4_), some (vI x5_), some (vI x6_), some (vI x7_)] [] h =
    some (Sum.inl none, h) := rn_b (b := b37_174) rfl
/-! 38 FastPlane.leave(III)I -/
theorem c38 (E : EV) (d : Nat) (t : Nat) (x1_ : Int32) (x2_ : Int32) (x3_ : Int32) (h : AH) : cal E (d + 1) 38 [vR (some t), vI x1_, vI x2_, vI x3_] h = rn E d 38 0 [some (vR (some t)), some (vI x1_), some (vI x2_), some (vI x3_)] [] h := cal_rn rfl rfl
theorem e38_0 (E : EV) (d : Nat) (t : Nat) (x1_ : Int32) (x2_ : Int32) (x3_ : Int32) (h : AH) : rn E d 38 0 [some (vR (some t)), some (vI x1_), some (vI x2_), some (vI x3_)] [] h =
    cI (cal E d 27 [vI x1_] h) th fun v1 h =>
    if v1 = 0 then rn E d 38 14 [some (vR (some t)), some (vI x1_), some (vI x2_), some (vI x3_)] [] h else
    cI (cal E d 30 [vI x2_] h) th fun v2 h =>
    if v2 = 0 then
    rn E d 38 14 [some (vR (some t)), some (vI x1_), some (vI x2_), some (vI x3_)] [] h
    else rn E d 38 18 [some (vR (some t)), some (vI x1_), some (vI x2_), some (vI x3_)] [] h := rn_b (b := b38_0) rfl
theorem e38_14 (E : EV) (d : Nat) (t : Nat) (x1_ : Int32) (x2_ : Int32) (x3_ : Int32) (h : AH) : rn E d 38 14 [some (vR (some t)), some (vI x1_), some (vI x2_), some (vI x3_)] [] h =
    rn E d 38 38 [some (vR (some t)), some (vI x1_), some (vI x2_), some (vI x3_)] [vI (-1)] h := rn_b (b := b38_14) rfl
theorem e38_18 (E : EV) (d : Nat) (t : Nat) (x1_ : Int32) (x2_ : Int32) (x3_ : Int32) (h : AH) : rn E d 38 18 [some (vR (some t)), some (vI x1_), some (vI x2_), some (vI x3_)] [] h =
    gd (h.kd t == 1) (cI (cal E d 48 [vR (some t), vI x1_, vI x3_] h) th fun v1 h =>
    gd (h.kd t == 1) (cI (cal E d 42 [vR (some t), vI x2_, vI x1_, vI v1] h) th fun v2 h =>
    if v2 = 0 then rn E d 38 37 [some (vR (some t)), some (vI x1_), some (vI x2_), some (vI x3_)] [] h else
    rn E d 38 38 [some (vR (some t)), some (vI x1_), some (vI x2_), some (vI x3_)] [vI 1] h)) := rn_b (b := b38_18) rfl
theorem e38_37 (E : EV) (d : Nat) (t : Nat) (x1_ : Int32) (x2_ : Int32) (x3_ : Int32) (h : AH) : rn E d 38 37 [some (vR (some t)), some (vI x1_), some (vI x2_), some (vI x3_)] [] h =
    rn E d 38 38 [some (vR (some t)), some (vI x1_), some (vI x2_), some (vI x3_)] [vI 0] h := rn_b (b := b38_37) rfl
theorem e38_38 (E : EV) (d : Nat) (t : Nat) (x1_ : Int32) (x2_ : Int32) (x3_ : Int32) (s0_ : Int32) (h : AH) : rn E d 38 38 [some (vR (some t)), some (vI x1_), some (vI x2_), some (vI x3_)] [vI s0_] h =
    some (Sum.inl (some (vI s0_)), h) := rn_b (b := b38_38) rfl
/-! 39 FastPlane.machine()I -/
theorem c39 (E : EV) (d : Nat) (t : Nat) (h : AH) : cal E (d + 1) 39 [vR (some t)] h = rn E d 39 0 [some (vR (some t)), none] [] h := cal_rn rfl rfl
theorem e39_0 (E : EV) (d : Nat) (t : Nat) (o1_ : Option AV) (h : AH) : rn E d 39 0 [some (vR (some t)), o1_] [] h =
    gd (decide (h.nx + 1 ≤ E.lc) && decide (h.us + 9 ≤ E.lu)) (hs h.nx fun n1 => hs (h.mk 5 0 9) fun h =>
    cV (cal E d 230 [vR (some n1), vR (some t)] h) (fun a9 h => gd (h.kd a9 == 8) (rn E d 39 40 [some (vR (some t)), o1_] [vR (some a9)] h)) fun h =>
    gd (h.kd n1 == 5) (cR (cal E d 236 [vR (some n1)] h) (fun a9 h => gd (h.kd a9 == 8) (rn E d 39 40 [some (vR (some t)), o1_] [vR (some a9)] h)) fun r2 h =>
    gd ((h.kd t == 1) && decide (E.bs ≤ t)) (hs (h.setR t 4 r2) fun h =>
    gd (h.kd t == 1) (gd (rcO 113 [vR (h.R t 6)] h) (cV (cal E d 262 [vR (h.R t 6)] h) (fun a9 h => gd (h.kd a9 == 8) (rn E d 39 40 [some (vR (some t)), o1_] [vR (some a9)] h)) fun h =>
    gd ((h.kd t == 1) && decide (E.bs ≤ t) && true) (hs (h.setI t 9 0) fun h =>
    gd (h.kd t == 1) (cV (cal E d 55 [vR (some t), vR none] h) (fun a9 h => gd (h.kd a9 == 8) (rn E d 39 40 [some (vR (some t)), o1_] [vR (some a9)] h)) fun h =>
    gd (h.kd t == 1) (nn (h.R t 4) fun a3 =>
    gd (h.kd a3 == 2) (rn E d 39 39 [some (vR (some t)), o1_] [vI (h.I a3 42)] h))))))))) := rn_b (b := b39_0) rfl
theorem e39_39 (E : EV) (d : Nat) (t : Nat) (o1_ : Option AV) (s0_ : Int32) (h : AH) : rn E d 39 39 [some (vR (some t)), o1_] [vI s0_] h =
    some (Sum.inl (some (vI s0_)), h) := rn_b (b := b39_39) rfl
theorem e39_40 (E : EV) (d : Nat) (t : Nat) (o1_ : Option AV) (s0_ : Option Nat) (h : AH) : rn E d 39 40 [some (vR (some t)), o1_] [vR s0_] h =
    gd (h.kd t == 1) (cV (cal E d 55 [vR (some t), vR s0_] h) th fun h =>
    some (Sum.inl (some (vI (-1))), h)) := rn_b (b := b39_40) rfl
/-! 40 FastPlane.maker(II)I -/
theorem c40 (E : EV) (d : Nat) (t : Nat) (x1_ : Int32) (x2_ : Int32) (h : AH) : cal E (d + 1) 40 [vR (some t), vI x1_, vI x2_] h = rn E d 40 0 [some (vR (some t)), some (vI x1_), some (vI x2_)] [] h := cal_rn rfl rfl
theorem e40_0 (E : EV) (d : Nat) (t : Nat) (x1_ : Int32) (x2_ : Int32) (h : AH) : rn E d 40 0 [some (vR (some t)), some (vI x1_), some (vI x2_)] [] h =
    gd (h.kd t == 1) (cR (cal E d 50 [vR (some t), vI x1_] h) th fun r1 h =>
    if r1 = none then rn E d 40 16 [some (vR (some t)), some (vI x1_), some (vI x2_)] [] h else
    gd (h.kd t == 1) (cI (cal E d 59 [vR (some t), vI x2_] h) th fun v2 h =>
    if 0 ≤ v2 then rn E d 40 20 [some (vR (some t)), some (vI x1_), some (vI x2_)] [] h else
    rn E d 40 16 [some (vR (some t)), some (vI x1_), some (vI x2_)] [] h)) := rn_b (b := b40_0) rfl
theorem e40_16 (E : EV) (d : Nat) (t : Nat) (x1_ : Int32) (x2_ : Int32) (h : AH) : rn E d 40 16 [some (vR (some t)), some (vI x1_), some (vI x2_)] [] h =
    rn E d 40 26 [some (vR (some t)), some (vI x1_), some (vI x2_)] [vI (-1)] h := rn_b (b := b40_16) rfl
theorem e40_20 (E : EV) (d : Nat) (t : Nat) (x1_ : Int32) (x2_ : Int32) (h : AH) : rn E d 40 20 [some (vR (some t)), some (vI x1_), some (vI x2_)] [] h =
    gd (h.kd t == 1) (nn (h.R t 25) fun a1 =>
    gd (h.kd a1 == 101 && inb x1_ (h.ln a1)) (rn E d 40 26 [some (vR (some t)), some (vI x1_), some (vI x2_)] [vI (h.I a1 x1_.toNatClampNeg)] h)) := rn_b (b := b40_20) rfl
theorem e40_26 (E : EV) (d : Nat) (t : Nat) (x1_ : Int32) (x2_ : Int32) (s0_ : Int32) (h : AH) : rn E d 40 26 [some (vR (some t)), some (vI x1_), some (vI x2_)] [vI s0_] h =
    some (Sum.inl (some (vI s0_)), h) := rn_b (b := b40_26) rfl
/-! 41 FastPlane.mayFly(IIII)Z -/
theorem c41 (E : EV) (d : Nat) (t : Nat) (x1_ : Int32) (x2_ : Int32) (x3_ : Int32) (x4_ : Int32) (h : AH) : cal E (d + 1) 41 [vR (some t), vI x1_, vI x2_, vI x3_, vI x4_] h = rn E d 41 0 [some (vR (some t)), some (vI x1_), some (vI x2_), some (vI x3_), some (vI x4_)] [] h := cal_rn rfl rfl
theorem e41_0 (E : EV) (d : Nat) (t : Nat) (x1_ : Int32) (x2_ : Int32) (x3_ : Int32) (x4_ : Int32) (h : AH) : rn E d 41 0 [some (vR (some t)), some (vI x1_), some (vI x2_), some (vI x3_), some (vI x4_)] [] h =
    gd (h.kd t == 1) (nn (h.R t 10) fun a1 =>
    gd (h.kd a1 == 101 && inb 4 (h.ln a1) && decide (E.bs ≤ a1)) (hs (h.setI a1 (4 : Int32).toNatClampNeg x2_) fun h =>
    gd (h.kd t == 1) (nn (h.R t 10) fun a2 =>
    gd (h.kd a2 == 101 && inb 5 (h.ln a2) && decide (E.bs ≤ a2)) (hs (h.setI a2 (5 : Int32).toNatClampNeg x3_) fun h =>
    gd (h.kd t == 1) (nn (h.R t 10) fun a3 =>
    gd (h.kd a3 == 101 && inb 6 (h.ln a3) && decide (E.bs ≤ a3)) (hs (h.setI a3 (6 : Int32).toNatClampNeg x4_) fun h =>
    gd (h.kd t == 1) (nn (h.R t 5) fun a4 =>
    gd (decide (105 ≤ h.kd a4) && inb x1_ (h.ln a4)) (gd (h.kd t == 1) (gd (rcO 106 [vR (h.R a4 x1_.toNatClampNeg), vI 2, vI 1, vR (h.R t 10)] h) (cI (cal E d 101 [vR (h.R a4 x1_.toNatClampNeg), vI 2, vI 1, vR (h.R t 10)] h) th fun v5 h =>
    gd (decide (v5 = 0) || decide (v5 = 1)) (some (Sum.inl (some (vI v5)), h)))))))))))) := rn_b (b := b41_0) rfl
/-! 42 FastPlane.mayLeave(III)Z -/
theorem c42 (E : EV) (d : Nat) (t : Nat) (x1_ : Int32) (x2_ : Int32) (x3_ : Int32) (h : AH) : cal E (d + 1) 42 [vR (some t), vI x1_, vI x2_, vI x3_] h = rn E d 42 0 [some (vR (some t)), some (vI x1_), some (vI x2_), some (vI x3_)] [] h := cal_rn rfl rfl
theorem e42_0 (E : EV) (d : Nat) (t : Nat) (x1_ : Int32) (x2_ : Int32) (x3_ : Int32) (h : AH) : rn E d 42 0 [some (vR (some t)), some (vI x1_), some (vI x2_), some (vI x3_)] [] h =
    gd (h.kd t == 1) (nn (h.R t 10) fun a1 =>
    gd (h.kd a1 == 101 && inb 2 (h.ln a1) && decide (E.bs ≤ a1)) (hs (h.setI a1 (2 : Int32).toNatClampNeg x2_) fun h =>
    gd (h.kd t == 1) (nn (h.R t 10) fun a2 =>
    gd (h.kd a2 == 101 && inb 3 (h.ln a2) && decide (E.bs ≤ a2)) (hs (h.setI a2 (3 : Int32).toNatClampNeg x3_) fun h =>
    gd (h.kd t == 1) (nn (h.R t 5) fun a3 =>
    gd (decide (105 ≤ h.kd a3) && inb x1_ (h.ln a3)) (gd (h.kd t == 1) (gd (rcO 106 [vR (h.R a3 x1_.toNatClampNeg), vI 1, vI 0, vR (h.R t 10)] h) (cI (cal E d 101 [vR (h.R a3 x1_.toNatClampNeg), vI 1, vI 0, vR (h.R t 10)] h) th fun v4 h =>
    gd (decide (v4 = 0) || decide (v4 = 1)) (some (Sum.inl (some (vI v4)), h)))))))))) := rn_b (b := b42_0) rfl
/-! 43 FastPlane.may(I)I -/
theorem c43 (E : EV) (d : Nat) (x0_ : Int32) (h : AH) : cal E (d + 1) 43 [vI x0_] h = rn E d 43 0 [some (vI x0_)] [] h := cal_rn rfl rfl
theorem e43_0 (E : EV) (d : Nat) (x0_ : Int32) (h : AH) : rn E d 43 0 [some (vI x0_)] [] h =
    if x0_ = 0 then rn E d 43 28 [some (vI x0_)] [] h else
    if x0_ = 1 then rn E d 43 31 [some (vI x0_)] [] h else
    if x0_ = 2 then rn E d 43 34 [some (vI x0_)] [] h else
    rn E d 43 37 [some (vI x0_)] [] h := rn_b (b := b43_0) rfl
theorem e43_28 (E : EV) (d : Nat) (x0_ : Int32) (h : AH) : rn E d 43 28 [some (vI x0_)] [] h =
    some (Sum.inl (some (vI 7)), h) := rn_b (b := b43_28) rfl
theorem e43_31 (E : EV) (d : Nat) (x0_ : Int32) (h : AH) : rn E d 43 31 [some (vI x0_)] [] h =
    some (Sum.inl (some (vI 12)), h) := rn_b (b := b43_31) rfl
theorem e43_34 (E : EV) (d : Nat) (x0_ : Int32) (h : AH) : rn E d 43 34 [some (vI x0_)] [] h =
    some (Sum.inl (some (vI 112)), h) := rn_b (b := b43_34) rfl
theorem e43_37 (E : EV) (d : Nat) (x0_ : Int32) (h : AH) : rn E d 43 37 [some (vI x0_)] [] h =
    some (Sum.inl (some (vI 1924)), h) := rn_b (b := b43_37) rfl
/-! 44 FastPlane.mend(I)I -/
theorem c44 (E : EV) (d : Nat) (t : Nat) (x1_ : Int32) (h : AH) : cal E (d + 1) 44 [vR (some t), vI x1_] h = rn E d 44 0 [some (vR (some t)), some (vI x1_)] [] h := cal_rn rfl rfl
theorem e44_0 (E : EV) (d : Nat) (t : Nat) (x1_ : Int32) (h : AH) : rn E d 44 0 [some (vR (some t)), some (vI x1_)] [] h =
    gd (h.kd t == 1) (cV (cal E d 58 [vR (some t)] h) th fun h =>
    gd (h.kd t == 1) (if 0 ≤ (h.I t 13) then rn E d 44 15 [some (vR (some t)), some (vI x1_)] [] h else
    rn E d 44 51 [some (vR (some t)), some (vI x1_)] [vI (-1)] h)) := rn_b (b := b44_0) rfl
theorem e44_15 (E : EV) (d : Nat) (t : Nat) (x1_ : Int32) (h : AH) : rn E d 44 15 [some (vR (some t)), some (vI x1_)] [] h =
    if x1_ = 0 then
    gd (h.kd t == 1) (rn E d 44 51 [some (vR (some t)), some (vI x1_)] [vI (h.I t 13)] h)
    else rn E d 44 26 [some (vR (some t)), some (vI x1_)] [] h := rn_b (b := b44_15) rfl
theorem e44_26 (E : EV) (d : Nat) (t : Nat) (x1_ : Int32) (h : AH) : rn E d 44 26 [some (vR (some t)), some (vI x1_)] [] h =
    if x1_ = 1 then
    gd (h.kd t == 1) (rn E d 44 51 [some (vR (some t)), some (vI x1_)] [vI (h.I t 14)] h)
    else rn E d 44 38 [some (vR (some t)), some (vI x1_)] [] h := rn_b (b := b44_26) rfl
theorem e44_38 (E : EV) (d : Nat) (t : Nat) (x1_ : Int32) (h : AH) : rn E d 44 38 [some (vR (some t)), some (vI x1_)] [] h =
    if x1_ = 2 then
    gd (h.kd t == 1) (rn E d 44 51 [some (vR (some t)), some (vI x1_)] [vI (h.I t 15)] h)
    else rn E d 44 50 [some (vR (some t)), some (vI x1_)] [] h := rn_b (b := b44_38) rfl
theorem e44_50 (E : EV) (d : Nat) (t : Nat) (x1_ : Int32) (h : AH) : rn E d 44 50 [some (vR (some t)), some (vI x1_)] [] h =
    rn E d 44 51 [some (vR (some t)), some (vI x1_)] [vI (-1)] h := rn_b (b := b44_50) rfl
theorem e44_51 (E : EV) (d : Nat) (t : Nat) (x1_ : Int32) (s0_ : Int32) (h : AH) : rn E d 44 51 [some (vR (some t)), some (vI x1_)] [vI s0_] h =
    some (Sum.inl (some (vI s0_)), h) := rn_b (b := b44_51) rfl
/-! 45 FastPlane.mm(II)I -/
theorem c45 (E : EV) (d : Nat) (t : Nat) (x1_ : Int32) (x2_ : Int32) (h : AH) : cal E (d + 1) 45 [vR (some t), vI x1_, vI x2_] h = rn E d 45 0 [some (vR (some t)), some (vI x1_), some (vI x2_)] [] h := cal_rn rfl rfl
theorem e45_0 (E : EV) (d : Nat) (t : Nat) (x1_ : Int32) (x2_ : Int32) (h : AH) : rn E d 45 0 [some (vR (some t)), some (vI x1_), some (vI x2_)] [] h =
    gd (h.kd t == 1) (cR (cal E d 50 [vR (some t), vI x1_] h) th fun r1 h =>
    if r1 = none then rn E d 45 15 [some (vR (some t)), some (vI x1_), some (vI x2_)] [] h else
    cI (cal E d 29 [vI x2_] h) th fun v2 h =>
    if v2 = 0 then
    rn E d 45 15 [some (vR (some t)), some (vI x1_), some (vI x2_)] [] h
    else rn E d 45 19 [some (vR (some t)), some (vI x1_), some (vI x2_)] [] h) := rn_b (b := b45_0) rfl
theorem e45_15 (E : EV) (d : Nat) (t : Nat) (x1_ : Int32) (x2_ : Int32) (h : AH) : rn E d 45 15 [some (vR (some t)), some (vI x1_), some (vI x2_)] [] h =
    rn E d 45 28 [some (vR (some t)), some (vI x1_), some (vI x2_)] [vI (-1)] h := rn_b (b := b45_15) rfl
theorem e45_19 (E : EV) (d : Nat) (t : Nat) (x1_ : Int32) (x2_ : Int32) (h : AH) : rn E d 45 19 [some (vR (some t)), some (vI x1_), some (vI x2_)] [] h =
    gd (h.kd t == 1) (cR (cal E d 50 [vR (some t), vI x1_] h) th fun r1 h =>
    gd (rcO 116 [vR r1, vI x2_] h) (cI (cal E d 238 [vR r1, vI x2_] h) th fun v2 h =>
    rn E d 45 28 [some (vR (some t)), some (vI x1_), some (vI x2_)] [vI v2] h)) := rn_b (b := b45_19) rfl
theorem e45_28 (E : EV) (d : Nat) (t : Nat) (x1_ : Int32) (x2_ : Int32) (s0_ : Int32) (h : AH) : rn E d 45 28 [some (vR (some t)), some (vI x1_), some (vI x2_)] [vI s0_] h =
    some (Sum.inl (some (vI s0_)), h) := rn_b (b := b45_28) rfl
/-! 46 FastPlane.move(IIII)I -/
theorem c46 (E : EV) (d : Nat) (t : Nat) (x1_ : Int32) (x2_ : Int32) (x3_ : Int32) (x4_ : Int32) (h : AH) : cal E (d + 1) 46 [vR (some t), vI x1_, vI x2_, vI x3_, vI x4_] h = rn E d 46 0 [some (vR (some t)), some (vI x1_), some (vI x2_), some (vI x3_), some (vI x4_), none, none, none] [] h := cal_rn rfl rfl
theorem e46_0 (E : EV) (d : Nat) (t : Nat) (x1_ : Int32) (x2_ : Int32) (x3_ : Int32) (x4_ : Int32) (o5_ : Option AV) (o6_ : Option AV) (o7_ : Option AV) (h : AH) : rn E d 46 0 [some (vR (some t)), some (vI x1_), some (vI x2_), some (vI x3_), some (vI x4_), o5_, o6_, o7_] [] h =
    gd (h.kd t == 1) (cI (cal E d 52 [vR (some t), vI x1_, vI x2_, vI x3_] h) th fun v1 h =>
    if v1 < 0 then rn E d 46 24 [some (vR (some t)), some (vI x1_), some (vI x2_), some (vI x3_), some (vI x4_), o5_, o6_, o7_] [] h else
    if x4_ < 0 then rn E d 46 24 [some (vR (some t)), some (vI x1_), some (vI x2_), some (vI x3_), some (vI x4_), o5_, o6_, o7_] [] h else
    gd (h.kd t == 1) (if x4_ < (h.I t 9) then rn E d 46 26 [some (vR (some t)), some (vI x1_), some (vI x2_), some (vI x3_), some (vI x4_), o5_, o6_, o7_] [] h else
    rn E d 46 24 [some (vR (some t)), some (vI x1_), some (vI x2_), some (vI x3_), some (vI x4_), o5_, o6_, o7_] [] h)) := rn_b (b := b46_0) rfl
theorem e46_24 (E : EV) (d : Nat) (t : Nat) (x1_ : Int32) (x2_ : Int32) (x3_ : Int32) (x4_ : Int32) (o5_ : Option AV) (o6_ : Option AV) (o7_ : Option AV) (h : AH) : rn E d 46 24 [some (vR (some t)), some (vI x1_), some (vI x2_), some (vI x3_), some (vI x4_), o5_, o6_, o7_] [] h =
    some (Sum.inl (some (vI (-1))), h) := rn_b (b := b46_24) rfl
theorem e46_26 (E : EV) (d : Nat) (t : Nat) (x1_ : Int32) (x2_ : Int32) (x3_ : Int32) (x4_ : Int32) (o5_ : Option AV) (o6_ : Option AV) (o7_ : Option AV) (h : AH) : rn E d 46 26 [some (vR (some t)), some (vI x1_), some (vI x2_), some (vI x3_), some (vI x4_), o5_, o6_, o7_] [] h =
    cI (cal E d 64 [vI x1_, vI x2_, vI x3_] h) th fun v1 h =>
    rn E d 46 37 [some (vR (some t)), some (vI x1_), some (vI x2_), some (vI x3_), some (vI x4_), some (vI v1), some (vI 0), o7_] [] h := rn_b (b := b46_26) rfl
theorem e46_37 (E : EV) (d : Nat) (t : Nat) (x1_ : Int32) (x2_ : Int32) (x3_ : Int32) (x4_ : Int32) (x5_ : Int32) (x6_ : Int32) (o7_ : Option AV) (h : AH) : rn E d 46 37 [some (vR (some t)), some (vI x1_), some (vI x2_), some (vI x3_), some (vI x4_), some (vI x5_), some (vI x6_), o7_] [] h =
    rn E d 46 40 [some (vR (some t)), some (vI x1_), some (vI x2_), some (vI x3_), some (vI x4_), some (vI x5_), some (vI x6_), some (vI 0)] [] h := rn_b (b := b46_37) rfl
theorem e46_40 (E : EV) (d : Nat) (t : Nat) (x1_ : Int32) (x2_ : Int32) (x3_ : Int32) (x4_ : Int32) (x5_ : Int32) (x6_ : Int32) (x7_ : Int32) (h : AH) : rn E d 46 40 [some (vR (some t)), some (vI x1_), some (vI x2_), some (vI x3_), some (vI x4_), some (vI x5_), some (vI x6_), some (vI x7_)] [] h =
    gd (h.kd t == 1) (cI (cal E d 69 [vR (some t), vI x6_, vI x5_, vI x7_] h) th fun v1 h =>
    gd (h.kd t == 1) (nn (h.R t 17) fun a2 =>
    gd (decide (105 ≤ h.kd a2) && inb x6_ (h.ln a2)) (nn (h.R a2 x6_.toNatClampNeg) fun a3 =>
    gd (h.kd a3 == 101 && inb x5_ (h.ln a3)) (if v1 = (h.I a3 x5_.toNatClampNeg) then rn E d 46 87 [some (vR (some t)), some (vI x1_), some (vI x2_), some (vI x3_), some (vI x4_), some (vI x5_), some (vI x6_), some (vI x7_)] [] h else
    gd (!decide ((100 : Int32) = 0)) (if (x7_ - x7_ / 100 * 100) = 35 then
    rn E d 46 81 [some (vR (some t)), some (vI x1_), some (vI x2_), some (vI x3_), some (vI x4_), some (vI x5_), some (vI x6_), some (vI x7_)] [vI 65, vI x7_] h
    else rn E d 46 80 [some (vR (some t)), some (vI x1_), some (vI x2_), some (vI x3_), some (vI x4_), some (vI x5_), some (vI x6_), some (vI x7_)] [vI x7_] h))))) := rn_b (b := b46_40) rfl
theorem e46_80 (E : EV) (d : Nat) (t : Nat) (x1_ : Int32) (x2_ : Int32) (x3_ : Int32) (x4_ : Int32) (x5_ : Int32) (x6_ : Int32) (x7_ : Int32) (s0_ : Int32) (h : AH) : rn E d 46 80 [some (vR (some t)), some (vI x1_), some (vI x2_), some (vI x3_), some (vI x4_), some (vI x5_), some (vI x6_), some (vI x7_)] [vI s0_] h =
    rn E d 46 81 [some (vR (some t)), some (vI x1_), some (vI x2_), some (vI x3_), some (vI x4_), some (vI x5_), some (vI x6_), some (vI x7_)] [vI 1, vI s0_] h := rn_b (b := b46_80) rfl
theorem e46_81 (E : EV) (d : Nat) (t : Nat) (x1_ : Int32) (x2_ : Int32) (x3_ : Int32) (x4_ : Int32) (x5_ : Int32) (x6_ : Int32) (x7_ : Int32) (s0_ : Int32) (s1_ : Int32) (h : AH) : rn E d 46 81 [some (vR (some t)), some (vI x1_), some (vI x2_), some (vI x3_), some (vI x4_), some (vI x5_), some (vI x6_), some (vI x7_)] [vI s1_, vI s0_] h =
    hs (s0_ + s1_) fun x1 =>
    rn E d 46 40 [some (vR (some t)), some (vI x1_), some (vI x2_), some (vI x3_), some (vI x4_), some (vI x5_), some (vI x6_), some (vI x1)] [] h := rn_b (b := b46_81) rfl
theorem e46_87 (E : EV) (d : Nat) (t : Nat) (x1_ : Int32) (x2_ : Int32) (x3_ : Int32) (x4_ : Int32) (x5_ : Int32) (x6_ : Int32) (x7_ : Int32) (h : AH) : rn E d 46 87 [some (vR (some t)), some (vI x1_), some (vI x2_), some (vI x3_), some (vI x4_), some (vI x5_), some (vI x6_), some (vI x7_)] [] h =
    if x6_ = x4_ then
    some (Sum.inl (some (vI x7_)), h)
    else rn E d 46 97 [some (vR (some t)), some (vI x1_), some (vI x2_), some (vI x3_), some (vI x4_), some (vI x5_), some (vI x6_), some (vI x7_)] [] h := rn_b (b := b46_87) rfl
theorem e46_97 (E : EV) (d : Nat) (t : Nat) (x1_ : Int32) (x2_ : Int32) (x3_ : Int32) (x4_ : Int32) (x5_ : Int32) (x6_ : Int32) (x7_ : Int32) (h : AH) : rn E d 46 97 [some (vR (some t)), some (vI x1_), some (vI x2_), some (vI x3_), some (vI x4_), some (vI x5_), some (vI x6_), some (vI x7_)] [] h =
    gd (h.kd t == 1) (cI (cal E d 7 [vR (some t), vI x6_, vI x5_, vI x7_] h) th fun v1 h =>
    hs (x6_ + 1) fun x2 =>
    rn E d 46 37 [some (vR (some t)), some (vI x1_), some (vI x2_), some (vI x3_), some (vI x4_), some (vI v1), some (vI x2), some (vI x7_)] [] h) := rn_b (b := b46_97) rfl
/-! 47 FastPlane.moves(II)I -/
theorem c47 (E : EV) (d : Nat) (t : Nat) (x1_ : Int32) (x2_ : Int32) (h : AH) : cal E (d + 1) 47 [vR (some t), vI x1_, vI x2_] h = rn E d 47 0 [some (vR (some t)), some (vI x1_), some (vI x2_)] [] h := cal_rn rfl rfl
theorem e47_0 (E : EV) (d : Nat) (t : Nat) (x1_ : Int32) (x2_ : Int32) (h : AH) : rn E d 47 0 [some (vR (some t)), some (vI x1_), some (vI x2_)] [] h =
    gd (h.kd t == 1) (cR (cal E d 50 [vR (some t), vI x1_] h) th fun r1 h =>
    if r1 = none then
    some (Sum.inl (some (vI (-1))), h)
    else rn E d 47 10 [some (vR (some t)), some (vI x1_), some (vI x2_)] [] h) := rn_b (b := b47_0) rfl
theorem e47_10 (E : EV) (d : Nat) (t : Nat) (x1_ : Int32) (x2_ : Int32) (h : AH) : rn E d 47 10 [some (vR (some t)), some (vI x1_), some (vI x2_)] [] h =
    gd (h.kd t == 1) (cV (cal E d 31 [vR (some t), vI x2_] h) th fun h =>
    gd (h.kd t == 1) (nn (h.R t 16) fun a1 =>
    gd (h.kd a1 == 101 && inb x1_ (h.ln a1)) (if (h.I a1 x1_.toNatClampNeg) = 1000000 then
    rn E d 47 37 [some (vR (some t)), some (vI x1_), some (vI x2_)] [vI (-1)] h
    else rn E d 47 31 [some (vR (some t)), some (vI x1_), some (vI x2_)] [] h))) := rn_b (b := b47_10) rfl
theorem e47_31 (E : EV) (d : Nat) (t : Nat) (x1_ : Int32) (x2_ : Int32) (h : AH) : rn E d 47 31 [some (vR (some t)), some (vI x1_), some (vI x2_)] [] h =
    gd (h.kd t == 1) (nn (h.R t 16) fun a1 =>
    gd (h.kd a1 == 101 && inb x1_ (h.ln a1)) (rn E d 47 37 [some (vR (some t)), some (vI x1_), some (vI x2_)] [vI (h.I a1 x1_.toNatClampNeg)] h)) := rn_b (b := b47_31) rfl
theorem e47_37 (E : EV) (d : Nat) (t : Nat) (x1_ : Int32) (x2_ : Int32) (s0_ : Int32) (h : AH) : rn E d 47 37 [some (vR (some t)), some (vI x1_), some (vI x2_)] [vI s0_] h =
    some (Sum.inl (some (vI s0_)), h) := rn_b (b := b47_37) rfl
/-! 48 FastPlane.overOf(II)I -/
theorem c48 (E : EV) (d : Nat) (t : Nat) (x1_ : Int32) (x2_ : Int32) (h : AH) : cal E (d + 1) 48 [vR (some t), vI x1_, vI x2_] h = rn E d 48 0 [some (vR (some t)), some (vI x1_), some (vI x2_), none, none, none] [] h := cal_rn rfl rfl
theorem e48_0 (E : EV) (d : Nat) (t : Nat) (x1_ : Int32) (x2_ : Int32) (o3_ : Option AV) (o4_ : Option AV) (o5_ : Option AV) (h : AH) : rn E d 48 0 [some (vR (some t)), some (vI x1_), some (vI x2_), o3_, o4_, o5_] [] h =
    gd (h.kd t == 1) (cV (cal E d 31 [vR (some t), vI x2_] h) th fun h =>
    rn E d 48 10 [some (vR (some t)), some (vI x1_), some (vI x2_), some (vR none), some (vI 0), o5_] [] h) := rn_b (b := b48_0) rfl
theorem e48_10 (E : EV) (d : Nat) (t : Nat) (x1_ : Int32) (x2_ : Int32) (r3_ : Option Nat) (x4_ : Int32) (o5_ : Option AV) (h : AH) : rn E d 48 10 [some (vR (some t)), some (vI x1_), some (vI x2_), some (vR r3_), some (vI x4_), o5_] [] h =
    gd (h.kd t == 1) (gd (rcO 76 [vR (h.R t 6)] h) (cI (cal E d 268 [vR (h.R t 6)] h) th fun v1 h =>
    if v1 ≤ x4_ then rn E d 48 103 [some (vR (some t)), some (vI x1_), some (vI x2_), some (vR r3_), some (vI x4_), o5_] [] h else
    gd (h.kd t == 1) (gd (rcO 82 [vR (h.R t 6), vI x4_] h) (cR (cal E d 264 [vR (h.R t 6), vI x4_] h) th fun r2 h =>
    iof 21 h r2 fun x3 =>
    if x3 = 0 then rn E d 48 52 [some (vR (some t)), some (vI x1_), some (vI x2_), some (vR r3_), some (vI x4_), o5_] [] h else
    gd (h.kd t == 1) (gd (rcO 82 [vR (h.R t 6), vI x4_] h) (cR (cal E d 264 [vR (h.R t 6), vI x4_] h) th fun r4 h =>
    gd (okC 21 h r4) (rn E d 48 53 [some (vR (some t)), some (vI x1_), some (vI x2_), some (vR r3_), some (vI x4_), o5_] [vR r4] h))))))) := rn_b (b := b48_10) rfl
theorem e48_52 (E : EV) (d : Nat) (t : Nat) (x1_ : Int32) (x2_ : Int32) (r3_ : Option Nat) (x4_ : Int32) (o5_ : Option AV) (h : AH) : rn E d 48 52 [some (vR (some t)), some (vI x1_), some (vI x2_), some (vR r3_), some (vI x4_), o5_] [] h =
    rn E d 48 53 [some (vR (some t)), some (vI x1_), some (vI x2_), some (vR r3_), some (vI x4_), o5_] [vR none] h := rn_b (b := b48_52) rfl
theorem e48_53 (E : EV) (d : Nat) (t : Nat) (x1_ : Int32) (x2_ : Int32) (r3_ : Option Nat) (x4_ : Int32) (o5_ : Option AV) (s0_ : Option Nat) (h : AH) : rn E d 48 53 [some (vR (some t)), some (vI x1_), some (vI x2_), some (vR r3_), some (vI x4_), o5_] [vR s0_] h =
    if s0_ = none then rn E d 48 97 [some (vR (some t)), some (vI x1_), some (vI x2_), some (vR r3_), some (vI x4_), some (vR s0_)] [] h else
    gd (rcO 118 [vR s0_, vI x2_] h) (cI (cal E d 98 [vR s0_, vI x2_] h) th fun v1 h =>
    if v1 = 0 then rn E d 48 97 [some (vR (some t)), some (vI x1_), some (vI x2_), some (vR r3_), some (vI x4_), some (vR s0_)] [] h else
    nn s0_ fun a2 =>
    gd (h.kd a2 == 20 || (h.kd a2 == 21 || h.kd a2 == 22)) (if x1_ < (h.I a2 98) then rn E d 48 97 [some (vR (some t)), some (vI x1_), some (vI x2_), some (vR r3_), some (vI x4_), some (vR s0_)] [] h else
    if r3_ = none then rn E d 48 94 [some (vR (some t)), some (vI x1_), some (vI x2_), some (vR r3_), some (vI x4_), some (vR s0_)] [] h else
    nn s0_ fun a3 =>
    gd (h.kd a3 == 20 || (h.kd a3 == 21 || h.kd a3 == 22)) (nn r3_ fun a4 =>
    gd (h.kd a4 == 20 || (h.kd a4 == 21 || h.kd a4 == 22)) (if (h.I a3 98) < (h.I a4 98) then rn E d 48 97 [some (vR (some t)), some (vI x1_), some (vI x2_), some (vR r3_), some (vI x4_), some (vR s0_)] [] h else
    rn E d 48 94 [some (vR (some t)), some (vI x1_), some (vI x2_), some (vR r3_), some (vI x4_), some (vR s0_)] [] h)))) := rn_b (b := b48_53) rfl
theorem e48_94 (E : EV) (d : Nat) (t : Nat) (x1_ : Int32) (x2_ : Int32) (r3_ : Option Nat) (x4_ : Int32) (r5_ : Option Nat) (h : AH) : rn E d 48 94 [some (vR (some t)), some (vI x1_), some (vI x2_), some (vR r3_), some (vI x4_), some (vR r5_)] [] h =
    rn E d 48 97 [some (vR (some t)), some (vI x1_), some (vI x2_), some (vR r5_), some (vI x4_), some (vR r5_)] [] h := rn_b (b := b48_94) rfl
theorem e48_97 (E : EV) (d : Nat) (t : Nat) (x1_ : Int32) (x2_ : Int32) (r3_ : Option Nat) (x4_ : Int32) (r5_ : Option Nat) (h : AH) : rn E d 48 97 [some (vR (some t)), some (vI x1_), some (vI x2_), some (vR r3_), some (vI x4_), some (vR r5_)] [] h =
    hs (x4_ + 1) fun x1 =>
    rn E d 48 10 [some (vR (some t)), some (vI x1_), some (vI x2_), some (vR r3_), some (vI x1), some (vR r5_)] [] h := rn_b (b := b48_97) rfl
theorem e48_103 (E : EV) (d : Nat) (t : Nat) (x1_ : Int32) (x2_ : Int32) (r3_ : Option Nat) (x4_ : Int32) (o5_ : Option AV) (h : AH) : rn E d 48 103 [some (vR (some t)), some (vI x1_), some (vI x2_), some (vR r3_), some (vI x4_), o5_] [] h =
    if r3_ = none then rn E d 48 114 [some (vR (some t)), some (vI x1_), some (vI x2_), some (vR r3_), some (vI x4_), o5_] [] h else
    nn r3_ fun a1 =>
    gd (h.kd a1 == 21) (if (h.I a1 102) = 0 then
    rn E d 48 114 [some (vR (some t)), some (vI x1_), some (vI x2_), some (vR r3_), some (vI x4_), o5_] [] h
    else rn E d 48 119 [some (vR (some t)), some (vI x1_), some (vI x2_), some (vR r3_), some (vI x4_), o5_] [] h) := rn_b (b := b48_103) rfl
theorem e48_114 (E : EV) (d : Nat) (t : Nat) (x1_ : Int32) (x2_ : Int32) (r3_ : Option Nat) (x4_ : Int32) (o5_ : Option AV) (h : AH) : rn E d 48 114 [some (vR (some t)), some (vI x1_), some (vI x2_), some (vR r3_), some (vI x4_), o5_] [] h =
    rn E d 48 138 [some (vR (some t)), some (vI x1_), some (vI x2_), some (vR r3_), some (vI x4_), o5_] [vI 99] h := rn_b (b := b48_114) rfl
theorem e48_119 (E : EV) (d : Nat) (t : Nat) (x1_ : Int32) (x2_ : Int32) (r3_ : Option Nat) (x4_ : Int32) (o5_ : Option AV) (h : AH) : rn E d 48 119 [some (vR (some t)), some (vI x1_), some (vI x2_), some (vR r3_), some (vI x4_), o5_] [] h =
    gd (h.kd t == 1) (cI (cal E d 14 [vR (some t), vI 0, vI x1_] h) th fun v1 h =>
    nn r3_ fun a2 =>
    gd (h.kd a2 == 21) (gd (!decide ((h.I a2 102) = 0)) (cI (cal E d 295 [vI 99, vI ((v1 * 10) / (h.I a2 102))] h) th fun v3 h =>
    rn E d 48 138 [some (vR (some t)), some (vI x1_), some (vI x2_), some (vR r3_), some (vI x4_), o5_] [vI v3] h))) := rn_b (b := b48_119) rfl
theorem e48_138 (E : EV) (d : Nat) (t : Nat) (x1_ : Int32) (x2_ : Int32) (r3_ : Option Nat) (x4_ : Int32) (o5_ : Option AV) (s0_ : Int32) (h : AH) : rn E d 48 138 [some (vR (some t)), some (vI x1_), some (vI x2_), some (vR r3_), some (vI x4_), o5_] [vI s0_] h =
    some (Sum.inl (some (vI s0_)), h) := rn_b (b := b48_138) rfl
/-! 49 FastPlane.over(II)I -/
theorem c49 (E : EV) (d : Nat) (t : Nat) (x1_ : Int32) (x2_ : Int32) (h : AH) : cal E (d + 1) 49 [vR (some t), vI x1_, vI x2_] h = rn E d 49 0 [some (vR (some t)), some (vI x1_), some (vI x2_)] [] h := cal_rn rfl rfl
theorem e49_0 (E : EV) (d : Nat) (t : Nat) (x1_ : Int32) (x2_ : Int32) (h : AH) : rn E d 49 0 [some (vR (some t)), some (vI x1_), some (vI x2_)] [] h =
    cI (cal E d 27 [vI x1_] h) th fun v1 h =>
    if v1 = 0 then rn E d 49 16 [some (vR (some t)), some (vI x1_), some (vI x2_)] [] h else
    gd (h.kd t == 1) (cI (cal E d 48 [vR (some t), vI x1_, vI x2_] h) th fun v2 h =>
    rn E d 49 17 [some (vR (some t)), some (vI x1_), some (vI x2_)] [vI v2] h) := rn_b (b := b49_0) rfl
theorem e49_16 (E : EV) (d : Nat) (t : Nat) (x1_ : Int32) (x2_ : Int32) (h : AH) : rn E d 49 16 [some (vR (some t)), some (vI x1_), some (vI x2_)] [] h =
    rn E d 49 17 [some (vR (some t)), some (vI x1_), some (vI x2_)] [vI (-1)] h := rn_b (b := b49_16) rfl
theorem e49_17 (E : EV) (d : Nat) (t : Nat) (x1_ : Int32) (x2_ : Int32) (s0_ : Int32) (h : AH) : rn E d 49 17 [some (vR (some t)), some (vI x1_), some (vI x2_)] [vI s0_] h =
    some (Sum.inl (some (vI s0_)), h) := rn_b (b := b49_17) rfl
/-! 50 FastPlane.partAt(I)LFastPlane$Part; -/
theorem c50 (E : EV) (d : Nat) (t : Nat) (x1_ : Int32) (h : AH) : cal E (d + 1) 50 [vR (some t), vI x1_] h = rn E d 50 0 [some (vR (some t)), some (vI x1_)] [] h := cal_rn rfl rfl
theorem e50_0 (E : EV) (d : Nat) (t : Nat) (x1_ : Int32) (h : AH) : rn E d 50 0 [some (vR (some t)), some (vI x1_)] [] h =
    if x1_ < 0 then rn E d 50 35 [some (vR (some t)), some (vI x1_)] [] h else
    gd (h.kd t == 1) (nn (h.R t 4) fun a1 =>
    gd (h.kd a1 == 2) (gd (rcO 76 [vR (h.R a1 34)] h) (cI (cal E d 268 [vR (h.R a1 34)] h) th fun v2 h =>
    if v2 ≤ x1_ then rn E d 50 35 [some (vR (some t)), some (vI x1_)] [] h else
    gd (h.kd t == 1) (nn (h.R t 4) fun a3 =>
    gd (h.kd a3 == 2) (gd (rcO 82 [vR (h.R a3 34), vI x1_] h) (cR (cal E d 264 [vR (h.R a3 34), vI x1_] h) th fun r4 h =>
    gd (okC 51 h r4) (rn E d 50 36 [some (vR (some t)), some (vI x1_)] [vR r4] h))))))) := rn_b (b := b50_0) rfl
theorem e50_35 (E : EV) (d : Nat) (t : Nat) (x1_ : Int32) (h : AH) : rn E d 50 35 [some (vR (some t)), some (vI x1_)] [] h =
    rn E d 50 36 [some (vR (some t)), some (vI x1_)] [vR none] h := rn_b (b := b50_35) rfl
theorem e50_36 (E : EV) (d : Nat) (t : Nat) (x1_ : Int32) (s0_ : Option Nat) (h : AH) : rn E d 50 36 [some (vR (some t)), some (vI x1_)] [vR s0_] h =
    some (Sum.inl (some (vR s0_)), h) := rn_b (b := b50_36) rfl
/-! 51 FastPlane.pays(III)I -/
theorem c51 (E : EV) (d : Nat) (t : Nat) (x1_ : Int32) (x2_ : Int32) (x3_ : Int32) (h : AH) : cal E (d + 1) 51 [vR (some t), vI x1_, vI x2_, vI x3_] h = rn E d 51 0 [some (vR (some t)), some (vI x1_), some (vI x2_), some (vI x3_), none, none, none, none] [] h := cal_rn rfl rfl
theorem e51_0 (E : EV) (d : Nat) (t : Nat) (x1_ : Int32) (x2_ : Int32) (x3_ : Int32) (o4_ : Option AV) (o5_ : Option AV) (o6_ : Option AV) (o7_ : Option AV) (h : AH) : rn E d 51 0 [some (vR (some t)), some (vI x1_), some (vI x2_), some (vI x3_), o4_, o5_, o6_, o7_] [] h =
    cI (cal E d 26 [vI x1_, vI 0, vI 1] h) th fun v1 h =>
    if v1 = 0 then rn E d 51 16 [some (vR (some t)), some (vI x1_), some (vI x2_), some (vI x3_), o4_, o5_, o6_, o7_] [] h else
    cI (cal E d 30 [vI x2_] h) th fun v2 h =>
    if v2 = 0 then
    rn E d 51 16 [some (vR (some t)), some (vI x1_), some (vI x2_), some (vI x3_), o4_, o5_, o6_, o7_] [] h
    else rn E d 51 18 [some (vR (some t)), some (vI x1_), some (vI x2_), some (vI x3_), o4_, o5_, o6_, o7_] [] h := rn_b (b := b51_0) rfl
theorem e51_16 (E : EV) (d : Nat) (t : Nat) (x1_ : Int32) (x2_ : Int32) (x3_ : Int32) (o4_ : Option AV) (o5_ : Option AV) (o6_ : Option AV) (o7_ : Option AV) (h : AH) : rn E d 51 16 [some (vR (some t)), some (vI x1_), some (vI x2_), some (vI x3_), o4_, o5_, o6_, o7_] [] h =
    some (Sum.inl (some (vI (-1))), h) := rn_b (b := b51_16) rfl
theorem e51_18 (E : EV) (d : Nat) (t : Nat) (x1_ : Int32) (x2_ : Int32) (x3_ : Int32) (o4_ : Option AV) (o5_ : Option AV) (o6_ : Option AV) (o7_ : Option AV) (h : AH) : rn E d 51 18 [some (vR (some t)), some (vI x1_), some (vI x2_), some (vI x3_), o4_, o5_, o6_, o7_] [] h =
    gd (h.kd t == 1) (cV (cal E d 31 [vR (some t), vI x3_] h) th fun h =>
    rn E d 51 29 [some (vR (some t)), some (vI x1_), some (vI x2_), some (vI x3_), some (vI 0), some (vI 0), o6_, o7_] [] h) := rn_b (b := b51_18) rfl
theorem e51_29 (E : EV) (d : Nat) (t : Nat) (x1_ : Int32) (x2_ : Int32) (x3_ : Int32) (x4_ : Int32) (x5_ : Int32) (o6_ : Option AV) (o7_ : Option AV) (h : AH) : rn E d 51 29 [some (vR (some t)), some (vI x1_), some (vI x2_), some (vI x3_), some (vI x4_), some (vI x5_), o6_, o7_] [] h =
    gd (h.kd t == 1) (nn (h.R t 4) fun a1 =>
    gd (h.kd a1 == 2) (gd (rcO 76 [vR (h.R a1 34)] h) (cI (cal E d 268 [vR (h.R a1 34)] h) th fun v2 h =>
    if v2 ≤ x5_ then rn E d 51 164 [some (vR (some t)), some (vI x1_), some (vI x2_), some (vI x3_), some (vI x4_), some (vI x5_), o6_, o7_] [] h else
    gd (h.kd t == 1) (nn (h.R t 4) fun a3 =>
    gd (h.kd a3 == 2) (gd (rcO 82 [vR (h.R a3 34), vI x5_] h) (cR (cal E d 264 [vR (h.R a3 34), vI x5_] h) th fun r4 h =>
    gd (okC 51 h r4) (gd (h.kd t == 1) (nn (h.R t 16) fun a5 =>
    gd (h.kd a5 == 101 && inb x5_ (h.ln a5)) (if (h.I a5 x5_.toNatClampNeg) = 1000000 then
    rn E d 51 158 [some (vR (some t)), some (vI x1_), some (vI x2_), some (vI x3_), some (vI x4_), some (vI x5_), some (vR r4), o7_] [] h
    else rn E d 51 77 [some (vR (some t)), some (vI x1_), some (vI x2_), some (vI x3_), some (vI x4_), some (vI x5_), some (vR r4), o7_] [] h))))))))) := rn_b (b := b51_29) rfl
theorem e51_77 (E : EV) (d : Nat) (t : Nat) (x1_ : Int32) (x2_ : Int32) (x3_ : Int32) (x4_ : Int32) (x5_ : Int32) (r6_ : Option Nat) (o7_ : Option AV) (h : AH) : rn E d 51 77 [some (vR (some t)), some (vI x1_), some (vI x2_), some (vI x3_), some (vI x4_), some (vI x5_), some (vR r6_), o7_] [] h =
    gd (h.kd t == 1) (nn r6_ fun a1 =>
    gd (h.kd a1 == 9 || h.kd a1 == 10) (nn (h.R t 10) fun a2 =>
    gd (h.kd a2 == 101 && inb 0 (h.ln a2) && decide (E.bs ≤ a2)) (hs (h.setI a2 (0 : Int32).toNatClampNeg (h.I a1 75)) fun h =>
    gd (h.kd t == 1) (nn r6_ fun a3 =>
    gd (h.kd a3 == 9 || h.kd a3 == 10) (nn (h.R t 10) fun a4 =>
    gd (h.kd a4 == 101 && inb 1 (h.ln a4) && decide (E.bs ≤ a4)) (hs (h.setI a4 (1 : Int32).toNatClampNeg (h.I a3 78)) fun h =>
    gd (h.kd t == 1) (gd (h.kd t == 1) (nn (h.R t 16) fun a5 =>
    gd (h.kd a5 == 101 && inb x5_ (h.ln a5)) (nn (h.R t 10) fun a6 =>
    gd (h.kd a6 == 101 && inb 2 (h.ln a6) && decide (E.bs ≤ a6)) (hs (h.setI a6 (2 : Int32).toNatClampNeg (h.I a5 x5_.toNatClampNeg)) fun h =>
    nn r6_ fun a7 =>
    gd (h.kd a7 == 9 || h.kd a7 == 10) (gd (h.kd t == 1) (nn (h.R t 5) fun a8 =>
    gd (decide (105 ≤ h.kd a8) && inb x2_ (h.ln a8)) (gd (h.kd t == 1) (gd (rcO 119 [vR (h.R a8 x2_.toNatClampNeg), vR (h.R t 10)] h) (hs (h.I a7 78) fun y10 =>
    cI (cal E d 103 [vR (h.R a8 x2_.toNatClampNeg), vR (h.R t 10)] h) th fun v9 h =>
    gd (!decide ((100 : Int32) = 0)) (hs ((y10 * v9) / 100) fun x11 =>
    if x1_ = 0 then
    rn E d 51 155 [some (vR (some t)), some (vI x1_), some (vI x2_), some (vI x3_), some (vI x4_), some (vI x5_), some (vR r6_), some (vI x11)] [vI x11, vI x4_] h
    else rn E d 51 147 [some (vR (some t)), some (vI x1_), some (vI x2_), some (vI x3_), some (vI x4_), some (vI x5_), some (vR r6_), some (vI x11)] [vI x4_] h)))))))))))))))) := rn_b (b := b51_77) rfl
theorem e51_147 (E : EV) (d : Nat) (t : Nat) (x1_ : Int32) (x2_ : Int32) (x3_ : Int32) (x4_ : Int32) (x5_ : Int32) (r6_ : Option Nat) (x7_ : Int32) (s0_ : Int32) (h : AH) : rn E d 51 147 [some (vR (some t)), some (vI x1_), some (vI x2_), some (vI x3_), some (vI x4_), some (vI x5_), some (vR r6_), some (vI x7_)] [vI s0_] h =
    nn r6_ fun a1 =>
    gd (h.kd a1 == 9 || h.kd a1 == 10) (rn E d 51 155 [some (vR (some t)), some (vI x1_), some (vI x2_), some (vI x3_), some (vI x4_), some (vI x5_), some (vR r6_), some (vI x7_)] [vI ((h.I a1 78) - x7_), vI s0_] h) := rn_b (b := b51_147) rfl
theorem e51_155 (E : EV) (d : Nat) (t : Nat) (x1_ : Int32) (x2_ : Int32) (x3_ : Int32) (x4_ : Int32) (x5_ : Int32) (r6_ : Option Nat) (x7_ : Int32) (s0_ : Int32) (s1_ : Int32) (h : AH) : rn E d 51 155 [some (vR (some t)), some (vI x1_), some (vI x2_), some (vI x3_), some (vI x4_), some (vI x5_), some (vR r6_), some (vI x7_)] [vI s1_, vI s0_] h =
    hs (s0_ + s1_) fun x1 =>
    rn E d 51 158 [some (vR (some t)), some (vI x1_), some (vI x2_), some (vI x3_), some (vI x1), some (vI x5_), some (vR r6_), some (vI x7_)] [] h := rn_b (b := b51_155) rfl
theorem e51_158 (E : EV) (d : Nat) (t : Nat) (x1_ : Int32) (x2_ : Int32) (x3_ : Int32) (x4_ : Int32) (x5_ : Int32) (r6_ : Option Nat) (o7_ : Option AV) (h : AH) : rn E d 51 158 [some (vR (some t)), some (vI x1_), some (vI x2_), some (vI x3_), some (vI x4_), some (vI x5_), some (vR r6_), o7_] [] h =
    hs (x5_ + 1) fun x1 =>
    rn E d 51 29 [some (vR (some t)), some (vI x1_), some (vI x2_), some (vI x3_), some (vI x4_), some (vI x1), some (vR r6_), o7_] [] h := rn_b (b := b51_158) rfl
theorem e51_164 (E : EV) (d : Nat) (t : Nat) (x1_ : Int32) (x2_ : Int32) (x3_ : Int32) (x4_ : Int32) (x5_ : Int32) (o6_ : Option AV) (o7_ : Option AV) (h : AH) : rn E d 51 164 [some (vR (some t)), some (vI x1_), some (vI x2_), some (vI x3_), some (vI x4_), some (vI x5_), o6_, o7_] [] h =
    some (Sum.inl (some (vI x4_)), h) := rn_b (b := b51_164) rfl
/-! 52 FastPlane.plan(III)I -/
theorem c52 (E : EV) (d : Nat) (t : Nat) (x1_ : Int32) (x2_ : Int32) (x3_ : Int32) (h : AH) : cal E (d + 1) 52 [vR (some t), vI x1_, vI x2_, vI x3_] h = rn E d 52 0 [some (vR (some t)), some (vI x1_), some (vI x2_), some (vI x3_), none] [] h := cal_rn rfl rfl
theorem e52_0 (E : EV) (d : Nat) (t : Nat) (x1_ : Int32) (x2_ : Int32) (x3_ : Int32) (o4_ : Option AV) (h : AH) : rn E d 52 0 [some (vR (some t)), some (vI x1_), some (vI x2_), some (vI x3_), o4_] [] h =
    gd (h.kd t == 1) (cI (cal E d 9 [vR (some t), vI x1_, vI x2_, vI x3_] h) th fun v1 h =>
    if v1 = 0 then rn E d 52 20 [some (vR (some t)), some (vI x1_), some (vI x2_), some (vI x3_), o4_] [] h else
    gd (h.kd t == 1) (cI (cal E d 20 [vR (some t), vI x1_, vI x2_, vI x3_] h) th fun v2 h =>
    rn E d 52 23 [some (vR (some t)), some (vI x1_), some (vI x2_), some (vI x3_), o4_] [vI v2] h)) := rn_b (b := b52_0) rfl
theorem e52_20 (E : EV) (d : Nat) (t : Nat) (x1_ : Int32) (x2_ : Int32) (x3_ : Int32) (o4_ : Option AV) (h : AH) : rn E d 52 20 [some (vR (some t)), some (vI x1_), some (vI x2_), some (vI x3_), o4_] [] h =
    rn E d 52 23 [some (vR (some t)), some (vI x1_), some (vI x2_), some (vI x3_), o4_] [vI 1000000] h := rn_b (b := b52_20) rfl
theorem e52_23 (E : EV) (d : Nat) (t : Nat) (x1_ : Int32) (x2_ : Int32) (x3_ : Int32) (o4_ : Option AV) (s0_ : Int32) (h : AH) : rn E d 52 23 [some (vR (some t)), some (vI x1_), some (vI x2_), some (vI x3_), o4_] [vI s0_] h =
    if s0_ = 1000000 then
    rn E d 52 39 [some (vR (some t)), some (vI x1_), some (vI x2_), some (vI x3_), some (vI s0_)] [vI (-1)] h
    else rn E d 52 37 [some (vR (some t)), some (vI x1_), some (vI x2_), some (vI x3_), some (vI s0_)] [] h := rn_b (b := b52_23) rfl
theorem e52_37 (E : EV) (d : Nat) (t : Nat) (x1_ : Int32) (x2_ : Int32) (x3_ : Int32) (x4_ : Int32) (h : AH) : rn E d 52 37 [some (vR (some t)), some (vI x1_), some (vI x2_), some (vI x3_), some (vI x4_)] [] h =
    rn E d 52 39 [some (vR (some t)), some (vI x1_), some (vI x2_), some (vI x3_), some (vI x4_)] [vI x4_] h := rn_b (b := b52_37) rfl
theorem e52_39 (E : EV) (d : Nat) (t : Nat) (x1_ : Int32) (x2_ : Int32) (x3_ : Int32) (x4_ : Int32) (s0_ : Int32) (h : AH) : rn E d 52 39 [some (vR (some t)), some (vI x1_), some (vI x2_), some (vI x3_), some (vI x4_)] [vI s0_] h =
    some (Sum.inl (some (vI s0_)), h) := rn_b (b := b52_39) rfl
/-! 53 FastPlane.pump(I)Z -/
theorem c53 (E : EV) (d : Nat) (t : Nat) (x1_ : Int32) (h : AH) : cal E (d + 1) 53 [vR (some t), vI x1_] h = rn E d 53 0 [some (vR (some t)), some (vI x1_)] [] h := cal_rn rfl rfl
theorem e53_0 (E : EV) (d : Nat) (t : Nat) (x1_ : Int32) (h : AH) : rn E d 53 0 [some (vR (some t)), some (vI x1_)] [] h =
    cI (cal E d 26 [vI x1_, vI 0, vI 3] h) th fun v1 h =>
    if v1 = 0 then
    some (Sum.inl (some (vI 0)), h)
    else rn E d 53 11 [some (vR (some t)), some (vI x1_)] [] h := rn_b (b := b53_0) rfl
theorem e53_11 (E : EV) (d : Nat) (t : Nat) (x1_ : Int32) (h : AH) : rn E d 53 11 [some (vR (some t)), some (vI x1_)] [] h =
    gd ((h.kd t == 1) && decide (E.bs ≤ t) && true) (hs (h.setI t 8 x1_) fun h =>
    some (Sum.inl (some (vI 1)), h)) := rn_b (b := b53_11) rfl
/-! 54 FastPlane.purse(II)I -/
theorem c54 (E : EV) (d : Nat) (x0_ : Int32) (x1_ : Int32) (h : AH) : cal E (d + 1) 54 [vI x0_, vI x1_] h = rn E d 54 0 [some (vI x0_), some (vI x1_)] [] h := cal_rn rfl rfl
theorem e54_0 (E : EV) (d : Nat) (x0_ : Int32) (x1_ : Int32) (h : AH) : rn E d 54 0 [some (vI x0_), some (vI x1_)] [] h =
    some (Sum.inl (some (vI ((31 * x0_) + x1_))), h) := rn_b (b := b54_0) rfl
/-! 55 FastPlane.read(LFastPlane$Wrong;)V -/
theorem c55 (E : EV) (d : Nat) (t : Nat) (x1_ : Option Nat) (h : AH) : cal E (d + 1) 55 [vR (some t), vR x1_] h = rn E d 55 0 [some (vR (some t)), some (vR x1_)] [] h := cal_rn rfl rfl
theorem e55_0 (E : EV) (d : Nat) (t : Nat) (r1_ : Option Nat) (h : AH) : rn E d 55 0 [some (vR (some t)), some (vR r1_)] [] h =
    if r1_ = none then
    rn E d 55 13 [some (vR (some t)), some (vR r1_)] [vI 0, vR (some t)] h
    else rn E d 55 9 [some (vR (some t)), some (vR r1_)] [vR (some t)] h := rn_b (b := b55_0) rfl
theorem e55_9 (E : EV) (d : Nat) (t : Nat) (r1_ : Option Nat) (s0_ : Option Nat) (h : AH) : rn E d 55 9 [some (vR (some t)), some (vR r1_)] [vR s0_] h =
    nn r1_ fun a1 =>
    gd (h.kd a1 == 8) (rn E d 55 13 [some (vR (some t)), some (vR r1_)] [vI (h.I a1 71), vR s0_] h) := rn_b (b := b55_9) rfl
theorem e55_13 (E : EV) (d : Nat) (t : Nat) (r1_ : Option Nat) (s0_ : Option Nat) (s1_ : Int32) (h : AH) : rn E d 55 13 [some (vR (some t)), some (vR r1_)] [vI s1_, vR s0_] h =
    nn s0_ fun a1 =>
    gd ((h.kd a1 == 1) && decide (E.bs ≤ a1) && true) (hs (h.setI a1 2 s1_) fun h =>
    if r1_ = none then
    rn E d 55 29 [some (vR (some t)), some (vR r1_)] [vI (-1), vR (some t)] h
    else rn E d 55 25 [some (vR (some t)), some (vR r1_)] [vR (some t)] h) := rn_b (b := b55_13) rfl
theorem e55_25 (E : EV) (d : Nat) (t : Nat) (r1_ : Option Nat) (s0_ : Option Nat) (h : AH) : rn E d 55 25 [some (vR (some t)), some (vR r1_)] [vR s0_] h =
    nn r1_ fun a1 =>
    gd (h.kd a1 == 8) (rn E d 55 29 [some (vR (some t)), some (vR r1_)] [vI (h.I a1 72), vR s0_] h) := rn_b (b := b55_25) rfl
theorem e55_29 (E : EV) (d : Nat) (t : Nat) (r1_ : Option Nat) (s0_ : Option Nat) (s1_ : Int32) (h : AH) : rn E d 55 29 [some (vR (some t)), some (vR r1_)] [vI s1_, vR s0_] h =
    nn s0_ fun a1 =>
    gd ((h.kd a1 == 1) && decide (E.bs ≤ a1) && true) (hs (h.setI a1 3 s1_) fun h =>
    gd ((h.kd t == 1) && decide (E.bs ≤ t) && true) (hs (h.setI t 1 0) fun h =>
    some (Sum.inl none, h))) := rn_b (b := b55_29) rfl
/-! 56 FastPlane.safe(III)I -/
theorem c56 (E : EV) (d : Nat) (t : Nat) (x1_ : Int32) (x2_ : Int32) (x3_ : Int32) (h : AH) : cal E (d + 1) 56 [vR (some t), vI x1_, vI x2_, vI x3_] h = rn E d 56 0 [some (vR (some t)), some (vI x1_), some (vI x2_), some (vI x3_)] [] h := cal_rn rfl rfl
theorem e56_0 (E : EV) (d : Nat) (t : Nat) (x1_ : Int32) (x2_ : Int32) (x3_ : Int32) (h : AH) : rn E d 56 0 [some (vR (some t)), some (vI x1_), some (vI x2_), some (vI x3_)] [] h =
    cI (cal E d 3 [vI x1_, vI x2_] h) th fun v1 h =>
    if v1 = 0 then rn E d 56 18 [some (vR (some t)), some (vI x1_), some (vI x2_), some (vI x3_)] [] h else
    cI (cal E d 26 [vI x3_, vI 0, vI 6] h) th fun v2 h =>
    if v2 = 0 then
    rn E d 56 18 [some (vR (some t)), some (vI x1_), some (vI x2_), some (vI x3_)] [] h
    else rn E d 56 20 [some (vR (some t)), some (vI x1_), some (vI x2_), some (vI x3_)] [] h := rn_b (b := b56_0) rfl
theorem e56_18 (E : EV) (d : Nat) (t : Nat) (x1_ : Int32) (x2_ : Int32) (x3_ : Int32) (h : AH) : rn E d 56 18 [some (vR (some t)), some (vI x1_), some (vI x2_), some (vI x3_)] [] h =
    some (Sum.inl (some (vI (-1))), h) := rn_b (b := b56_18) rfl
theorem e56_20 (E : EV) (d : Nat) (t : Nat) (x1_ : Int32) (x2_ : Int32) (x3_ : Int32) (h : AH) : rn E d 56 20 [some (vR (some t)), some (vI x1_), some (vI x2_), some (vI x3_)] [] h =
    gd (h.kd t == 1) (cV (cal E d 57 [vR (some t)] h) th fun h =>
    gd (h.kd t == 1) (nn (h.R t 33) fun a1 =>
    gd (decide (105 ≤ h.kd a1) && inb 0 (h.ln a1)) (gd (h.kd t == 1) (nn (h.R a1 (0 : Int32).toNatClampNeg) fun a2 =>
    gd (decide (105 ≤ h.kd a2) && inb (h.I t 32) (h.ln a2)) (nn (h.R a2 (h.I t 32).toNatClampNeg) fun a3 =>
    gd (decide (105 ≤ h.kd a3) && inb x3_ (h.ln a3)) (hs (h.R a3 x3_.toNatClampNeg) fun q5 =>
    cI (cal E d 54 [vI x1_, vI x2_] h) th fun v4 h =>
    nn q5 fun a6 =>
    gd ((h.kd a6 == 102 || h.kd a6 == 103) && inb v4 (h.ln a6)) (if (h.I a6 v4.toNatClampNeg) = 0 then rn E d 56 50 [some (vR (some t)), some (vI x1_), some (vI x2_), some (vI x3_)] [] h else
    rn E d 56 51 [some (vR (some t)), some (vI x1_), some (vI x2_), some (vI x3_)] [vI 1] h))))))) := rn_b (b := b56_20) rfl
theorem e56_50 (E : EV) (d : Nat) (t : Nat) (x1_ : Int32) (x2_ : Int32) (x3_ : Int32) (h : AH) : rn E d 56 50 [some (vR (some t)), some (vI x1_), some (vI x2_), some (vI x3_)] [] h =
    rn E d 56 51 [some (vR (some t)), some (vI x1_), some (vI x2_), some (vI x3_)] [vI 0] h := rn_b (b := b56_50) rfl
theorem e56_51 (E : EV) (d : Nat) (t : Nat) (x1_ : Int32) (x2_ : Int32) (x3_ : Int32) (s0_ : Int32) (h : AH) : rn E d 56 51 [some (vR (some t)), some (vI x1_), some (vI x2_), some (vI x3_)] [vI s0_] h =
    some (Sum.inl (some (vI s0_)), h) := rn_b (b := b56_51) rfl
/-! 57 FastPlane.secure()V -/
theorem c57 (E : EV) (d : Nat) (t : Nat) (h : AH) : cal E (d + 1) 57 [vR (some t)] h = rn E d 57 0 [some (vR (some t)), none, none, none, none, none] [] h := cal_rn rfl rfl
theorem e57_0 (E : EV) (d : Nat) (t : Nat) (o1_ : Option AV) (o2_ : Option AV) (o3_ : Option AV) (o4_ : Option AV) (o5_ : Option AV) (h : AH) : rn E d 57 0 [some (vR (some t)), o1_, o2_, o3_, o4_, o5_] [] h =
    gd (h.kd t == 1) (hs (h.I t 30) fun x1 =>
    rn E d 57 5 [some (vR (some t)), some (vI x1), o2_, o3_, o4_, o5_] [] h) := rn_b (b := b57_0) rfl
theorem e57_5 (E : EV) (d : Nat) (t : Nat) (x1_ : Int32) (o2_ : Option AV) (o3_ : Option AV) (o4_ : Option AV) (o5_ : Option AV) (h : AH) : rn E d 57 5 [some (vR (some t)), some (vI x1_), o2_, o3_, o4_, o5_] [] h =
    if x1_ < 0 then rn E d 57 136 [some (vR (some t)), some (vI x1_), o2_, o3_, o4_, o5_] [] h else
    rn E d 57 11 [some (vR (some t)), some (vI x1_), some (vI 0), o3_, o4_, o5_] [] h := rn_b (b := b57_5) rfl
theorem e57_11 (E : EV) (d : Nat) (t : Nat) (x1_ : Int32) (x2_ : Int32) (o3_ : Option AV) (o4_ : Option AV) (o5_ : Option AV) (h : AH) : rn E d 57 11 [some (vR (some t)), some (vI x1_), some (vI x2_), o3_, o4_, o5_] [] h =
    gd (h.kd t == 1) (if (h.I t 32) < x2_ then rn E d 57 130 [some (vR (some t)), some (vI x1_), some (vI x2_), o3_, o4_, o5_] [] h else
    rn E d 57 21 [some (vR (some t)), some (vI x1_), some (vI x2_), some (vI 0), o4_, o5_] [] h) := rn_b (b := b57_11) rfl
theorem e57_21 (E : EV) (d : Nat) (t : Nat) (x1_ : Int32) (x2_ : Int32) (x3_ : Int32) (o4_ : Option AV) (o5_ : Option AV) (h : AH) : rn E d 57 21 [some (vR (some t)), some (vI x1_), some (vI x2_), some (vI x3_), o4_, o5_] [] h =
    if 6 < x3_ then rn E d 57 124 [some (vR (some t)), some (vI x1_), some (vI x2_), some (vI x3_), o4_, o5_] [] h else
    rn E d 57 30 [some (vR (some t)), some (vI x1_), some (vI x2_), some (vI x3_), some (vI 0), o5_] [] h := rn_b (b := b57_21) rfl
theorem e57_30 (E : EV) (d : Nat) (t : Nat) (x1_ : Int32) (x2_ : Int32) (x3_ : Int32) (x4_ : Int32) (o5_ : Option AV) (h : AH) : rn E d 57 30 [some (vR (some t)), some (vI x1_), some (vI x2_), some (vI x3_), some (vI x4_), o5_] [] h =
    if 30 < x4_ then rn E d 57 118 [some (vR (some t)), some (vI x1_), some (vI x2_), some (vI x3_), some (vI x4_), o5_] [] h else
    rn E d 57 40 [some (vR (some t)), some (vI x1_), some (vI x2_), some (vI x3_), some (vI x4_), some (vI 0)] [] h := rn_b (b := b57_30) rfl
theorem e57_40 (E : EV) (d : Nat) (t : Nat) (x1_ : Int32) (x2_ : Int32) (x3_ : Int32) (x4_ : Int32) (x5_ : Int32) (h : AH) : rn E d 57 40 [some (vR (some t)), some (vI x1_), some (vI x2_), some (vI x3_), some (vI x4_), some (vI x5_)] [] h =
    if 30 < x5_ then rn E d 57 112 [some (vR (some t)), some (vI x1_), some (vI x2_), some (vI x3_), some (vI x4_), some (vI x5_)] [] h else
    gd (h.kd t == 1) (nn (h.R t 33) fun a1 =>
    gd (decide (105 ≤ h.kd a1) && inb x1_ (h.ln a1)) (nn (h.R a1 x1_.toNatClampNeg) fun a2 =>
    gd (decide (105 ≤ h.kd a2) && inb x2_ (h.ln a2)) (nn (h.R a2 x2_.toNatClampNeg) fun a3 =>
    gd (decide (105 ≤ h.kd a3) && inb x3_ (h.ln a3)) (hs (h.R a3 x3_.toNatClampNeg) fun q5 =>
    cI (cal E d 54 [vI x4_, vI x5_] h) th fun v4 h =>
    gd (h.kd t == 1) (if x1_ = (h.I t 30) then rn E d 57 100 [some (vR (some t)), some (vI x1_), some (vI x2_), some (vI x3_), some (vI x4_), some (vI x5_)] [vI v4, vR q5] h else
    gd (h.kd t == 1) (cI (cal E d 8 [vR (some t), vI x1_, vI x2_, vI x3_, vI x4_, vI x5_] h) th fun v6 h =>
    if v6 = 0 then
    gd (h.kd t == 1) (cI (cal E d 10 [vR (some t), vI x1_, vI x2_, vI x3_, vI x4_, vI x5_] h) th fun v7 h =>
    if v7 = 0 then rn E d 57 104 [some (vR (some t)), some (vI x1_), some (vI x2_), some (vI x3_), some (vI x4_), some (vI x5_)] [vI v4, vR q5] h else
    rn E d 57 100 [some (vR (some t)), some (vI x1_), some (vI x2_), some (vI x3_), some (vI x4_), some (vI x5_)] [vI v4, vR q5] h)
    else rn E d 57 100 [some (vR (some t)), some (vI x1_), some (vI x2_), some (vI x3_), some (vI x4_), some (vI x5_)] [vI v4, vR q5] h)))))) := rn_b (b := b57_40) rfl
theorem e57_100 (E : EV) (d : Nat) (t : Nat) (x1_ : Int32) (x2_ : Int32) (x3_ : Int32) (x4_ : Int32) (x5_ : Int32) (s0_ : Option Nat) (s1_ : Int32) (h : AH) : rn E d 57 100 [some (vR (some t)), some (vI x1_), some (vI x2_), some (vI x3_), some (vI x4_), some (vI x5_)] [vI s1_, vR s0_] h =
    rn E d 57 105 [some (vR (some t)), some (vI x1_), some (vI x2_), some (vI x3_), some (vI x4_), some (vI x5_)] [vI 1, vI s1_, vR s0_] h := rn_b (b := b57_100) rfl
theorem e57_104 (E : EV) (d : Nat) (t : Nat) (x1_ : Int32) (x2_ : Int32) (x3_ : Int32) (x4_ : Int32) (x5_ : Int32) (s0_ : Option Nat) (s1_ : Int32) (h : AH) : rn E d 57 104 [some (vR (some t)), some (vI x1_), some (vI x2_), some (vI x3_), some (vI x4_), some (vI x5_)] [vI s1_, vR s0_] h =
    rn E d 57 105 [some (vR (some t)), some (vI x1_), some (vI x2_), some (vI x3_), some (vI x4_), some (vI x5_)] [vI 0, vI s1_, vR s0_] h := rn_b (b := b57_104) rfl
theorem e57_105 (E : EV) (d : Nat) (t : Nat) (x1_ : Int32) (x2_ : Int32) (x3_ : Int32) (x4_ : Int32) (x5_ : Int32) (s0_ : Option Nat) (s1_ : Int32) (s2_ : Int32) (h : AH) : rn E d 57 105 [some (vR (some t)), some (vI x1_), some (vI x2_), some (vI x3_), some (vI x4_), some (vI x5_)] [vI s2_, vI s1_, vR s0_] h =
    nn s0_ fun a1 =>
    gd ((h.kd a1 == 102 || h.kd a1 == 103) && inb s1_ (h.ln a1) && decide (E.bs ≤ a1)) (hs (h.setI a1 s1_.toNatClampNeg (if h.kd a1 = 102 then s2_.toInt8.toInt32 else s2_ &&& 1)) fun h =>
    hs (x5_ + 1) fun x2 =>
    rn E d 57 40 [some (vR (some t)), some (vI x1_), some (vI x2_), some (vI x3_), some (vI x4_), some (vI x2)] [] h) := rn_b (b := b57_105) rfl
theorem e57_112 (E : EV) (d : Nat) (t : Nat) (x1_ : Int32) (x2_ : Int32) (x3_ : Int32) (x4_ : Int32) (x5_ : Int32) (h : AH) : rn E d 57 112 [some (vR (some t)), some (vI x1_), some (vI x2_), some (vI x3_), some (vI x4_), some (vI x5_)] [] h =
    hs (x4_ + 1) fun x1 =>
    rn E d 57 30 [some (vR (some t)), some (vI x1_), some (vI x2_), some (vI x3_), some (vI x1), some (vI x5_)] [] h := rn_b (b := b57_112) rfl
theorem e57_118 (E : EV) (d : Nat) (t : Nat) (x1_ : Int32) (x2_ : Int32) (x3_ : Int32) (x4_ : Int32) (o5_ : Option AV) (h : AH) : rn E d 57 118 [some (vR (some t)), some (vI x1_), some (vI x2_), some (vI x3_), some (vI x4_), o5_] [] h =
    hs (x3_ + 1) fun x1 =>
    rn E d 57 21 [some (vR (some t)), some (vI x1_), some (vI x2_), some (vI x1), some (vI x4_), o5_] [] h := rn_b (b := b57_118) rfl
theorem e57_124 (E : EV) (d : Nat) (t : Nat) (x1_ : Int32) (x2_ : Int32) (x3_ : Int32) (o4_ : Option AV) (o5_ : Option AV) (h : AH) : rn E d 57 124 [some (vR (some t)), some (vI x1_), some (vI x2_), some (vI x3_), o4_, o5_] [] h =
    hs (x2_ + 1) fun x1 =>
    rn E d 57 11 [some (vR (some t)), some (vI x1_), some (vI x1), some (vI x3_), o4_, o5_] [] h := rn_b (b := b57_124) rfl
theorem e57_130 (E : EV) (d : Nat) (t : Nat) (x1_ : Int32) (x2_ : Int32) (o3_ : Option AV) (o4_ : Option AV) (o5_ : Option AV) (h : AH) : rn E d 57 130 [some (vR (some t)), some (vI x1_), some (vI x2_), o3_, o4_, o5_] [] h =
    hs (x1_ + (-1)) fun x1 =>
    rn E d 57 5 [some (vR (some t)), some (vI x1), some (vI x2_), o3_, o4_, o5_] [] h := rn_b (b := b57_130) rfl
theorem e57_136 (E : EV) (d : Nat) (t : Nat) (x1_ : Int32) (o2_ : Option AV) (o3_ : Option AV) (o4_ : Option AV) (o5_ : Option AV) (h : AH) : rn E d 57 136 [some (vR (some t)), some (vI x1_), o2_, o3_, o4_, o5_] [] h =
    some (Sum.inl none, h) := rn_b (b := b57_136) rfl
/-! 58 FastPlane.seekMend()V -/
theorem c58 (E : EV) (d : Nat) (t : Nat) (h : AH) : cal E (d + 1) 58 [vR (some t)] h = rn E d 58 0 [some (vR (some t)), none, none, none, none, none, none] [] h := cal_rn rfl rfl
theorem e58_0 (E : EV) (d : Nat) (t : Nat) (o1_ : Option AV) (o2_ : Option AV) (o3_ : Option AV) (o4_ : Option AV) (o5_ : Option AV) (o6_ : Option AV) (h : AH) : rn E d 58 0 [some (vR (some t)), o1_, o2_, o3_, o4_, o5_, o6_] [] h =
    gd ((h.kd t == 1) && decide (E.bs ≤ t) && true) (hs (h.setI t 13 (-1)) fun h =>
    gd (h.kd t == 1) (cI (cal E d 21 [vR (some t), vR none, vI 0] h) th fun v1 h =>
    gd ((h.kd t == 1) && decide (E.bs ≤ t) && true) (hs (h.setI t 15 v1) fun h =>
    rn E d 58 19 [some (vR (some t)), some (vI 0), some (vI 0), o3_, o4_, o5_, o6_] [] h))) := rn_b (b := b58_0) rfl
theorem e58_19 (E : EV) (d : Nat) (t : Nat) (x1_ : Int32) (x2_ : Int32) (o3_ : Option AV) (o4_ : Option AV) (o5_ : Option AV) (o6_ : Option AV) (h : AH) : rn E d 58 19 [some (vR (some t)), some (vI x1_), some (vI x2_), o3_, o4_, o5_, o6_] [] h =
    gd (h.kd t == 1) (nn (h.R t 4) fun a1 =>
    gd (h.kd a1 == 2) (gd (rcO 76 [vR (h.R a1 34)] h) (cI (cal E d 268 [vR (h.R a1 34)] h) th fun v2 h =>
    if v2 ≤ x2_ then rn E d 58 146 [some (vR (some t)), some (vI x1_), some (vI x2_), o3_, o4_, o5_, o6_] [] h else
    gd (h.kd t == 1) (nn (h.R t 4) fun a3 =>
    gd (h.kd a3 == 2) (gd (rcO 82 [vR (h.R a3 34), vI x2_] h) (cR (cal E d 264 [vR (h.R a3 34), vI x2_] h) th fun r4 h =>
    gd (okC 51 h r4) (rn E d 58 51 [some (vR (some t)), some (vI x1_), some (vI x2_), some (vR r4), some (vI 1), o5_, o6_] [] h))))))) := rn_b (b := b58_19) rfl
theorem e58_51 (E : EV) (d : Nat) (t : Nat) (x1_ : Int32) (x2_ : Int32) (r3_ : Option Nat) (x4_ : Int32) (o5_ : Option AV) (o6_ : Option AV) (h : AH) : rn E d 58 51 [some (vR (some t)), some (vI x1_), some (vI x2_), some (vR r3_), some (vI x4_), o5_, o6_] [] h =
    if 30000 < x4_ then rn E d 58 140 [some (vR (some t)), some (vI x1_), some (vI x2_), some (vR r3_), some (vI x4_), o5_, o6_] [] h else
    gd (h.kd t == 1) (cI (cal E d 21 [vR (some t), vR r3_, vI x4_] h) th fun v1 h =>
    nn r3_ fun a3 =>
    gd (h.kd a3 == 9 || h.kd a3 == 10) (cI (cal E d (if h.kd a3 = 9 then vt0_9 else vt0_10) [vR (some a3)] h) th fun v2 h =>
    cI (cal E d 293 [vI (x4_ - v2)] h) th fun v4 h =>
    gd (h.kd t == 1) (if v1 < (h.I t 15) then rn E d 58 134 [some (vR (some t)), some (vI x1_), some (vI x2_), some (vR r3_), some (vI x4_), some (vI v1), some (vI v4)] [] h else
    gd (h.kd t == 1) (if v1 = (h.I t 15) then
    gd (h.kd t == 1) (if (h.I t 13) < 0 then rn E d 58 134 [some (vR (some t)), some (vI x1_), some (vI x2_), some (vR r3_), some (vI x4_), some (vI v1), some (vI v4)] [] h else
    if v4 < x1_ then rn E d 58 114 [some (vR (some t)), some (vI x1_), some (vI x2_), some (vR r3_), some (vI x4_), some (vI v1), some (vI v4)] [] h else
    rn E d 58 134 [some (vR (some t)), some (vI x1_), some (vI x2_), some (vR r3_), some (vI x4_), some (vI v1), some (vI v4)] [] h)
    else rn E d 58 114 [some (vR (some t)), some (vI x1_), some (vI x2_), some (vR r3_), some (vI x4_), some (vI v1), some (vI v4)] [] h)))) := rn_b (b := b58_51) rfl
theorem e58_114 (E : EV) (d : Nat) (t : Nat) (x1_ : Int32) (x2_ : Int32) (r3_ : Option Nat) (x4_ : Int32) (x5_ : Int32) (x6_ : Int32) (h : AH) : rn E d 58 114 [some (vR (some t)), some (vI x1_), some (vI x2_), some (vR r3_), some (vI x4_), some (vI x5_), some (vI x6_)] [] h =
    gd ((h.kd t == 1) && decide (E.bs ≤ t) && true) (hs (h.setI t 13 x2_) fun h =>
    gd ((h.kd t == 1) && decide (E.bs ≤ t) && true) (hs (h.setI t 14 x4_) fun h =>
    gd ((h.kd t == 1) && decide (E.bs ≤ t) && true) (hs (h.setI t 15 x5_) fun h =>
    rn E d 58 134 [some (vR (some t)), some (vI x6_), some (vI x2_), some (vR r3_), some (vI x4_), some (vI x5_), some (vI x6_)] [] h))) := rn_b (b := b58_114) rfl
theorem e58_134 (E : EV) (d : Nat) (t : Nat) (x1_ : Int32) (x2_ : Int32) (r3_ : Option Nat) (x4_ : Int32) (x5_ : Int32) (x6_ : Int32) (h : AH) : rn E d 58 134 [some (vR (some t)), some (vI x1_), some (vI x2_), some (vR r3_), some (vI x4_), some (vI x5_), some (vI x6_)] [] h =
    hs (x4_ + 1) fun x1 =>
    rn E d 58 51 [some (vR (some t)), some (vI x1_), some (vI x2_), some (vR r3_), some (vI x1), some (vI x5_), some (vI x6_)] [] h := rn_b (b := b58_134) rfl
theorem e58_140 (E : EV) (d : Nat) (t : Nat) (x1_ : Int32) (x2_ : Int32) (r3_ : Option Nat) (x4_ : Int32) (o5_ : Option AV) (o6_ : Option AV) (h : AH) : rn E d 58 140 [some (vR (some t)), some (vI x1_), some (vI x2_), some (vR r3_), some (vI x4_), o5_, o6_] [] h =
    hs (x2_ + 1) fun x1 =>
    rn E d 58 19 [some (vR (some t)), some (vI x1_), some (vI x1), some (vR r3_), some (vI x4_), o5_, o6_] [] h := rn_b (b := b58_140) rfl
theorem e58_146 (E : EV) (d : Nat) (t : Nat) (x1_ : Int32) (x2_ : Int32) (o3_ : Option AV) (o4_ : Option AV) (o5_ : Option AV) (o6_ : Option AV) (h : AH) : rn E d 58 146 [some (vR (some t)), some (vI x1_), some (vI x2_), o3_, o4_, o5_, o6_] [] h =
    some (Sum.inl none, h) := rn_b (b := b58_146) rfl
/-! 59 FastPlane.shared(I)I -/
theorem c59 (E : EV) (d : Nat) (t : Nat) (x1_ : Int32) (h : AH) : cal E (d + 1) 59 [vR (some t), vI x1_] h = rn E d 59 0 [some (vR (some t)), some (vI x1_), none] [] h := cal_rn rfl rfl
theorem e59_0 (E : EV) (d : Nat) (t : Nat) (x1_ : Int32) (o2_ : Option AV) (h : AH) : rn E d 59 0 [some (vR (some t)), some (vI x1_), o2_] [] h =
    cI (cal E d 26 [vI x1_, vI 0, vI 100] h) th fun v1 h =>
    if v1 = 0 then
    some (Sum.inl (some (vI (-1))), h)
    else rn E d 59 12 [some (vR (some t)), some (vI x1_), o2_] [] h := rn_b (b := b59_0) rfl
theorem e59_12 (E : EV) (d : Nat) (t : Nat) (x1_ : Int32) (o2_ : Option AV) (h : AH) : rn E d 59 12 [some (vR (some t)), some (vI x1_), o2_] [] h =
    gd ((h.kd t == 1) && decide (E.bs ≤ t) && true) (hs (h.setI t 27 0) fun h =>
    rn E d 59 19 [some (vR (some t)), some (vI x1_), some (vI 0)] [] h) := rn_b (b := b59_12) rfl
theorem e59_19 (E : EV) (d : Nat) (t : Nat) (x1_ : Int32) (x2_ : Int32) (h : AH) : rn E d 59 19 [some (vR (some t)), some (vI x1_), some (vI x2_)] [] h =
    gd (h.kd t == 1) (nn (h.R t 4) fun a1 =>
    gd (h.kd a1 == 2) (gd (rcO 76 [vR (h.R a1 34)] h) (cI (cal E d 268 [vR (h.R a1 34)] h) th fun v2 h =>
    if v2 ≤ x2_ then rn E d 59 65 [some (vR (some t)), some (vI x1_), some (vI x2_)] [] h else
    gd (h.kd t == 1) (gd (h.kd t == 1) (nn (h.R t 4) fun a3 =>
    gd (h.kd a3 == 2) (gd (rcO 82 [vR (h.R a3 34), vI x2_] h) (hs (h.I t 27) fun y5 =>
    cR (cal E d 264 [vR (h.R a3 34), vI x2_] h) th fun r4 h =>
    gd (okC 51 h r4) (nn r4 fun a6 =>
    gd (h.kd a6 == 9 || h.kd a6 == 10) (gd ((h.kd t == 1) && decide (E.bs ≤ t) && true) (hs (h.setI t 27 (y5 + (h.I a6 78))) fun h =>
    hs (x2_ + 1) fun x7 =>
    rn E d 59 19 [some (vR (some t)), some (vI x1_), some (vI x7)] [] h)))))))))) := rn_b (b := b59_19) rfl
theorem e59_65 (E : EV) (d : Nat) (t : Nat) (x1_ : Int32) (x2_ : Int32) (h : AH) : rn E d 59 65 [some (vR (some t)), some (vI x1_), some (vI x2_)] [] h =
    gd ((h.kd t == 1) && decide (E.bs ≤ t) && true) (hs (h.setI t 26 (-1)) fun h =>
    gd (h.kd t == 1) (cV (cal E d 37 [vR (some t), vI 0, vI 0, vI 0, vI 0, vI x1_] h) th fun h =>
    gd (h.kd t == 1) (some (Sum.inl (some (vI (h.I t 26))), h)))) := rn_b (b := b59_65) rfl
/-! 60 FastPlane.should(III)I -/
theorem c60 (E : EV) (d : Nat) (t : Nat) (x1_ : Int32) (x2_ : Int32) (x3_ : Int32) (h : AH) : cal E (d + 1) 60 [vR (some t), vI x1_, vI x2_, vI x3_] h = rn E d 60 0 [some (vR (some t)), some (vI x1_), some (vI x2_), some (vI x3_)] [] h := cal_rn rfl rfl
theorem e60_0 (E : EV) (d : Nat) (t : Nat) (x1_ : Int32) (x2_ : Int32) (x3_ : Int32) (h : AH) : rn E d 60 0 [some (vR (some t)), some (vI x1_), some (vI x2_), some (vI x3_)] [] h =
    gd (h.kd t == 1) (cI (cal E d 56 [vR (some t), vI x1_, vI x2_, vI x3_] h) th fun v1 h =>
    if v1 = 1 then
    gd (h.kd t == 1) (if (h.I t 30) = 0 then
    rn E d 60 18 [some (vR (some t)), some (vI x1_), some (vI x2_), some (vI x3_)] [] h
    else rn E d 60 20 [some (vR (some t)), some (vI x1_), some (vI x2_), some (vI x3_)] [] h)
    else rn E d 60 18 [some (vR (some t)), some (vI x1_), some (vI x2_), some (vI x3_)] [] h) := rn_b (b := b60_0) rfl
theorem e60_18 (E : EV) (d : Nat) (t : Nat) (x1_ : Int32) (x2_ : Int32) (x3_ : Int32) (h : AH) : rn E d 60 18 [some (vR (some t)), some (vI x1_), some (vI x2_), some (vI x3_)] [] h =
    some (Sum.inl (some (vI (-1))), h) := rn_b (b := b60_18) rfl
theorem e60_20 (E : EV) (d : Nat) (t : Nat) (x1_ : Int32) (x2_ : Int32) (x3_ : Int32) (h : AH) : rn E d 60 20 [some (vR (some t)), some (vI x1_), some (vI x2_), some (vI x3_)] [] h =
    gd (h.kd t == 1) (gd (h.kd t == 1) (cI (cal E d 8 [vR (some t), vI 0, vI (h.I t 32), vI x3_, vI x1_, vI x2_] h) th fun v1 h =>
    if v1 = 0 then rn E d 60 39 [some (vR (some t)), some (vI x1_), some (vI x2_), some (vI x3_)] [] h else
    rn E d 60 40 [some (vR (some t)), some (vI x1_), some (vI x2_), some (vI x3_)] [vI 1] h)) := rn_b (b := b60_20) rfl
theorem e60_39 (E : EV) (d : Nat) (t : Nat) (x1_ : Int32) (x2_ : Int32) (x3_ : Int32) (h : AH) : rn E d 60 39 [some (vR (some t)), some (vI x1_), some (vI x2_), some (vI x3_)] [] h =
    rn E d 60 40 [some (vR (some t)), some (vI x1_), some (vI x2_), some (vI x3_)] [vI 0] h := rn_b (b := b60_39) rfl
theorem e60_40 (E : EV) (d : Nat) (t : Nat) (x1_ : Int32) (x2_ : Int32) (x3_ : Int32) (s0_ : Int32) (h : AH) : rn E d 60 40 [some (vR (some t)), some (vI x1_), some (vI x2_), some (vI x3_)] [vI s0_] h =
    some (Sum.inl (some (vI s0_)), h) := rn_b (b := b60_40) rfl
/-! 61 FastPlane.show(II)I -/
theorem c61 (E : EV) (d : Nat) (t : Nat) (x1_ : Int32) (x2_ : Int32) (h : AH) : cal E (d + 1) 61 [vR (some t), vI x1_, vI x2_] h = rn E d 61 0 [some (vR (some t)), some (vI x1_), some (vI x2_)] [] h := cal_rn rfl rfl
theorem e61_0 (E : EV) (d : Nat) (t : Nat) (x1_ : Int32) (x2_ : Int32) (h : AH) : rn E d 61 0 [some (vR (some t)), some (vI x1_), some (vI x2_)] [] h =
    cI (cal E d 27 [vI x1_] h) th fun v1 h =>
    if v1 = 0 then rn E d 61 23 [some (vR (some t)), some (vI x1_), some (vI x2_)] [vR (some t)] h else
    cI (cal E d 26 [vI x2_, vI 1, vI 255] h) th fun v2 h =>
    if v2 = 0 then rn E d 61 23 [some (vR (some t)), some (vI x1_), some (vI x2_)] [vR (some t)] h else
    rn E d 61 24 [some (vR (some t)), some (vI x1_), some (vI x2_)] [vI 1, vR (some t)] h := rn_b (b := b61_0) rfl
theorem e61_23 (E : EV) (d : Nat) (t : Nat) (x1_ : Int32) (x2_ : Int32) (s0_ : Option Nat) (h : AH) : rn E d 61 23 [some (vR (some t)), some (vI x1_), some (vI x2_)] [vR s0_] h =
    rn E d 61 24 [some (vR (some t)), some (vI x1_), some (vI x2_)] [vI 0, vR s0_] h := rn_b (b := b61_23) rfl
theorem e61_24 (E : EV) (d : Nat) (t : Nat) (x1_ : Int32) (x2_ : Int32) (s0_ : Option Nat) (s1_ : Int32) (h : AH) : rn E d 61 24 [some (vR (some t)), some (vI x1_), some (vI x2_)] [vI s1_, vR s0_] h =
    gd (decide (h.nx + 1 ≤ E.lc) && decide (h.us + 4 ≤ E.lu)) (hs h.nx fun n1 => hs (h.mk 22 0 4) fun h =>
    gd (h.kd t == 1) (cV (cal E d 106 [vR (some n1), vI x1_, vI x2_, vI (h.I t 7)] h) th fun h =>
    gd (rcO 89 [vR s0_, vI s1_, vR (some n1)] h) (cI (cal E d 65 [vR s0_, vI s1_, vR (some n1)] h) th fun v2 h =>
    some (Sum.inl (some (vI v2)), h)))) := rn_b (b := b61_24) rfl
/-! 62 FastPlane.soonest(IIIIII)I -/
theorem c62 (E : EV) (d : Nat) (t : Nat) (x1_ : Int32) (x2_ : Int32) (x3_ : Int32) (x4_ : Int32) (x5_ : Int32) (x6_ : Int32) (h : AH) : cal E (d + 1) 62 [vR (some t), vI x1_, vI x2_, vI x3_, vI x4_, vI x5_, vI x6_] h = rn E d 62 0 [some (vR (some t)), some (vI x1_), some (vI x2_), some (vI x3_), some (vI x4_), some (vI x5_), some (vI x6_), none, none, none, none, none, none] [] h := cal_rn rfl rfl
theorem e62_0 (E : EV) (d : Nat) (t : Nat) (x1_ : Int32) (x2_ : Int32) (x3_ : Int32) (x4_ : Int32) (x5_ : Int32) (x6_ : Int32) (o7_ : Option AV) (o8_ : Option AV) (o9_ : Option AV) (o10_ : Option AV) (o11_ : Option AV) (o12_ : Option AV) (h : AH) : rn E d 62 0 [some (vR (some t)), some (vI x1_), some (vI x2_), some (vI x3_), some (vI x4_), some (vI x5_), some (vI x6_), o7_, o8_, o9_, o10_, o11_, o12_] [] h =
    cI (cal E d 25 [vI x1_] h) th fun v1 h =>
    if v1 = 0 then rn E d 62 55 [some (vR (some t)), some (vI x1_), some (vI x2_), some (vI x3_), some (vI x4_), some (vI x5_), some (vI x6_), o7_, o8_, o9_, o10_, o11_, o12_] [] h else
    cI (cal E d 25 [vI x2_] h) th fun v2 h =>
    if v2 = 0 then rn E d 62 55 [some (vR (some t)), some (vI x1_), some (vI x2_), some (vI x3_), some (vI x4_), some (vI x5_), some (vI x6_), o7_, o8_, o9_, o10_, o11_, o12_] [] h else
    cI (cal E d 30 [vI x3_] h) th fun v3 h =>
    if v3 = 0 then rn E d 62 55 [some (vR (some t)), some (vI x1_), some (vI x2_), some (vI x3_), some (vI x4_), some (vI x5_), some (vI x6_), o7_, o8_, o9_, o10_, o11_, o12_] [] h else
    cI (cal E d 26 [vI x4_, vI 0, vI 23] h) th fun v4 h =>
    if v4 = 0 then rn E d 62 55 [some (vR (some t)), some (vI x1_), some (vI x2_), some (vI x3_), some (vI x4_), some (vI x5_), some (vI x6_), o7_, o8_, o9_, o10_, o11_, o12_] [] h else
    cI (cal E d 26 [vI x5_, vI 0, vI 255] h) th fun v5 h =>
    if v5 = 0 then rn E d 62 55 [some (vR (some t)), some (vI x1_), some (vI x2_), some (vI x3_), some (vI x4_), some (vI x5_), some (vI x6_), o7_, o8_, o9_, o10_, o11_, o12_] [] h else
    cI (cal E d 26 [vI x6_, vI 0, vI 99] h) th fun v6 h =>
    if v6 = 0 then
    rn E d 62 55 [some (vR (some t)), some (vI x1_), some (vI x2_), some (vI x3_), some (vI x4_), some (vI x5_), some (vI x6_), o7_, o8_, o9_, o10_, o11_, o12_] [] h
    else rn E d 62 57 [some (vR (some t)), some (vI x1_), some (vI x2_), some (vI x3_), some (vI x4_), some (vI x5_), some (vI x6_), o7_, o8_, o9_, o10_, o11_, o12_] [] h := rn_b (b := b62_0) rfl
theorem e62_55 (E : EV) (d : Nat) (t : Nat) (x1_ : Int32) (x2_ : Int32) (x3_ : Int32) (x4_ : Int32) (x5_ : Int32) (x6_ : Int32) (o7_ : Option AV) (o8_ : Option AV) (o9_ : Option AV) (o10_ : Option AV) (o11_ : Option AV) (o12_ : Option AV) (h : AH) : rn E d 62 55 [some (vR (some t)), some (vI x1_), some (vI x2_), some (vI x3_), some (vI x4_), some (vI x5_), some (vI x6_), o7_, o8_, o9_, o10_, o11_, o12_] [] h =
    some (Sum.inl (some (vI (-1))), h) := rn_b (b := b62_55) rfl
theorem e62_57 (E : EV) (d : Nat) (t : Nat) (x1_ : Int32) (x2_ : Int32) (x3_ : Int32) (x4_ : Int32) (x5_ : Int32) (x6_ : Int32) (o7_ : Option AV) (o8_ : Option AV) (o9_ : Option AV) (o10_ : Option AV) (o11_ : Option AV) (o12_ : Option AV) (h : AH) : rn E d 62 57 [some (vR (some t)), some (vI x1_), some (vI x2_), some (vI x3_), some (vI x4_), some (vI x5_), some (vI x6_), o7_, o8_, o9_, o10_, o11_, o12_] [] h =
    rn E d 62 60 [some (vR (some t)), some (vI x1_), some (vI x2_), some (vI x3_), some (vI x4_), some (vI x5_), some (vI x6_), some (vI 0), o8_, o9_, o10_, o11_, o12_] [] h := rn_b (b := b62_57) rfl
theorem e62_60 (E : EV) (d : Nat) (t : Nat) (x1_ : Int32) (x2_ : Int32) (x3_ : Int32) (x4_ : Int32) (x5_ : Int32) (x6_ : Int32) (x7_ : Int32) (o8_ : Option AV) (o9_ : Option AV) (o10_ : Option AV) (o11_ : Option AV) (o12_ : Option AV) (h : AH) : rn E d 62 60 [some (vR (some t)), some (vI x1_), some (vI x2_), some (vI x3_), some (vI x4_), some (vI x5_), some (vI x6_), some (vI x7_), o8_, o9_, o10_, o11_, o12_] [] h =
    if x6_ < x7_ then rn E d 62 102 [some (vR (some t)), some (vI x1_), some (vI x2_), some (vI x3_), some (vI x4_), some (vI x5_), some (vI x6_), some (vI x7_), o8_, o9_, o10_, o11_, o12_] [] h else
    rn E d 62 70 [some (vR (some t)), some (vI x1_), some (vI x2_), some (vI x3_), some (vI x4_), some (vI x5_), some (vI x6_), some (vI x7_), some (vI 0), o9_, o10_, o11_, o12_] [] h := rn_b (b := b62_60) rfl
theorem e62_70 (E : EV) (d : Nat) (t : Nat) (x1_ : Int32) (x2_ : Int32) (x3_ : Int32) (x4_ : Int32) (x5_ : Int32) (x6_ : Int32) (x7_ : Int32) (x8_ : Int32) (o9_ : Option AV) (o10_ : Option AV) (o11_ : Option AV) (o12_ : Option AV) (h : AH) : rn E d 62 70 [some (vR (some t)), some (vI x1_), some (vI x2_), some (vI x3_), some (vI x4_), some (vI x5_), some (vI x6_), some (vI x7_), some (vI x8_), o9_, o10_, o11_, o12_] [] h =
    if 64 ≤ x8_ then rn E d 62 96 [some (vR (some t)), some (vI x1_), some (vI x2_), some (vI x3_), some (vI x4_), some (vI x5_), some (vI x6_), some (vI x7_), some (vI x8_), o9_, o10_, o11_, o12_] [] h else
    gd (h.kd t == 1) (nn (h.R t 19) fun a1 =>
    gd (decide (105 ≤ h.kd a1) && inb x7_ (h.ln a1)) (nn (h.R a1 x7_.toNatClampNeg) fun a2 =>
    gd (h.kd a2 == 101 && inb x8_ (h.ln a2) && decide (E.bs ≤ a2)) (hs (h.setI a2 x8_.toNatClampNeg 1000000) fun h =>
    hs (x8_ + 1) fun x3 =>
    rn E d 62 70 [some (vR (some t)), some (vI x1_), some (vI x2_), some (vI x3_), some (vI x4_), some (vI x5_), some (vI x6_), some (vI x7_), some (vI x3), o9_, o10_, o11_, o12_] [] h))) := rn_b (b := b62_70) rfl
theorem e62_96 (E : EV) (d : Nat) (t : Nat) (x1_ : Int32) (x2_ : Int32) (x3_ : Int32) (x4_ : Int32) (x5_ : Int32) (x6_ : Int32) (x7_ : Int32) (x8_ : Int32) (o9_ : Option AV) (o10_ : Option AV) (o11_ : Option AV) (o12_ : Option AV) (h : AH) : rn E d 62 96 [some (vR (some t)), some (vI x1_), some (vI x2_), some (vI x3_), some (vI x4_), some (vI x5_), some (vI x6_), some (vI x7_), some (vI x8_), o9_, o10_, o11_, o12_] [] h =
    hs (x7_ + 1) fun x1 =>
    rn E d 62 60 [some (vR (some t)), some (vI x1_), some (vI x2_), some (vI x3_), some (vI x4_), some (vI x5_), some (vI x6_), some (vI x1), some (vI x8_), o9_, o10_, o11_, o12_] [] h := rn_b (b := b62_96) rfl
theorem e62_102 (E : EV) (d : Nat) (t : Nat) (x1_ : Int32) (x2_ : Int32) (x3_ : Int32) (x4_ : Int32) (x5_ : Int32) (x6_ : Int32) (x7_ : Int32) (o8_ : Option AV) (o9_ : Option AV) (o10_ : Option AV) (o11_ : Option AV) (o12_ : Option AV) (h : AH) : rn E d 62 102 [some (vR (some t)), some (vI x1_), some (vI x2_), some (vI x3_), some (vI x4_), some (vI x5_), some (vI x6_), some (vI x7_), o8_, o9_, o10_, o11_, o12_] [] h =
    gd (h.kd t == 1) (nn (h.R t 19) fun a1 =>
    gd (decide (105 ≤ h.kd a1) && inb 0 (h.ln a1)) (nn (h.R a1 (0 : Int32).toNatClampNeg) fun a2 =>
    gd (h.kd a2 == 101 && inb x1_ (h.ln a2) && decide (E.bs ≤ a2)) (hs (h.setI a2 x1_.toNatClampNeg 0) fun h =>
    rn E d 62 114 [some (vR (some t)), some (vI x1_), some (vI x2_), some (vI x3_), some (vI x4_), some (vI x5_), some (vI x6_), some (vI 0), o8_, o9_, o10_, o11_, o12_] [] h))) := rn_b (b := b62_102) rfl
theorem e62_114 (E : EV) (d : Nat) (t : Nat) (x1_ : Int32) (x2_ : Int32) (x3_ : Int32) (x4_ : Int32) (x5_ : Int32) (x6_ : Int32) (x7_ : Int32) (o8_ : Option AV) (o9_ : Option AV) (o10_ : Option AV) (o11_ : Option AV) (o12_ : Option AV) (h : AH) : rn E d 62 114 [some (vR (some t)), some (vI x1_), some (vI x2_), some (vI x3_), some (vI x4_), some (vI x5_), some (vI x6_), some (vI x7_), o8_, o9_, o10_, o11_, o12_] [] h =
    if x6_ < x7_ then rn E d 62 384 [some (vR (some t)), some (vI x1_), some (vI x2_), some (vI x3_), some (vI x4_), some (vI x5_), some (vI x6_), some (vI x7_), o8_, o9_, o10_, o11_, o12_] [] h else
    rn E d 62 124 [some (vR (some t)), some (vI x1_), some (vI x2_), some (vI x3_), some (vI x4_), some (vI x5_), some (vI x6_), some (vI x7_), some (vI 0), o9_, o10_, o11_, o12_] [] h := rn_b (b := b62_114) rfl
theorem e62_124 (E : EV) (d : Nat) (t : Nat) (x1_ : Int32) (x2_ : Int32) (x3_ : Int32) (x4_ : Int32) (x5_ : Int32) (x6_ : Int32) (x7_ : Int32) (x8_ : Int32) (o9_ : Option AV) (o10_ : Option AV) (o11_ : Option AV) (o12_ : Option AV) (h : AH) : rn E d 62 124 [some (vR (some t)), some (vI x1_), some (vI x2_), some (vI x3_), some (vI x4_), some (vI x5_), some (vI x6_), some (vI x7_), some (vI x8_), o9_, o10_, o11_, o12_] [] h =
    if 64 ≤ x8_ then rn E d 62 378 [some (vR (some t)), some (vI x1_), some (vI x2_), some (vI x3_), some (vI x4_), some (vI x5_), some (vI x6_), some (vI x7_), some (vI x8_), o9_, o10_, o11_, o12_] [] h else
    gd (h.kd t == 1) (nn (h.R t 19) fun a1 =>
    gd (decide (105 ≤ h.kd a1) && inb x7_ (h.ln a1)) (nn (h.R a1 x7_.toNatClampNeg) fun a2 =>
    gd (h.kd a2 == 101 && inb x8_ (h.ln a2)) (if (h.I a2 x8_.toNatClampNeg) = 1000000 then
    rn E d 62 372 [some (vR (some t)), some (vI x1_), some (vI x2_), some (vI x3_), some (vI x4_), some (vI x5_), some (vI x6_), some (vI x7_), some (vI x8_), o9_, o10_, o11_, o12_] [] h
    else rn E d 62 150 [some (vR (some t)), some (vI x1_), some (vI x2_), some (vI x3_), some (vI x4_), some (vI x5_), some (vI x6_), some (vI x7_), some (vI x8_), o9_, o10_, o11_, o12_] [] h))) := rn_b (b := b62_124) rfl
theorem e62_150 (E : EV) (d : Nat) (t : Nat) (x1_ : Int32) (x2_ : Int32) (x3_ : Int32) (x4_ : Int32) (x5_ : Int32) (x6_ : Int32) (x7_ : Int32) (x8_ : Int32) (o9_ : Option AV) (o10_ : Option AV) (o11_ : Option AV) (o12_ : Option AV) (h : AH) : rn E d 62 150 [some (vR (some t)), some (vI x1_), some (vI x2_), some (vI x3_), some (vI x4_), some (vI x5_), some (vI x6_), some (vI x7_), some (vI x8_), o9_, o10_, o11_, o12_] [] h =
    rn E d 62 153 [some (vR (some t)), some (vI x1_), some (vI x2_), some (vI x3_), some (vI x4_), some (vI x5_), some (vI x6_), some (vI x7_), some (vI x8_), some (vI 0), o10_, o11_, o12_] [] h := rn_b (b := b62_150) rfl
theorem e62_153 (E : EV) (d : Nat) (t : Nat) (x1_ : Int32) (x2_ : Int32) (x3_ : Int32) (x4_ : Int32) (x5_ : Int32) (x6_ : Int32) (x7_ : Int32) (x8_ : Int32) (x9_ : Int32) (o10_ : Option AV) (o11_ : Option AV) (o12_ : Option AV) (h : AH) : rn E d 62 153 [some (vR (some t)), some (vI x1_), some (vI x2_), some (vI x3_), some (vI x4_), some (vI x5_), some (vI x6_), some (vI x7_), some (vI x8_), some (vI x9_), o10_, o11_, o12_] [] h =
    if 4 ≤ x9_ then rn E d 62 372 [some (vR (some t)), some (vI x1_), some (vI x2_), some (vI x3_), some (vI x4_), some (vI x5_), some (vI x6_), some (vI x7_), some (vI x8_), some (vI x9_), o10_, o11_, o12_] [] h else
    gd (!decide ((8 : Int32) = 0)) (if x9_ = 0 then
    rn E d 62 184 [some (vR (some t)), some (vI x1_), some (vI x2_), some (vI x3_), some (vI x4_), some (vI x5_), some (vI x6_), some (vI x7_), some (vI x8_), some (vI x9_), o10_, o11_, o12_] [vI 1, vI (x8_ - x8_ / 8 * 8)] h
    else rn E d 62 173 [some (vR (some t)), some (vI x1_), some (vI x2_), some (vI x3_), some (vI x4_), some (vI x5_), some (vI x6_), some (vI x7_), some (vI x8_), some (vI x9_), o10_, o11_, o12_] [vI (x8_ - x8_ / 8 * 8)] h) := rn_b (b := b62_153) rfl
theorem e62_173 (E : EV) (d : Nat) (t : Nat) (x1_ : Int32) (x2_ : Int32) (x3_ : Int32) (x4_ : Int32) (x5_ : Int32) (x6_ : Int32) (x7_ : Int32) (x8_ : Int32) (x9_ : Int32) (o10_ : Option AV) (o11_ : Option AV) (o12_ : Option AV) (s0_ : Int32) (h : AH) : rn E d 62 173 [some (vR (some t)), some (vI x1_), some (vI x2_), some (vI x3_), some (vI x4_), some (vI x5_), some (vI x6_), some (vI x7_), some (vI x8_), some (vI x9_), o10_, o11_, o12_] [vI s0_] h =
    if x9_ = 1 then
    rn E d 62 184 [some (vR (some t)), some (vI x1_), some (vI x2_), some (vI x3_), some (vI x4_), some (vI x5_), some (vI x6_), some (vI x7_), some (vI x8_), some (vI x9_), o10_, o11_, o12_] [vI (-1), vI s0_] h
    else rn E d 62 183 [some (vR (some t)), some (vI x1_), some (vI x2_), some (vI x3_), some (vI x4_), some (vI x5_), some (vI x6_), some (vI x7_), some (vI x8_), some (vI x9_), o10_, o11_, o12_] [vI s0_] h := rn_b (b := b62_173) rfl
theorem e62_183 (E : EV) (d : Nat) (t : Nat) (x1_ : Int32) (x2_ : Int32) (x3_ : Int32) (x4_ : Int32) (x5_ : Int32) (x6_ : Int32) (x7_ : Int32) (x8_ : Int32) (x9_ : Int32) (o10_ : Option AV) (o11_ : Option AV) (o12_ : Option AV) (s0_ : Int32) (h : AH) : rn E d 62 183 [some (vR (some t)), some (vI x1_), some (vI x2_), some (vI x3_), some (vI x4_), some (vI x5_), some (vI x6_), some (vI x7_), some (vI x8_), some (vI x9_), o10_, o11_, o12_] [vI s0_] h =
    rn E d 62 184 [some (vR (some t)), some (vI x1_), some (vI x2_), some (vI x3_), some (vI x4_), some (vI x5_), some (vI x6_), some (vI x7_), some (vI x8_), some (vI x9_), o10_, o11_, o12_] [vI 0, vI s0_] h := rn_b (b := b62_183) rfl
theorem e62_184 (E : EV) (d : Nat) (t : Nat) (x1_ : Int32) (x2_ : Int32) (x3_ : Int32) (x4_ : Int32) (x5_ : Int32) (x6_ : Int32) (x7_ : Int32) (x8_ : Int32) (x9_ : Int32) (o10_ : Option AV) (o11_ : Option AV) (o12_ : Option AV) (s0_ : Int32) (s1_ : Int32) (h : AH) : rn E d 62 184 [some (vR (some t)), some (vI x1_), some (vI x2_), some (vI x3_), some (vI x4_), some (vI x5_), some (vI x6_), some (vI x7_), some (vI x8_), some (vI x9_), o10_, o11_, o12_] [vI s1_, vI s0_] h =
    hs (s0_ + s1_) fun x1 =>
    gd (!decide ((8 : Int32) = 0)) (if x9_ = 2 then
    rn E d 62 213 [some (vR (some t)), some (vI x1_), some (vI x2_), some (vI x3_), some (vI x4_), some (vI x5_), some (vI x6_), some (vI x7_), some (vI x8_), some (vI x9_), some (vI x1), o11_, o12_] [vI 1, vI (x8_ / 8)] h
    else rn E d 62 202 [some (vR (some t)), some (vI x1_), some (vI x2_), some (vI x3_), some (vI x4_), some (vI x5_), some (vI x6_), some (vI x7_), some (vI x8_), some (vI x9_), some (vI x1), o11_, o12_] [vI (x8_ / 8)] h) := rn_b (b := b62_184) rfl
theorem e62_202 (E : EV) (d : Nat) (t : Nat) (x1_ : Int32) (x2_ : Int32) (x3_ : Int32) (x4_ : Int32) (x5_ : Int32) (x6_ : Int32) (x7_ : Int32) (x8_ : Int32) (x9_ : Int32) (x10_ : Int32) (o11_ : Option AV) (o12_ : Option AV) (s0_ : Int32) (h : AH) : rn E d 62 202 [some (vR (some t)), some (vI x1_), some (vI x2_), some (vI x3_), some (vI x4_), some (vI x5_), some (vI x6_), some (vI x7_), some (vI x8_), some (vI x9_), some (vI x10_), o11_, o12_] [vI s0_] h =
    if x9_ = 3 then
    rn E d 62 213 [some (vR (some t)), some (vI x1_), some (vI x2_), some (vI x3_), some (vI x4_), some (vI x5_), some (vI x6_), some (vI x7_), some (vI x8_), some (vI x9_), some (vI x10_), o11_, o12_] [vI (-1), vI s0_] h
    else rn E d 62 212 [some (vR (some t)), some (vI x1_), some (vI x2_), some (vI x3_), some (vI x4_), some (vI x5_), some (vI x6_), some (vI x7_), some (vI x8_), some (vI x9_), some (vI x10_), o11_, o12_] [vI s0_] h := rn_b (b := b62_202) rfl
theorem e62_212 (E : EV) (d : Nat) (t : Nat) (x1_ : Int32) (x2_ : Int32) (x3_ : Int32) (x4_ : Int32) (x5_ : Int32) (x6_ : Int32) (x7_ : Int32) (x8_ : Int32) (x9_ : Int32) (x10_ : Int32) (o11_ : Option AV) (o12_ : Option AV) (s0_ : Int32) (h : AH) : rn E d 62 212 [some (vR (some t)), some (vI x1_), some (vI x2_), some (vI x3_), some (vI x4_), some (vI x5_), some (vI x6_), some (vI x7_), some (vI x8_), some (vI x9_), some (vI x10_), o11_, o12_] [vI s0_] h =
    rn E d 62 213 [some (vR (some t)), some (vI x1_), some (vI x2_), some (vI x3_), some (vI x4_), some (vI x5_), some (vI x6_), some (vI x7_), some (vI x8_), some (vI x9_), some (vI x10_), o11_, o12_] [vI 0, vI s0_] h := rn_b (b := b62_212) rfl
theorem e62_213 (E : EV) (d : Nat) (t : Nat) (x1_ : Int32) (x2_ : Int32) (x3_ : Int32) (x4_ : Int32) (x5_ : Int32) (x6_ : Int32) (x7_ : Int32) (x8_ : Int32) (x9_ : Int32) (x10_ : Int32) (o11_ : Option AV) (o12_ : Option AV) (s0_ : Int32) (s1_ : Int32) (h : AH) : rn E d 62 213 [some (vR (some t)), some (vI x1_), some (vI x2_), some (vI x3_), some (vI x4_), some (vI x5_), some (vI x6_), some (vI x7_), some (vI x8_), some (vI x9_), some (vI x10_), o11_, o12_] [vI s1_, vI s0_] h =
    hs (s0_ + s1_) fun x1 =>
    cI (cal E d 26 [vI x10_, vI 0, vI 7] h) th fun v2 h =>
    if v2 = 0 then rn E d 62 257 [some (vR (some t)), some (vI x1_), some (vI x2_), some (vI x3_), some (vI x4_), some (vI x5_), some (vI x6_), some (vI x7_), some (vI x8_), some (vI x9_), some (vI x10_), some (vI x1), o12_] [] h else
    cI (cal E d 26 [vI x1, vI 0, vI 7] h) th fun v3 h =>
    if v3 = 0 then rn E d 62 257 [some (vR (some t)), some (vI x1_), some (vI x2_), some (vI x3_), some (vI x4_), some (vI x5_), some (vI x6_), some (vI x7_), some (vI x8_), some (vI x9_), some (vI x10_), some (vI x1), o12_] [] h else
    gd (h.kd t == 1) (nn (h.R t 4) fun a4 =>
    gd (h.kd a4 == 2) (nn (h.R a4 39) fun a5 =>
    gd (h.kd a5 == 101 && inb ((8 * x1) + x10_) (h.ln a5)) (rn E d 62 258 [some (vR (some t)), some (vI x1_), some (vI x2_), some (vI x3_), some (vI x4_), some (vI x5_), some (vI x6_), some (vI x7_), some (vI x8_), some (vI x9_), some (vI x10_), some (vI x1), o12_] [vI (h.I a5 ((8 * x1) + x10_).toNatClampNeg)] h))) := rn_b (b := b62_213) rfl
theorem e62_257 (E : EV) (d : Nat) (t : Nat) (x1_ : Int32) (x2_ : Int32) (x3_ : Int32) (x4_ : Int32) (x5_ : Int32) (x6_ : Int32) (x7_ : Int32) (x8_ : Int32) (x9_ : Int32) (x10_ : Int32) (x11_ : Int32) (o12_ : Option AV) (h : AH) : rn E d 62 257 [some (vR (some t)), some (vI x1_), some (vI x2_), some (vI x3_), some (vI x4_), some (vI x5_), some (vI x6_), some (vI x7_), some (vI x8_), some (vI x9_), some (vI x10_), some (vI x11_), o12_] [] h =
    rn E d 62 258 [some (vR (some t)), some (vI x1_), some (vI x2_), some (vI x3_), some (vI x4_), some (vI x5_), some (vI x6_), some (vI x7_), some (vI x8_), some (vI x9_), some (vI x10_), some (vI x11_), o12_] [vI (-1)] h := rn_b (b := b62_257) rfl
theorem e62_258 (E : EV) (d : Nat) (t : Nat) (x1_ : Int32) (x2_ : Int32) (x3_ : Int32) (x4_ : Int32) (x5_ : Int32) (x6_ : Int32) (x7_ : Int32) (x8_ : Int32) (x9_ : Int32) (x10_ : Int32) (x11_ : Int32) (o12_ : Option AV) (s0_ : Int32) (h : AH) : rn E d 62 258 [some (vR (some t)), some (vI x1_), some (vI x2_), some (vI x3_), some (vI x4_), some (vI x5_), some (vI x6_), some (vI x7_), some (vI x8_), some (vI x9_), some (vI x10_), some (vI x11_), o12_] [vI s0_] h =
    if 0 ≤ s0_ then rn E d 62 268 [some (vR (some t)), some (vI x1_), some (vI x2_), some (vI x3_), some (vI x4_), some (vI x5_), some (vI x6_), some (vI x7_), some (vI x8_), some (vI x9_), some (vI x10_), some (vI x11_), some (vI s0_)] [] h else
    rn E d 62 366 [some (vR (some t)), some (vI x1_), some (vI x2_), some (vI x3_), some (vI x4_), some (vI x5_), some (vI x6_), some (vI x7_), some (vI x8_), some (vI x9_), some (vI x10_), some (vI x11_), some (vI s0_)] [] h := rn_b (b := b62_258) rfl
theorem e62_268 (E : EV) (d : Nat) (t : Nat) (x1_ : Int32) (x2_ : Int32) (x3_ : Int32) (x4_ : Int32) (x5_ : Int32) (x6_ : Int32) (x7_ : Int32) (x8_ : Int32) (x9_ : Int32) (x10_ : Int32) (x11_ : Int32) (x12_ : Int32) (h : AH) : rn E d 62 268 [some (vR (some t)), some (vI x1_), some (vI x2_), some (vI x3_), some (vI x4_), some (vI x5_), some (vI x6_), some (vI x7_), some (vI x8_), some (vI x9_), some (vI x10_), some (vI x11_), some (vI x12_)] [] h =
    if ((x5_ >>> (x12_ &&& 31)) &&& 1) = 0 then
    gd (h.kd t == 1) (cI (cal E d 41 [vR (some t), vI x3_, vI x12_, vI x4_, vI 20] h) th fun v1 h =>
    if v1 = 0 then rn E d 62 322 [some (vR (some t)), some (vI x1_), some (vI x2_), some (vI x3_), some (vI x4_), some (vI x5_), some (vI x6_), some (vI x7_), some (vI x8_), some (vI x9_), some (vI x10_), some (vI x11_), some (vI x12_)] [] h else
    gd (h.kd t == 1) (nn (h.R t 19) fun a2 =>
    gd (decide (105 ≤ h.kd a2) && inb x7_ (h.ln a2)) (nn (h.R a2 x7_.toNatClampNeg) fun a3 =>
    gd (h.kd a3 == 101 && inb x8_ (h.ln a3)) (gd (h.kd t == 1) (cV (cal E d 16 [vR (some t), vI (x7_ + 3), vI ((8 * x11_) + x10_), vI ((h.I a3 x8_.toNatClampNeg) + 1), vI x6_] h) th fun h =>
    rn E d 62 322 [some (vR (some t)), some (vI x1_), some (vI x2_), some (vI x3_), some (vI x4_), some (vI x5_), some (vI x6_), some (vI x7_), some (vI x8_), some (vI x9_), some (vI x10_), some (vI x11_), some (vI x12_)] [] h)))))
    else rn E d 62 322 [some (vR (some t)), some (vI x1_), some (vI x2_), some (vI x3_), some (vI x4_), some (vI x5_), some (vI x6_), some (vI x7_), some (vI x8_), some (vI x9_), some (vI x10_), some (vI x11_), some (vI x12_)] [] h := rn_b (b := b62_268) rfl
theorem e62_322 (E : EV) (d : Nat) (t : Nat) (x1_ : Int32) (x2_ : Int32) (x3_ : Int32) (x4_ : Int32) (x5_ : Int32) (x6_ : Int32) (x7_ : Int32) (x8_ : Int32) (x9_ : Int32) (x10_ : Int32) (x11_ : Int32) (x12_ : Int32) (h : AH) : rn E d 62 322 [some (vR (some t)), some (vI x1_), some (vI x2_), some (vI x3_), some (vI x4_), some (vI x5_), some (vI x6_), some (vI x7_), some (vI x8_), some (vI x9_), some (vI x10_), some (vI x11_), some (vI x12_)] [] h =
    gd (h.kd t == 1) (cI (cal E d 41 [vR (some t), vI x3_, vI x12_, vI x4_, vI 9] h) th fun v1 h =>
    if v1 = 0 then rn E d 62 366 [some (vR (some t)), some (vI x1_), some (vI x2_), some (vI x3_), some (vI x4_), some (vI x5_), some (vI x6_), some (vI x7_), some (vI x8_), some (vI x9_), some (vI x10_), some (vI x11_), some (vI x12_)] [] h else
    gd (h.kd t == 1) (nn (h.R t 19) fun a2 =>
    gd (decide (105 ≤ h.kd a2) && inb x7_ (h.ln a2)) (nn (h.R a2 x7_.toNatClampNeg) fun a3 =>
    gd (h.kd a3 == 101 && inb x8_ (h.ln a3)) (gd (h.kd t == 1) (cV (cal E d 16 [vR (some t), vI (x7_ + 2), vI ((8 * x11_) + x10_), vI ((h.I a3 x8_.toNatClampNeg) + 3), vI x6_] h) th fun h =>
    rn E d 62 366 [some (vR (some t)), some (vI x1_), some (vI x2_), some (vI x3_), some (vI x4_), some (vI x5_), some (vI x6_), some (vI x7_), some (vI x8_), some (vI x9_), some (vI x10_), some (vI x11_), some (vI x12_)] [] h))))) := rn_b (b := b62_322) rfl
theorem e62_366 (E : EV) (d : Nat) (t : Nat) (x1_ : Int32) (x2_ : Int32) (x3_ : Int32) (x4_ : Int32) (x5_ : Int32) (x6_ : Int32) (x7_ : Int32) (x8_ : Int32) (x9_ : Int32) (x10_ : Int32) (x11_ : Int32) (x12_ : Int32) (h : AH) : rn E d 62 366 [some (vR (some t)), some (vI x1_), some (vI x2_), some (vI x3_), some (vI x4_), some (vI x5_), some (vI x6_), some (vI x7_), some (vI x8_), some (vI x9_), some (vI x10_), some (vI x11_), some (vI x12_)] [] h =
    hs (x9_ + 1) fun x1 =>
    rn E d 62 153 [some (vR (some t)), some (vI x1_), some (vI x2_), some (vI x3_), some (vI x4_), some (vI x5_), some (vI x6_), some (vI x7_), some (vI x8_), some (vI x1), some (vI x10_), some (vI x11_), some (vI x12_)] [] h := rn_b (b := b62_366) rfl
theorem e62_372 (E : EV) (d : Nat) (t : Nat) (x1_ : Int32) (x2_ : Int32) (x3_ : Int32) (x4_ : Int32) (x5_ : Int32) (x6_ : Int32) (x7_ : Int32) (x8_ : Int32) (o9_ : Option AV) (o10_ : Option AV) (o11_ : Option AV) (o12_ : Option AV) (h : AH) : rn E d 62 372 [some (vR (some t)), some (vI x1_), some (vI x2_), some (vI x3_), some (vI x4_), some (vI x5_), some (vI x6_), some (vI x7_), some (vI x8_), o9_, o10_, o11_, o12_] [] h =
    hs (x8_ + 1) fun x1 =>
    rn E d 62 124 [some (vR (some t)), some (vI x1_), some (vI x2_), some (vI x3_), some (vI x4_), some (vI x5_), some (vI x6_), some (vI x7_), some (vI x1), o9_, o10_, o11_, o12_] [] h := rn_b (b := b62_372) rfl
theorem e62_378 (E : EV) (d : Nat) (t : Nat) (x1_ : Int32) (x2_ : Int32) (x3_ : Int32) (x4_ : Int32) (x5_ : Int32) (x6_ : Int32) (x7_ : Int32) (x8_ : Int32) (o9_ : Option AV) (o10_ : Option AV) (o11_ : Option AV) (o12_ : Option AV) (h : AH) : rn E d 62 378 [some (vR (some t)), some (vI x1_), some (vI x2_), some (vI x3_), some (vI x4_), some (vI x5_), some (vI x6_), some (vI x7_), some (vI x8_), o9_, o10_, o11_, o12_] [] h =
    hs (x7_ + 1) fun x1 =>
    rn E d 62 114 [some (vR (some t)), some (vI x1_), some (vI x2_), some (vI x3_), some (vI x4_), some (vI x5_), some (vI x6_), some (vI x1), some (vI x8_), o9_, o10_, o11_, o12_] [] h := rn_b (b := b62_378) rfl
theorem e62_384 (E : EV) (d : Nat) (t : Nat) (x1_ : Int32) (x2_ : Int32) (x3_ : Int32) (x4_ : Int32) (x5_ : Int32) (x6_ : Int32) (x7_ : Int32) (o8_ : Option AV) (o9_ : Option AV) (o10_ : Option AV) (o11_ : Option AV) (o12_ : Option AV) (h : AH) : rn E d 62 384 [some (vR (some t)), some (vI x1_), some (vI x2_), some (vI x3_), some (vI x4_), some (vI x5_), some (vI x6_), some (vI x7_), o8_, o9_, o10_, o11_, o12_] [] h =
    rn E d 62 390 [some (vR (some t)), some (vI x1_), some (vI x2_), some (vI x3_), some (vI x4_), some (vI x5_), some (vI x6_), some (vI (-1)), some (vI 0), o9_, o10_, o11_, o12_] [] h := rn_b (b := b62_384) rfl
theorem e62_390 (E : EV) (d : Nat) (t : Nat) (x1_ : Int32) (x2_ : Int32) (x3_ : Int32) (x4_ : Int32) (x5_ : Int32) (x6_ : Int32) (x7_ : Int32) (x8_ : Int32) (o9_ : Option AV) (o10_ : Option AV) (o11_ : Option AV) (o12_ : Option AV) (h : AH) : rn E d 62 390 [some (vR (some t)), some (vI x1_), some (vI x2_), some (vI x3_), some (vI x4_), some (vI x5_), some (vI x6_), some (vI x7_), some (vI x8_), o9_, o10_, o11_, o12_] [] h =
    if x6_ < x8_ then rn E d 62 448 [some (vR (some t)), some (vI x1_), some (vI x2_), some (vI x3_), some (vI x4_), some (vI x5_), some (vI x6_), some (vI x7_), some (vI x8_), o9_, o10_, o11_, o12_] [] h else
    gd (h.kd t == 1) (nn (h.R t 19) fun a1 =>
    gd (decide (105 ≤ h.kd a1) && inb x8_ (h.ln a1)) (nn (h.R a1 x8_.toNatClampNeg) fun a2 =>
    gd (h.kd a2 == 101 && inb x2_ (h.ln a2)) (if 1000000 ≤ (h.I a2 x2_.toNatClampNeg) then rn E d 62 442 [some (vR (some t)), some (vI x1_), some (vI x2_), some (vI x3_), some (vI x4_), some (vI x5_), some (vI x6_), some (vI x7_), some (vI x8_), o9_, o10_, o11_, o12_] [] h else
    if x7_ < 0 then rn E d 62 438 [some (vR (some t)), some (vI x1_), some (vI x2_), some (vI x3_), some (vI x4_), some (vI x5_), some (vI x6_), some (vI x7_), some (vI x8_), o9_, o10_, o11_, o12_] [] h else
    gd (h.kd t == 1) (nn (h.R t 19) fun a3 =>
    gd (decide (105 ≤ h.kd a3) && inb x8_ (h.ln a3)) (nn (h.R a3 x8_.toNatClampNeg) fun a4 =>
    gd (h.kd a4 == 101 && inb x2_ (h.ln a4)) (gd (h.kd t == 1) (nn (h.R t 19) fun a5 =>
    gd (decide (105 ≤ h.kd a5) && inb x7_ (h.ln a5)) (nn (h.R a5 x7_.toNatClampNeg) fun a6 =>
    gd (h.kd a6 == 101 && inb x2_ (h.ln a6)) (if (h.I a6 x2_.toNatClampNeg) ≤ (h.I a4 x2_.toNatClampNeg) then rn E d 62 442 [some (vR (some t)), some (vI x1_), some (vI x2_), some (vI x3_), some (vI x4_), some (vI x5_), some (vI x6_), some (vI x7_), some (vI x8_), o9_, o10_, o11_, o12_] [] h else
    rn E d 62 438 [some (vR (some t)), some (vI x1_), some (vI x2_), some (vI x3_), some (vI x4_), some (vI x5_), some (vI x6_), some (vI x7_), some (vI x8_), o9_, o10_, o11_, o12_] [] h))))))))) := rn_b (b := b62_390) rfl
theorem e62_438 (E : EV) (d : Nat) (t : Nat) (x1_ : Int32) (x2_ : Int32) (x3_ : Int32) (x4_ : Int32) (x5_ : Int32) (x6_ : Int32) (x7_ : Int32) (x8_ : Int32) (o9_ : Option AV) (o10_ : Option AV) (o11_ : Option AV) (o12_ : Option AV) (h : AH) : rn E d 62 438 [some (vR (some t)), some (vI x1_), some (vI x2_), some (vI x3_), some (vI x4_), some (vI x5_), some (vI x6_), some (vI x7_), some (vI x8_), o9_, o10_, o11_, o12_] [] h =
    rn E d 62 442 [some (vR (some t)), some (vI x1_), some (vI x2_), some (vI x3_), some (vI x4_), some (vI x5_), some (vI x6_), some (vI x8_), some (vI x8_), o9_, o10_, o11_, o12_] [] h := rn_b (b := b62_438) rfl
theorem e62_442 (E : EV) (d : Nat) (t : Nat) (x1_ : Int32) (x2_ : Int32) (x3_ : Int32) (x4_ : Int32) (x5_ : Int32) (x6_ : Int32) (x7_ : Int32) (x8_ : Int32) (o9_ : Option AV) (o10_ : Option AV) (o11_ : Option AV) (o12_ : Option AV) (h : AH) : rn E d 62 442 [some (vR (some t)), some (vI x1_), some (vI x2_), some (vI x3_), some (vI x4_), some (vI x5_), some (vI x6_), some (vI x7_), some (vI x8_), o9_, o10_, o11_, o12_] [] h =
    hs (x8_ + 1) fun x1 =>
    rn E d 62 390 [some (vR (some t)), some (vI x1_), some (vI x2_), some (vI x3_), some (vI x4_), some (vI x5_), some (vI x6_), some (vI x7_), some (vI x1), o9_, o10_, o11_, o12_] [] h := rn_b (b := b62_442) rfl
theorem e62_448 (E : EV) (d : Nat) (t : Nat) (x1_ : Int32) (x2_ : Int32) (x3_ : Int32) (x4_ : Int32) (x5_ : Int32) (x6_ : Int32) (x7_ : Int32) (x8_ : Int32) (o9_ : Option AV) (o10_ : Option AV) (o11_ : Option AV) (o12_ : Option AV) (h : AH) : rn E d 62 448 [some (vR (some t)), some (vI x1_), some (vI x2_), some (vI x3_), some (vI x4_), some (vI x5_), some (vI x6_), some (vI x7_), some (vI x8_), o9_, o10_, o11_, o12_] [] h =
    if 0 ≤ x7_ then rn E d 62 457 [some (vR (some t)), some (vI x1_), some (vI x2_), some (vI x3_), some (vI x4_), some (vI x5_), some (vI x6_), some (vI x7_), some (vI x8_), o9_, o10_, o11_, o12_] [] h else
    rn E d 62 472 [some (vR (some t)), some (vI x1_), some (vI x2_), some (vI x3_), some (vI x4_), some (vI x5_), some (vI x6_), some (vI x7_), some (vI x8_), o9_, o10_, o11_, o12_] [vI (-1)] h := rn_b (b := b62_448) rfl
theorem e62_457 (E : EV) (d : Nat) (t : Nat) (x1_ : Int32) (x2_ : Int32) (x3_ : Int32) (x4_ : Int32) (x5_ : Int32) (x6_ : Int32) (x7_ : Int32) (x8_ : Int32) (o9_ : Option AV) (o10_ : Option AV) (o11_ : Option AV) (o12_ : Option AV) (h : AH) : rn E d 62 457 [some (vR (some t)), some (vI x1_), some (vI x2_), some (vI x3_), some (vI x4_), some (vI x5_), some (vI x6_), some (vI x7_), some (vI x8_), o9_, o10_, o11_, o12_] [] h =
    gd (h.kd t == 1) (nn (h.R t 19) fun a1 =>
    gd (decide (105 ≤ h.kd a1) && inb x7_ (h.ln a1)) (nn (h.R a1 x7_.toNatClampNeg) fun a2 =>
    gd (h.kd a2 == 101 && inb x2_ (h.ln a2)) (rn E d 62 472 [some (vR (some t)), some (vI x1_), some (vI x2_), some (vI x3_), some (vI x4_), some (vI x5_), some (vI x6_), some (vI x7_), some (vI x8_), o9_, o10_, o11_, o12_] [vI ((100 * (h.I a2 x2_.toNatClampNeg)) + x7_)] h))) := rn_b (b := b62_457) rfl
theorem e62_472 (E : EV) (d : Nat) (t : Nat) (x1_ : Int32) (x2_ : Int32) (x3_ : Int32) (x4_ : Int32) (x5_ : Int32) (x6_ : Int32) (x7_ : Int32) (x8_ : Int32) (o9_ : Option AV) (o10_ : Option AV) (o11_ : Option AV) (o12_ : Option AV) (s0_ : Int32) (h : AH) : rn E d 62 472 [some (vR (some t)), some (vI x1_), some (vI x2_), some (vI x3_), some (vI x4_), some (vI x5_), some (vI x6_), some (vI x7_), some (vI x8_), o9_, o10_, o11_, o12_] [vI s0_] h =
    some (Sum.inl (some (vI s0_)), h) := rn_b (b := b62_472) rfl
/-! 63 FastPlane.stage(II)I -/
theorem c63 (E : EV) (d : Nat) (t : Nat) (x1_ : Int32) (x2_ : Int32) (h : AH) : cal E (d + 1) 63 [vR (some t), vI x1_, vI x2_] h = rn E d 63 0 [some (vR (some t)), some (vI x1_), some (vI x2_)] [] h := cal_rn rfl rfl
theorem e63_0 (E : EV) (d : Nat) (t : Nat) (x1_ : Int32) (x2_ : Int32) (h : AH) : rn E d 63 0 [some (vR (some t)), some (vI x1_), some (vI x2_)] [] h =
    cI (cal E d 26 [vI x1_, vI 0, vI 30] h) th fun v1 h =>
    if v1 = 0 then rn E d 63 29 [some (vR (some t)), some (vI x1_), some (vI x2_)] [] h else
    cI (cal E d 26 [vI x2_, vI 0, vI 10] h) th fun v2 h =>
    if v2 = 0 then rn E d 63 29 [some (vR (some t)), some (vI x1_), some (vI x2_)] [] h else
    gd (h.kd t == 1) (if (h.I t 30) = 8 then
    rn E d 63 29 [some (vR (some t)), some (vI x1_), some (vI x2_)] [] h
    else rn E d 63 31 [some (vR (some t)), some (vI x1_), some (vI x2_)] [] h) := rn_b (b := b63_0) rfl
theorem e63_29 (E : EV) (d : Nat) (t : Nat) (x1_ : Int32) (x2_ : Int32) (h : AH) : rn E d 63 29 [some (vR (some t)), some (vI x1_), some (vI x2_)] [] h =
    some (Sum.inl (some (vI (-1))), h) := rn_b (b := b63_29) rfl
theorem e63_31 (E : EV) (d : Nat) (t : Nat) (x1_ : Int32) (x2_ : Int32) (h : AH) : rn E d 63 31 [some (vR (some t)), some (vI x1_), some (vI x2_)] [] h =
    gd (h.kd t == 1) (gd (h.kd t == 1) (nn (h.R t 28) fun a1 =>
    gd (h.kd a1 == 101 && inb (h.I t 30) (h.ln a1) && decide (E.bs ≤ a1)) (hs (h.setI a1 (h.I t 30).toNatClampNeg x1_) fun h =>
    gd (h.kd t == 1) (gd (h.kd t == 1) (nn (h.R t 29) fun a2 =>
    gd (h.kd a2 == 101 && inb (h.I t 30) (h.ln a2) && decide (E.bs ≤ a2)) (hs (h.setI a2 (h.I t 30).toNatClampNeg x2_) fun h =>
    gd (h.kd t == 1) (gd ((h.kd t == 1) && decide (E.bs ≤ t) && true) (hs (h.setI t 30 ((h.I t 30) + 1)) fun h =>
    gd (h.kd t == 1) (some (Sum.inl (some (vI ((h.I t 30) - 1))), h)))))))))) := rn_b (b := b63_31) rfl
/-! 64 FastPlane.state(III)I -/
theorem c64 (E : EV) (d : Nat) (x0_ : Int32) (x1_ : Int32) (x2_ : Int32) (h : AH) : cal E (d + 1) 64 [vI x0_, vI x1_, vI x2_] h = rn E d 64 0 [some (vI x0_), some (vI x1_), some (vI x2_)] [] h := cal_rn rfl rfl
theorem e64_0 (E : EV) (d : Nat) (x0_ : Int32) (x1_ : Int32) (x2_ : Int32) (h : AH) : rn E d 64 0 [some (vI x0_), some (vI x1_), some (vI x2_)] [] h =
    some (Sum.inl (some (vI (((x0_ <<< (8 &&& 31)) ||| (x1_ <<< (4 &&& 31))) ||| x2_))), h) := rn_b (b := b64_0) rfl
/-! 65 FastPlane.tell(ZLFastPlane$Fact;)I -/
theorem c65 (E : EV) (d : Nat) (t : Nat) (x1_ : Int32) (x2_ : Option Nat) (h : AH) : cal E (d + 1) 65 [vR (some t), vI x1_, vR x2_] h = rn E d 65 0 [some (vR (some t)), some (vI x1_), some (vR x2_)] [] h := cal_rn rfl rfl
theorem e65_0 (E : EV) (d : Nat) (t : Nat) (x1_ : Int32) (r2_ : Option Nat) (h : AH) : rn E d 65 0 [some (vR (some t)), some (vI x1_), some (vR r2_)] [] h =
    if x1_ = 0 then rn E d 65 17 [some (vR (some t)), some (vI x1_), some (vR r2_)] [] h else
    gd (h.kd t == 1) (gd (rcO 76 [vR (h.R t 6)] h) (cI (cal E d 268 [vR (h.R t 6)] h) th fun v1 h =>
    if v1 = 200 then
    rn E d 65 17 [some (vR (some t)), some (vI x1_), some (vR r2_)] [] h
    else rn E d 65 19 [some (vR (some t)), some (vI x1_), some (vR r2_)] [] h)) := rn_b (b := b65_0) rfl
theorem e65_17 (E : EV) (d : Nat) (t : Nat) (x1_ : Int32) (r2_ : Option Nat) (h : AH) : rn E d 65 17 [some (vR (some t)), some (vI x1_), some (vR r2_)] [] h =
    some (Sum.inl (some (vI (-1))), h) := rn_b (b := b65_17) rfl
theorem e65_19 (E : EV) (d : Nat) (t : Nat) (x1_ : Int32) (r2_ : Option Nat) (h : AH) : rn E d 65 19 [some (vR (some t)), some (vI x1_), some (vR r2_)] [] h =
    gd (h.kd t == 1) (gd (rcO 129 [vR (h.R t 6), vR r2_] h) (cI (cal E d 260 [vR (h.R t 6), vR r2_] h) th fun v1 h =>
    gd (h.kd t == 1) (gd (rcO 76 [vR (h.R t 6)] h) (cI (cal E d 268 [vR (h.R t 6)] h) th fun v2 h =>
    some (Sum.inl (some (vI (v2 - 1))), h))))) := rn_b (b := b65_19) rfl
/-! 66 FastPlane.treaty(I)I -/
theorem c66 (E : EV) (d : Nat) (t : Nat) (x1_ : Int32) (h : AH) : cal E (d + 1) 66 [vR (some t), vI x1_] h = rn E d 66 0 [some (vR (some t)), some (vI x1_), none] [] h := cal_rn rfl rfl
theorem e66_0 (E : EV) (d : Nat) (t : Nat) (x1_ : Int32) (o2_ : Option AV) (h : AH) : rn E d 66 0 [some (vR (some t)), some (vI x1_), o2_] [] h =
    gd (h.kd t == 1) (if 700 < (h.I t 1) then rn E d 66 17 [some (vR (some t)), some (vI x1_), o2_] [] h else
    cI (cal E d 30 [vI x1_] h) th fun v1 h =>
    if v1 = 0 then
    rn E d 66 17 [some (vR (some t)), some (vI x1_), o2_] [] h
    else rn E d 66 20 [some (vR (some t)), some (vI x1_), o2_] [] h) := rn_b (b := b66_0) rfl
theorem e66_17 (E : EV) (d : Nat) (t : Nat) (x1_ : Int32) (o2_ : Option AV) (h : AH) : rn E d 66 17 [some (vR (some t)), some (vI x1_), o2_] [] h =
    some (Sum.inl (some (vI (-2))), h) := rn_b (b := b66_17) rfl
theorem e66_20 (E : EV) (d : Nat) (t : Nat) (x1_ : Int32) (o2_ : Option AV) (h : AH) : rn E d 66 20 [some (vR (some t)), some (vI x1_), o2_] [] h =
    gd (h.kd t == 1) (gd (decide (h.nx + 1 ≤ E.lc) && decide (h.us + 12 ≤ E.lu)) (hs h.nx fun n1 => hs (h.R t 5) fun q2 =>
    hs (h.mk 12 0 12) fun h =>
    cV (cal E d 77 [vR (some n1), vR (some t)] h) (fun a9 h => gd (h.kd a9 == 8) (rn E d 66 52 [some (vR (some t)), some (vI x1_), o2_] [vR (some a9)] h)) fun h =>
    gd (h.kd n1 == 12) (cR (cal E d 82 [vR (some n1)] h) (fun a9 h => gd (h.kd a9 == 8) (rn E d 66 52 [some (vR (some t)), some (vI x1_), o2_] [vR (some a9)] h)) fun r3 h =>
    nn q2 fun a4 =>
    gd (decide (105 ≤ h.kd a4) && decide (h.kd a4 < 108) && inb x1_ (h.ln a4) && decide (E.bs ≤ a4) && okA h a4 r3) (hs (h.setR a4 x1_.toNatClampNeg r3) fun h =>
    gd (h.kd t == 1) (cV (cal E d 55 [vR (some t), vR none] h) (fun a9 h => gd (h.kd a9 == 8) (rn E d 66 52 [some (vR (some t)), some (vI x1_), o2_] [vR (some a9)] h)) fun h =>
    gd (h.kd t == 1) (nn (h.R t 5) fun a5 =>
    gd (decide (105 ≤ h.kd a5) && inb x1_ (h.ln a5)) (nn (h.R a5 x1_.toNatClampNeg) fun a6 =>
    gd (h.kd a6 == 4) (rn E d 66 51 [some (vR (some t)), some (vI x1_), o2_] [vI (h.I a6 47)] h)))))))) := rn_b (b := b66_20) rfl
theorem e66_51 (E : EV) (d : Nat) (t : Nat) (x1_ : Int32) (o2_ : Option AV) (s0_ : Int32) (h : AH) : rn E d 66 51 [some (vR (some t)), some (vI x1_), o2_] [vI s0_] h =
    some (Sum.inl (some (vI s0_)), h) := rn_b (b := b66_51) rfl
theorem e66_52 (E : EV) (d : Nat) (t : Nat) (x1_ : Int32) (o2_ : Option AV) (s0_ : Option Nat) (h : AH) : rn E d 66 52 [some (vR (some t)), some (vI x1_), o2_] [vR s0_] h =
    gd (h.kd t == 1) (cV (cal E d 55 [vR (some t), vR s0_] h) th fun h =>
    some (Sum.inl (some (vI (-1))), h)) := rn_b (b := b66_52) rfl
/-! 67 FastPlane.unlike(IIZ)I -/
theorem c67 (E : EV) (d : Nat) (t : Nat) (x1_ : Int32) (x2_ : Int32) (x3_ : Int32) (h : AH) : cal E (d + 1) 67 [vR (some t), vI x1_, vI x2_, vI x3_] h = rn E d 67 0 [some (vR (some t)), some (vI x1_), some (vI x2_), some (vI x3_), none, none, none] [] h := cal_rn rfl rfl
theorem e67_0 (E : EV) (d : Nat) (t : Nat) (x1_ : Int32) (x2_ : Int32) (x3_ : Int32) (o4_ : Option AV) (o5_ : Option AV) (o6_ : Option AV) (h : AH) : rn E d 67 0 [some (vR (some t)), some (vI x1_), some (vI x2_), some (vI x3_), o4_, o5_, o6_] [] h =
    cI (cal E d 30 [vI x1_] h) th fun v1 h =>
    if v1 = 0 then rn E d 67 14 [some (vR (some t)), some (vI x1_), some (vI x2_), some (vI x3_), o4_, o5_, o6_] [] h else
    cI (cal E d 30 [vI x2_] h) th fun v2 h =>
    if v2 = 0 then
    rn E d 67 14 [some (vR (some t)), some (vI x1_), some (vI x2_), some (vI x3_), o4_, o5_, o6_] [] h
    else rn E d 67 16 [some (vR (some t)), some (vI x1_), some (vI x2_), some (vI x3_), o4_, o5_, o6_] [] h := rn_b (b := b67_0) rfl
theorem e67_14 (E : EV) (d : Nat) (t : Nat) (x1_ : Int32) (x2_ : Int32) (x3_ : Int32) (o4_ : Option AV) (o5_ : Option AV) (o6_ : Option AV) (h : AH) : rn E d 67 14 [some (vR (some t)), some (vI x1_), some (vI x2_), some (vI x3_), o4_, o5_, o6_] [] h =
    some (Sum.inl (some (vI (-1))), h) := rn_b (b := b67_14) rfl
theorem e67_16 (E : EV) (d : Nat) (t : Nat) (x1_ : Int32) (x2_ : Int32) (x3_ : Int32) (o4_ : Option AV) (o5_ : Option AV) (o6_ : Option AV) (h : AH) : rn E d 67 16 [some (vR (some t)), some (vI x1_), some (vI x2_), some (vI x3_), o4_, o5_, o6_] [] h =
    rn E d 67 19 [some (vR (some t)), some (vI x1_), some (vI x2_), some (vI x3_), some (vI 0), o5_, o6_] [] h := rn_b (b := b67_16) rfl
theorem e67_19 (E : EV) (d : Nat) (t : Nat) (x1_ : Int32) (x2_ : Int32) (x3_ : Int32) (x4_ : Int32) (o5_ : Option AV) (o6_ : Option AV) (h : AH) : rn E d 67 19 [some (vR (some t)), some (vI x1_), some (vI x2_), some (vI x3_), some (vI x4_), o5_, o6_] [] h =
    if 200 ≤ x4_ then rn E d 67 83 [some (vR (some t)), some (vI x1_), some (vI x2_), some (vI x3_), some (vI x4_), o5_, o6_] [] h else
    if x3_ = 0 then
    rn E d 67 34 [some (vR (some t)), some (vI x1_), some (vI x2_), some (vI x3_), some (vI x4_), some (vI 0), o6_] [] h
    else rn E d 67 83 [some (vR (some t)), some (vI x1_), some (vI x2_), some (vI x3_), some (vI x4_), o5_, o6_] [] h := rn_b (b := b67_19) rfl
theorem e67_34 (E : EV) (d : Nat) (t : Nat) (x1_ : Int32) (x2_ : Int32) (x3_ : Int32) (x4_ : Int32) (x5_ : Int32) (o6_ : Option AV) (h : AH) : rn E d 67 34 [some (vR (some t)), some (vI x1_), some (vI x2_), some (vI x3_), some (vI x4_), some (vI x5_), o6_] [] h =
    if 99 < x5_ then rn E d 67 77 [some (vR (some t)), some (vI x1_), some (vI x2_), some (vI x3_), some (vI x4_), some (vI x5_), o6_] [] h else
    gd (h.kd t == 1) (cI (cal E d 42 [vR (some t), vI x1_, vI x4_, vI x5_] h) th fun v1 h =>
    gd (h.kd t == 1) (cI (cal E d 42 [vR (some t), vI x2_, vI x4_, vI x5_] h) th fun v2 h =>
    if v1 = v2 then rn E d 67 71 [some (vR (some t)), some (vI x1_), some (vI x2_), some (vI x3_), some (vI x4_), some (vI x5_), o6_] [] h else
    some (Sum.inl (some (vI ((100 * x4_) + x5_))), h))) := rn_b (b := b67_34) rfl
theorem e67_71 (E : EV) (d : Nat) (t : Nat) (x1_ : Int32) (x2_ : Int32) (x3_ : Int32) (x4_ : Int32) (x5_ : Int32) (o6_ : Option AV) (h : AH) : rn E d 67 71 [some (vR (some t)), some (vI x1_), some (vI x2_), some (vI x3_), some (vI x4_), some (vI x5_), o6_] [] h =
    hs (x5_ + 1) fun x1 =>
    rn E d 67 34 [some (vR (some t)), some (vI x1_), some (vI x2_), some (vI x3_), some (vI x4_), some (vI x1), o6_] [] h := rn_b (b := b67_71) rfl
theorem e67_77 (E : EV) (d : Nat) (t : Nat) (x1_ : Int32) (x2_ : Int32) (x3_ : Int32) (x4_ : Int32) (x5_ : Int32) (o6_ : Option AV) (h : AH) : rn E d 67 77 [some (vR (some t)), some (vI x1_), some (vI x2_), some (vI x3_), some (vI x4_), some (vI x5_), o6_] [] h =
    hs (x4_ + 1) fun x1 =>
    rn E d 67 19 [some (vR (some t)), some (vI x1_), some (vI x2_), some (vI x3_), some (vI x1), some (vI x5_), o6_] [] h := rn_b (b := b67_77) rfl
theorem e67_83 (E : EV) (d : Nat) (t : Nat) (x1_ : Int32) (x2_ : Int32) (x3_ : Int32) (x4_ : Int32) (o5_ : Option AV) (o6_ : Option AV) (h : AH) : rn E d 67 83 [some (vR (some t)), some (vI x1_), some (vI x2_), some (vI x3_), some (vI x4_), o5_, o6_] [] h =
    rn E d 67 86 [some (vR (some t)), some (vI x1_), some (vI x2_), some (vI x3_), some (vI 0), o5_, o6_] [] h := rn_b (b := b67_83) rfl
theorem e67_86 (E : EV) (d : Nat) (t : Nat) (x1_ : Int32) (x2_ : Int32) (x3_ : Int32) (x4_ : Int32) (o5_ : Option AV) (o6_ : Option AV) (h : AH) : rn E d 67 86 [some (vR (some t)), some (vI x1_), some (vI x2_), some (vI x3_), some (vI x4_), o5_, o6_] [] h =
    if 8 ≤ x4_ then rn E d 67 176 [some (vR (some t)), some (vI x1_), some (vI x2_), some (vI x3_), some (vI x4_), o5_, o6_] [] h else
    if x3_ = 0 then rn E d 67 176 [some (vR (some t)), some (vI x1_), some (vI x2_), some (vI x3_), some (vI x4_), o5_, o6_] [] h else
    rn E d 67 100 [some (vR (some t)), some (vI x1_), some (vI x2_), some (vI x3_), some (vI x4_), some (vI 0), o6_] [] h := rn_b (b := b67_86) rfl
theorem e67_100 (E : EV) (d : Nat) (t : Nat) (x1_ : Int32) (x2_ : Int32) (x3_ : Int32) (x4_ : Int32) (x5_ : Int32) (o6_ : Option AV) (h : AH) : rn E d 67 100 [some (vR (some t)), some (vI x1_), some (vI x2_), some (vI x3_), some (vI x4_), some (vI x5_), o6_] [] h =
    if 24 ≤ x5_ then rn E d 67 170 [some (vR (some t)), some (vI x1_), some (vI x2_), some (vI x3_), some (vI x4_), some (vI x5_), o6_] [] h else
    rn E d 67 110 [some (vR (some t)), some (vI x1_), some (vI x2_), some (vI x3_), some (vI x4_), some (vI x5_), some (vI 0)] [] h := rn_b (b := b67_100) rfl
theorem e67_110 (E : EV) (d : Nat) (t : Nat) (x1_ : Int32) (x2_ : Int32) (x3_ : Int32) (x4_ : Int32) (x5_ : Int32) (x6_ : Int32) (h : AH) : rn E d 67 110 [some (vR (some t)), some (vI x1_), some (vI x2_), some (vI x3_), some (vI x4_), some (vI x5_), some (vI x6_)] [] h =
    if 30 < x6_ then rn E d 67 164 [some (vR (some t)), some (vI x1_), some (vI x2_), some (vI x3_), some (vI x4_), some (vI x5_), some (vI x6_)] [] h else
    gd (h.kd t == 1) (cI (cal E d 41 [vR (some t), vI x1_, vI x4_, vI x5_, vI x6_] h) th fun v1 h =>
    gd (h.kd t == 1) (cI (cal E d 41 [vR (some t), vI x2_, vI x4_, vI x5_, vI x6_] h) th fun v2 h =>
    if v1 = v2 then rn E d 67 158 [some (vR (some t)), some (vI x1_), some (vI x2_), some (vI x3_), some (vI x4_), some (vI x5_), some (vI x6_)] [] h else
    some (Sum.inl (some (vI (((10000 * x4_) + (100 * x5_)) + x6_))), h))) := rn_b (b := b67_110) rfl
theorem e67_158 (E : EV) (d : Nat) (t : Nat) (x1_ : Int32) (x2_ : Int32) (x3_ : Int32) (x4_ : Int32) (x5_ : Int32) (x6_ : Int32) (h : AH) : rn E d 67 158 [some (vR (some t)), some (vI x1_), some (vI x2_), some (vI x3_), some (vI x4_), some (vI x5_), some (vI x6_)] [] h =
    hs (x6_ + 1) fun x1 =>
    rn E d 67 110 [some (vR (some t)), some (vI x1_), some (vI x2_), some (vI x3_), some (vI x4_), some (vI x5_), some (vI x1)] [] h := rn_b (b := b67_158) rfl
theorem e67_164 (E : EV) (d : Nat) (t : Nat) (x1_ : Int32) (x2_ : Int32) (x3_ : Int32) (x4_ : Int32) (x5_ : Int32) (x6_ : Int32) (h : AH) : rn E d 67 164 [some (vR (some t)), some (vI x1_), some (vI x2_), some (vI x3_), some (vI x4_), some (vI x5_), some (vI x6_)] [] h =
    hs (x5_ + 1) fun x1 =>
    rn E d 67 100 [some (vR (some t)), some (vI x1_), some (vI x2_), some (vI x3_), some (vI x4_), some (vI x1), some (vI x6_)] [] h := rn_b (b := b67_164) rfl
theorem e67_170 (E : EV) (d : Nat) (t : Nat) (x1_ : Int32) (x2_ : Int32) (x3_ : Int32) (x4_ : Int32) (x5_ : Int32) (o6_ : Option AV) (h : AH) : rn E d 67 170 [some (vR (some t)), some (vI x1_), some (vI x2_), some (vI x3_), some (vI x4_), some (vI x5_), o6_] [] h =
    hs (x4_ + 1) fun x1 =>
    rn E d 67 86 [some (vR (some t)), some (vI x1_), some (vI x2_), some (vI x3_), some (vI x1), some (vI x5_), o6_] [] h := rn_b (b := b67_170) rfl
theorem e67_176 (E : EV) (d : Nat) (t : Nat) (x1_ : Int32) (x2_ : Int32) (x3_ : Int32) (x4_ : Int32) (o5_ : Option AV) (o6_ : Option AV) (h : AH) : rn E d 67 176 [some (vR (some t)), some (vI x1_), some (vI x2_), some (vI x3_), some (vI x4_), o5_, o6_] [] h =
    some (Sum.inl (some (vI (-1))), h) := rn_b (b := b67_176) rfl
/-! 68 FastPlane.untell(I)Z -/
theorem c68 (E : EV) (d : Nat) (t : Nat) (x1_ : Int32) (h : AH) : cal E (d + 1) 68 [vR (some t), vI x1_] h = rn E d 68 0 [some (vR (some t)), some (vI x1_)] [] h := cal_rn rfl rfl
theorem e68_0 (E : EV) (d : Nat) (t : Nat) (x1_ : Int32) (h : AH) : rn E d 68 0 [some (vR (some t)), some (vI x1_)] [] h =
    if x1_ < 0 then rn E d 68 40 [some (vR (some t)), some (vI x1_)] [] h else
    gd (h.kd t == 1) (gd (rcO 76 [vR (h.R t 6)] h) (cI (cal E d 268 [vR (h.R t 6)] h) th fun v1 h =>
    if v1 ≤ x1_ then rn E d 68 40 [some (vR (some t)), some (vI x1_)] [] h else
    gd (h.kd t == 1) (gd (rcO 82 [vR (h.R t 6), vI x1_] h) (cR (cal E d 264 [vR (h.R t 6), vI x1_] h) th fun r2 h =>
    gd (okC 53 h r2) (gd (h.kd t == 1) (gd (rcO 132 [vR r2, vI (h.I t 7)] h) (cI (cal E d 100 [vR r2, vI (h.I t 7)] h) th fun v3 h =>
    if v3 = 0 then rn E d 68 40 [some (vR (some t)), some (vI x1_)] [] h else
    rn E d 68 41 [some (vR (some t)), some (vI x1_)] [vI 1] h))))))) := rn_b (b := b68_0) rfl
theorem e68_40 (E : EV) (d : Nat) (t : Nat) (x1_ : Int32) (h : AH) : rn E d 68 40 [some (vR (some t)), some (vI x1_)] [] h =
    rn E d 68 41 [some (vR (some t)), some (vI x1_)] [vI 0] h := rn_b (b := b68_40) rfl
theorem e68_41 (E : EV) (d : Nat) (t : Nat) (x1_ : Int32) (s0_ : Int32) (h : AH) : rn E d 68 41 [some (vR (some t)), some (vI x1_)] [vI s0_] h =
    gd (decide (s0_ = 0) || decide (s0_ = 1)) (some (Sum.inl (some (vI s0_)), h)) := rn_b (b := b68_41) rfl
/-! 69 FastPlane.worth(III)I -/
theorem c69 (E : EV) (d : Nat) (t : Nat) (x1_ : Int32) (x2_ : Int32) (x3_ : Int32) (h : AH) : cal E (d + 1) 69 [vR (some t), vI x1_, vI x2_, vI x3_] h = rn E d 69 0 [some (vR (some t)), some (vI x1_), some (vI x2_), some (vI x3_), none] [] h := cal_rn rfl rfl
theorem e69_0 (E : EV) (d : Nat) (t : Nat) (x1_ : Int32) (x2_ : Int32) (x3_ : Int32) (o4_ : Option AV) (h : AH) : rn E d 69 0 [some (vR (some t)), some (vI x1_), some (vI x2_), some (vI x3_), o4_] [] h =
    gd (h.kd t == 1) (cI (cal E d 7 [vR (some t), vI x1_, vI x2_, vI x3_] h) th fun v1 h =>
    if v1 < 0 then rn E d 69 31 [some (vR (some t)), some (vI x1_), some (vI x2_), some (vI x3_), some (vI v1)] [] h else
    gd (h.kd t == 1) (nn (h.R t 17) fun a2 =>
    gd (decide (105 ≤ h.kd a2) && inb (x1_ + 1) (h.ln a2)) (nn (h.R a2 (x1_ + 1).toNatClampNeg) fun a3 =>
    gd (h.kd a3 == 101 && inb v1 (h.ln a3)) (if (h.I a3 v1.toNatClampNeg) = 1000000 then
    rn E d 69 31 [some (vR (some t)), some (vI x1_), some (vI x2_), some (vI x3_), some (vI v1)] [] h
    else rn E d 69 37 [some (vR (some t)), some (vI x1_), some (vI x2_), some (vI x3_), some (vI v1)] [] h)))) := rn_b (b := b69_0) rfl
theorem e69_31 (E : EV) (d : Nat) (t : Nat) (x1_ : Int32) (x2_ : Int32) (x3_ : Int32) (x4_ : Int32) (h : AH) : rn E d 69 31 [some (vR (some t)), some (vI x1_), some (vI x2_), some (vI x3_), some (vI x4_)] [] h =
    rn E d 69 56 [some (vR (some t)), some (vI x1_), some (vI x2_), some (vI x3_), some (vI x4_)] [vI 1000000] h := rn_b (b := b69_31) rfl
theorem e69_37 (E : EV) (d : Nat) (t : Nat) (x1_ : Int32) (x2_ : Int32) (x3_ : Int32) (x4_ : Int32) (h : AH) : rn E d 69 37 [some (vR (some t)), some (vI x1_), some (vI x2_), some (vI x3_), some (vI x4_)] [] h =
    gd (!decide ((100 : Int32) = 0)) (gd (!decide ((9 : Int32) = 0)) (gd (h.kd t == 1) (nn (h.R t 17) fun a1 =>
    gd (decide (105 ≤ h.kd a1) && inb (x1_ + 1) (h.ln a1)) (nn (h.R a1 (x1_ + 1).toNatClampNeg) fun a2 =>
    gd (h.kd a2 == 101 && inb x4_ (h.ln a2)) (rn E d 69 56 [some (vR (some t)), some (vI x1_), some (vI x2_), some (vI x3_), some (vI x4_)] [vI (((x3_ - x3_ / 100 * 100) / 9) + (h.I a2 x4_.toNatClampNeg))] h))))) := rn_b (b := b69_37) rfl
theorem e69_56 (E : EV) (d : Nat) (t : Nat) (x1_ : Int32) (x2_ : Int32) (x3_ : Int32) (x4_ : Int32) (s0_ : Int32) (h : AH) : rn E d 69 56 [some (vR (some t)), some (vI x1_), some (vI x2_), some (vI x3_), some (vI x4_)] [vI s0_] h =
    some (Sum.inl (some (vI s0_)), h) := rn_b (b := b69_56) rfl
