/-! ALL BLOCKS ARE SIMULATED -/
set_option maxRecDepth 100000
theorem AllB.at {M : Nat} : ∀ {L : List (Nat × BLK)}, AllB M L → ∀ {pc : Nat} {b : BLK}, lkp L pc = some b → SimL M b.2.2 b.1 b.2.1 pc
  | [], _, _, _, h => nomatch h
  | q :: l, hA, pc, b, h => by
    unfold lkp at h
    cases hb : Nat.beq q.1 pc with
    | true =>
      rw [hb] at h
      cases h
      have e : q.1 = pc := Nat.eq_of_beq_eq_true hb
      subst e
      exact hA.1
    | false =>
      rw [hb] at h
      exact AllB.at hA.2 h
def AllP (M : Nat) : List (List (Nat × BLK)) → Prop
  | [] => True
  | L :: r => AllB M L ∧ AllP (M + 1) r
theorem AllP.at : ∀ {P : List (List (Nat × BLK))} {M : Nat}, AllP M P → ∀ i, AllB (M + i) (lnth [] P i)
  | [], _, _, _ => trivial
  | _ :: _, _, h, 0 => h.1
  | _ :: r, M, h, i + 1 => by
    have := AllP.at h.2 i
    rw [show M + 1 + i = M + (i + 1) by omega] at this
    exact this
def AllQ (j : Nat) : List (List (List (Nat × BLK))) → Prop
  | [] => True
  | P :: r => AllP (16 * j) P ∧ AllQ (j + 1) r
theorem AllQ.at : ∀ {Q : List (List (List (Nat × BLK)))} {j : Nat}, AllQ j Q → ∀ i, AllP (16 * (j + i)) (lnth [] Q i)
  | [], _, _, _ => trivial
  | _ :: _, _, h, 0 => h.1
  | _ :: r, j, h, i + 1 => by
    have := AllQ.at h.2 i
    rw [show j + 1 + i = j + (i + 1) by omega] at this
    exact this
theorem sp0 : AllP 0 pgc0 := ⟨sm0, sm1, sm2, sm3, sm4, sm5, sm6, sm7, sm8, sm9, sm10, sm11, sm12, sm13, sm14, sm15, trivial⟩
theorem sp1 : AllP 16 pgc1 := ⟨sm16, sm17, sm18, sm19, sm20, sm21, sm22, sm23, sm24, sm25, sm26, sm27, sm28, sm29, sm30, sm31, trivial⟩
theorem sp2 : AllP 32 pgc2 := ⟨sm32, sm33, sm34, sm35, sm36, sm37, sm38, sm39, sm40, sm41, sm42, sm43, sm44, sm45, sm46, sm47, trivial⟩
theorem sp3 : AllP 48 pgc3 := ⟨sm48, sm49, sm50, sm51, sm52, sm53, sm54, sm55, sm56, sm57, sm58, sm59, sm60, sm61, sm62, sm63, trivial⟩
theorem sp4 : AllP 64 pgc4 := ⟨sm64, sm65, sm66, sm67, sm68, sm69, sm70, sm71, sm72, sm73, sm74, sm75, sm76, sm77, sm78, sm79, trivial⟩
theorem sp5 : AllP 80 pgc5 := ⟨sm80, sm81, sm82, sm83, sm84, sm85, sm86, sm87, sm88, sm89, sm90, sm91, sm92, sm93, sm94, sm95, trivial⟩
theorem sp6 : AllP 96 pgc6 := ⟨sm96, sm97, sm98, sm99, sm100, sm101, sm102, sm103, sm104, sm105, sm106, sm107, sm108, sm109, sm110, sm111, trivial⟩
theorem sp7 : AllP 112 pgc7 := ⟨sm112, sm113, sm114, sm115, sm116, sm117, sm118, sm119, sm120, sm121, sm122, sm123, sm124, sm125, sm126, sm127, trivial⟩
theorem sp8 : AllP 128 pgc8 := ⟨sm128, sm129, sm130, sm131, sm132, sm133, sm134, sm135, sm136, sm137, sm138, sm139, sm140, sm141, sm142, sm143, trivial⟩
theorem sp9 : AllP 144 pgc9 := ⟨sm144, sm145, sm146, sm147, sm148, sm149, sm150, sm151, sm152, sm153, sm154, sm155, sm156, sm157, sm158, sm159, trivial⟩
theorem sp10 : AllP 160 pgc10 := ⟨sm160, sm161, sm162, sm163, sm164, sm165, sm166, sm167, sm168, sm169, sm170, sm171, sm172, sm173, sm174, sm175, trivial⟩
theorem sp11 : AllP 176 pgc11 := ⟨sm176, sm177, sm178, sm179, sm180, sm181, sm182, sm183, sm184, sm185, sm186, sm187, sm188, sm189, sm190, sm191, trivial⟩
theorem sp12 : AllP 192 pgc12 := ⟨sm192, sm193, sm194, sm195, sm196, sm197, sm198, sm199, sm200, sm201, sm202, sm203, sm204, sm205, sm206, sm207, trivial⟩
theorem sp13 : AllP 208 pgc13 := ⟨sm208, sm209, sm210, sm211, sm212, sm213, sm214, sm215, sm216, sm217, sm218, sm219, sm220, sm221, sm222, sm223, trivial⟩
theorem sp14 : AllP 224 pgc14 := ⟨sm224, sm225, sm226, sm227, sm228, sm229, sm230, sm231, sm232, sm233, sm234, sm235, sm236, sm237, sm238, sm239, trivial⟩
theorem sp15 : AllP 240 pgc15 := ⟨sm240, sm241, sm242, sm243, sm244, sm245, sm246, sm247, sm248, sm249, sm250, sm251, sm252, sm253, sm254, sm255, trivial⟩
theorem sp16 : AllP 256 pgc16 := ⟨sm256, sm257, sm258, sm259, sm260, sm261, sm262, sm263, sm264, sm265, sm266, sm267, sm268, sm269, sm270, sm271, trivial⟩
theorem sp17 : AllP 272 pgc17 := ⟨sm272, sm273, sm274, sm275, sm276, sm277, sm278, sm279, sm280, sm281, sm282, sm283, sm284, sm285, sm286, sm287, trivial⟩
theorem sp18 : AllP 288 pgc18 := ⟨sm288, sm289, sm290, sm291, sm292, sm293, sm294, sm295, sm296, sm297, sm298, sm299, sm300, trivial⟩
theorem sq_all : AllQ 0 pgs := ⟨sp0, sp1, sp2, sp3, sp4, sp5, sp6, sp7, sp8, sp9, sp10, sp11, sp12, sp13, sp14, sp15, sp16, sp17, sp18, trivial⟩
theorem plain_all : (List.range 301).all (fun M => plainFor (mnm M)) = true := by decide +kernel
theorem good_all : Good := by
  refine ⟨fun M pc b h => ?_, fun M hM => List.all_eq_true.mp plain_all M (List.mem_range.mpr hM)⟩
  have h1 := (sq_all.at (M / 16)).at (M % 16)
  have e : 16 * (0 + M / 16) + M % 16 = M := by omega
  rw [e] at h1
  exact h1.at h
