/-! forms of methods 579..601, printed by gen/forms.py -/
set_option maxRecDepth 100000
/-! 579 StatuteHouseModel.together()I -/
theorem cd_579 : fi_code 579 = prog_69_method_127_code := rfl
theorem hx_579 : ∀ pc, fi_hat 579 pc = none := fun pc => by unfold fi_hat; rw [show fi_hh 579 = [] from rfl]; rfl
theorem rt_579 : fi_ret 579 = some .int := rfl
theorem nl_579 : fi_nl 579 = 7 := rfl
theorem ow_579 : fi_ow 579 = 29 := rfl
theorem cl_579 : fj_cutT.getD 579 [] = [(9, [0, 1, 2]), (18, [0, 1, 3, 4]), (30, [0, 1, 3, 4, 5]), (87, [0, 1, 3, 4, 5]), (92, [0, 1, 3, 4, 5]), (114, [0, 1, 3, 4, 5]), (120, [0, 1, 3, 4]), (136, [0, 1])] := rfl
theorem cut_579_9 : fj_cut 579 9 = some [0, 1, 2] := by decide +kernel
noncomputable def c_579_9 (d : Nat) (x1 x2 : Int) (h : fi_H) : fk_R := gG (fj_run d) 579 9 [(0, (4, 602)), (1, (0, x1)), (2, (0, x2))] [] h
theorem cut_579_18 : fj_cut 579 18 = some [0, 1, 3, 4] := by decide +kernel
noncomputable def c_579_18 (d : Nat) (x1 x3 x4 : Int) (h : fi_H) : fk_R := gG (fj_run d) 579 18 [(0, (4, 602)), (1, (0, x1)), (3, (0, x3)), (4, (0, x4))] [] h
theorem cut_579_30 : fj_cut 579 30 = some [0, 1, 3, 4, 5] := by decide +kernel
noncomputable def c_579_30 (d : Nat) (x1 x3 x4 x5 : Int) (h : fi_H) : fk_R := gG (fj_run d) 579 30 [(0, (4, 602)), (1, (0, x1)), (3, (0, x3)), (4, (0, x4)), (5, (0, x5))] [] h
theorem cut_579_87 : fj_cut 579 87 = some [0, 1, 3, 4, 5] := by decide +kernel
noncomputable def c_579_87 (d : Nat) (x1 x3 x4 x5 : Int) (h : fi_H) : fk_R := gG (fj_run d) 579 87 [(0, (4, 602)), (1, (0, x1)), (3, (0, x3)), (4, (0, x4)), (5, (0, x5))] [] h
theorem cut_579_92 : fj_cut 579 92 = some [0, 1, 3, 4, 5] := by decide +kernel
noncomputable def c_579_92 (d : Nat) (x1 x3 x4 x5 s0 : Int) (h : fi_H) : fk_R := gG (fj_run d) 579 92 [(0, (4, 602)), (1, (0, x1)), (3, (0, x3)), (4, (0, x4)), (5, (0, x5))] [(0, s0)] h
theorem cut_579_114 : fj_cut 579 114 = some [0, 1, 3, 4, 5] := by decide +kernel
noncomputable def c_579_114 (d : Nat) (x1 x3 x4 x5 : Int) (h : fi_H) : fk_R := gG (fj_run d) 579 114 [(0, (4, 602)), (1, (0, x1)), (3, (0, x3)), (4, (0, x4)), (5, (0, x5))] [] h
theorem cut_579_120 : fj_cut 579 120 = some [0, 1, 3, 4] := by decide +kernel
noncomputable def c_579_120 (d : Nat) (x1 x3 x4 : Int) (h : fi_H) : fk_R := gG (fj_run d) 579 120 [(0, (4, 602)), (1, (0, x1)), (3, (0, x3)), (4, (0, x4))] [] h
theorem cut_579_136 : fj_cut 579 136 = some [0, 1] := by decide +kernel
noncomputable def c_579_136 (d : Nat) (x1 s0 : Int) (h : fi_H) : fk_R := gG (fj_run d) 579 136 [(0, (4, 602)), (1, (0, x1))] [(0, s0)] h
theorem e_579_9 (d : Nat) (x1 x2 : Int) {h : fi_H} (H : Shp h) : c_579_9 d x1 x2 h =
  if x2 = 0 then
    some (.inl (some (0, x1)), h)
  else
    c_579_18 d x1 x1 0 h := by
  unfold c_579_9
  exact
    have D : fk_D 579 [(9, some [0, 1, 2], .iload_n 2, 1, 0, 0, 0), (10, none, .ifCond .eq 130, 3, 140, 0, 0), (13, none, .iload_n 1, 1, 0, 0, 0), (14, none, .istore_n 3, 1, 0, 0, 0), (15, none, .iconst 0, 1, 0, 0, 0), (16, none, .istore 4, 2, 0, 0, 0)] := fq_of2 cd_579 ow_579 cl_579 rfl (pc := 9) (by decide +kernel)
    j_ildn (pc := 9) D rfl rfl rfl fun D =>
    j_ifeq (pc := 10) D rfl (fun q =>
      have D : fk_D 579 [(140, none, .iload_n 1, 1, 0, 0, 0), (141, none, .ireturn, 1, 0, 0, 0)] := fq_of2 cd_579 ow_579 cl_579 rfl (pc := 140) (by decide +kernel)
      j_ildn (pc := 140) D rfl rfl rfl fun D =>
      j_iret D rt_579) (fun q D =>
      j_ildn (pc := 13) D rfl rfl rfl fun D =>
      j_istn (pc := 14) (L' := [(3, (0, x1)), (0, (4, 602)), (1, (0, x1)), (2, (0, x2))]) D rfl nl_579 rfl rfl fun D =>
      j_ic (pc := 15) D rfl fun D =>
      j_ist (pc := 16) (L' := [(4, (0, 0)), (3, (0, x1)), (0, (4, 602)), (1, (0, x1)), (2, (0, x2))]) D rfl nl_579 rfl rfl fun D =>
      fk_jump cut_579_18 rfl rfl)
theorem e_579_18 (d : Nat) (x1 x3 x4 : Int) {h : fi_H} (H : Shp h) : c_579_18 d x1 x3 x4 h =
  if x4 < h 413 602 0 then
    c_579_30 d x1 x3 x4 0 h
  else
    if x1 = x3 then
      c_579_136 d x1 0 h
    else
      c_579_136 d x1 1 h := by
  unfold c_579_18
  exact
    have D : fk_D 579 [(18, some [0, 1, 3, 4], .iload 4, 2, 0, 0, 0), (20, none, .aload_n 0, 1, 0, 0, 0), (21, none, .getfield 579, 3, 413, 129, 10), (24, none, .if_icmp .ge 102, 3, 126, 0, 0), (27, none, .iconst 0, 1, 0, 0, 0), (28, none, .istore 5, 2, 0, 0, 0)] := fq_of2 cd_579 ow_579 cl_579 rfl (pc := 18) (by decide +kernel)
    j_ild (pc := 18) D rfl rfl rfl fun D =>
    j_aldn (pc := 20) D rfl rfl rfl fun D =>
    j_gf (pc := 21) (a := 602) D rfl rfl (by decide) rfl (s0_602 H) rfl fun D =>
    j_ige (pc := 24) D rfl (fun q D =>
      j_ic (pc := 27) D rfl fun D =>
      j_ist (pc := 28) (L' := [(5, (0, 0)), (0, (4, 602)), (1, (0, x1)), (3, (0, x3)), (4, (0, x4))]) D rfl nl_579 rfl rfl fun D =>
      fk_jump cut_579_30 rfl rfl) (fun q =>
      have D : fk_D 579 [(126, none, .iload_n 1, 1, 0, 0, 0), (127, none, .iload_n 3, 1, 0, 0, 0), (128, none, .if_icmp .eq 7, 3, 135, 0, 0), (131, none, .iconst 1, 1, 0, 1, 0), (132, none, .goto 4, 3, 136, 0, 0)] := fq_of2 cd_579 ow_579 cl_579 rfl (pc := 126) (by decide +kernel)
      j_ildn (pc := 126) D rfl rfl rfl fun D =>
      j_ildn (pc := 127) D rfl rfl rfl fun D =>
      j_ieq (pc := 128) D rfl (fun q =>
        have D : fk_D 579 [(135, none, .iconst 0, 1, 0, 0, 0)] := fq_of2 cd_579 ow_579 cl_579 rfl (pc := 135) (by decide +kernel)
        j_ic (pc := 135) D rfl fun D =>
        fk_jump cut_579_136 rfl rfl) (fun q D =>
        j_ic (pc := 131) D rfl fun D =>
        j_goto (pc := 132) D rfl <|
        fk_jump cut_579_136 rfl rfl))
theorem e_579_30 (d : Nat) (x1 x3 x4 x5 : Int) {h : fi_H} (H : Shp h) : c_579_30 d x1 x3 x4 x5 h =
  if x5 < h 459 602 0 then
    if 0 ≤ x4 ∧ x4 < 41 then
    if h 10 610 x4.toNat = 3 then
      ca_ (fj_run d 580 h [(4, 602), (0, x5), (0, x4)]) 0
        (fun v3 h2 =>
        if v3 = 0 then
          c_579_114 d x1 x3 x4 x5 h2
        else
          if ia_ (sr_ x1 x5) 1 = 1 then
            c_579_87 d x1 x3 x4 x5 h2
          else
            if ia_ (sr_ x1 (wI (h2 492 602 0))) 1 = 1 then
              c_579_87 d x1 x3 x4 x5 h2
            else
              c_579_92 d x1 x3 x4 x5 0 h2)
        (fun q4 h2 => tx_ q4 h2)
    else
      c_579_120 d x1 x3 x4 h
    else none
  else
    c_579_120 d x1 x3 x4 h := by
  unfold c_579_30
  exact
    have D : fk_D 579 [(30, some [0, 1, 3, 4, 5], .iload 5, 2, 0, 0, 0), (32, none, .aload_n 0, 1, 0, 0, 0), (33, none, .getfield 169, 3, 459, 129, 10), (36, none, .if_icmp .ge 84, 3, 120, 0, 0), (39, none, .aload_n 0, 1, 0, 0, 0), (40, none, .getfield 40, 3, 406, 129, 12), (43, none, .iload 4, 2, 0, 0, 0), (45, none, .iaload, 1, 0, 0, 0), (46, none, .iconst 3, 1, 0, 3, 0), (47, none, .if_icmp .ne 73, 3, 120, 0, 0), (50, none, .aload_n 0, 1, 0, 0, 0), (51, none, .iload 5, 2, 0, 0, 0), (53, none, .iload 4, 2, 0, 0, 0), (55, none, .invokevirtual 887, 3, 2, 405, 1), (58, none, .ifCond .ne 6, 3, 64, 0, 0), (61, none, .goto 53, 3, 114, 0, 0)] := fq_of2 cd_579 ow_579 cl_579 rfl (pc := 30) (by decide +kernel)
    j_ild (pc := 30) D rfl rfl rfl fun D =>
    j_aldn (pc := 32) D rfl rfl rfl fun D =>
    j_gf (pc := 33) (a := 602) D rfl rfl (by decide) rfl (s0_602 H) rfl fun D =>
    j_ige (pc := 36) D rfl (fun q D =>
      j_aldn (pc := 39) D rfl rfl rfl fun D =>
      j_gfc (pc := 40) (a := 602) D rfl rfl (by decide) rfl (s0_602 H) rfl (sf_406_602 H) fun D =>
      j_ild (pc := 43) D rfl rfl rfl fun D =>
      j_al (pc := 45) (a := 610) (e := 10) D rfl rfl rfl (by decide) (s0_610 H) (s1_610 H) ⟨rfl, rfl, rfl⟩ rfl gn fun qb1 D =>
      j_ic (pc := 46) D rfl fun D =>
      j_ine (pc := 47) D rfl (fun q D =>
        j_aldn (pc := 50) D rfl rfl rfl fun D =>
        j_ild (pc := 51) D rfl rfl rfl fun D =>
        j_ild (pc := 53) D rfl rfl rfl fun D =>
        j_iv (pc := 55) (m := 580) (dd := 405) (a := [(0, x5), (0, x4)]) (rest := []) D rfl rfl rfl rfl rfl (by decide) (s0_602 H) (by decide +kernel) (fun v3 h2 e1 D =>
          have T := fj_run_ok _ _ _ _ _ _ H.1 e1
          have H := shp_st H T
          j_ifne (pc := 58) D rfl (fun q D =>
            j_goto (pc := 61) D rfl <|
            fk_jump cut_579_114 rfl rfl) (fun q =>
            have D : fk_D 579 [(64, none, .iload_n 1, 1, 0, 0, 0), (65, none, .iload 5, 2, 0, 0, 0), (67, none, .ishr, 1, 0, 0, 0), (68, none, .iconst 1, 1, 0, 1, 0), (69, none, .iand, 1, 0, 0, 0), (70, none, .iconst 1, 1, 0, 1, 0), (71, none, .if_icmp .eq 16, 3, 87, 0, 0), (74, none, .iload_n 1, 1, 0, 0, 0), (75, none, .aload_n 0, 1, 0, 0, 0), (76, none, .getfield 869, 3, 492, 129, 11), (79, none, .l2i, 1, 0, 0, 0), (80, none, .ishr, 1, 0, 0, 0), (81, none, .iconst 1, 1, 0, 1, 0), (82, none, .iand, 1, 0, 0, 0), (83, none, .iconst 1, 1, 0, 1, 0), (84, none, .if_icmp .ne 7, 3, 91, 0, 0)] := fq_of2 cd_579 ow_579 cl_579 rfl (pc := 64) (by decide +kernel)
            j_ildn (pc := 64) D rfl rfl rfl fun D =>
            j_ild (pc := 65) D rfl rfl rfl fun D =>
            j_ishr (pc := 67) D rfl fun D =>
            j_ic (pc := 68) D rfl fun D =>
            j_iand (pc := 69) D rfl fun D =>
            j_ic (pc := 70) D rfl fun D =>
            j_ieq (pc := 71) D rfl (fun q =>
              fk_jump cut_579_87 rfl rfl) (fun q D =>
              j_ildn (pc := 74) D rfl rfl rfl fun D =>
              j_aldn (pc := 75) D rfl rfl rfl fun D =>
              j_gf (pc := 76) (a := 602) D rfl rfl (by decide) rfl (s0_602 H) rfl fun D =>
              j_l2i (pc := 79) D rfl fun D =>
              j_ishr (pc := 80) D rfl fun D =>
              j_ic (pc := 81) D rfl fun D =>
              j_iand (pc := 82) D rfl fun D =>
              j_ic (pc := 83) D rfl fun D =>
              j_ine (pc := 84) D rfl (fun q D =>
                fk_jump cut_579_87 rfl rfl) (fun q =>
                have D : fk_D 579 [(91, none, .iconst 0, 1, 0, 0, 0)] := fq_of2 cd_579 ow_579 cl_579 rfl (pc := 91) (by decide +kernel)
                j_ic (pc := 91) D rfl fun D =>
                fk_jump cut_579_92 rfl rfl)))) (fun q4 h2 e1 =>
          j_tx (hx_579 _))) (fun q =>
        fk_jump cut_579_120 rfl rfl)) (fun q =>
      fk_jump cut_579_120 rfl rfl)
theorem e_579_87 (d : Nat) (x1 x3 x4 x5 : Int) {h : fi_H} (H : Shp h) : c_579_87 d x1 x3 x4 x5 h =
  c_579_92 d x1 x3 x4 x5 1 h := by
  unfold c_579_87
  exact
    have D : fk_D 579 [(87, some [0, 1, 3, 4, 5], .iconst 1, 1, 0, 1, 0), (88, none, .goto 4, 3, 92, 0, 0)] := fq_of2 cd_579 ow_579 cl_579 rfl (pc := 87) (by decide +kernel)
    j_ic (pc := 87) D rfl fun D =>
    j_goto (pc := 88) D rfl <|
    fk_jump cut_579_92 rfl rfl
theorem e_579_92 (d : Nat) (x1 x3 x4 x5 s0 : Int) {h : fi_H} (H : Shp h) : c_579_92 d x1 x3 x4 x5 s0 h =
  if s0 = 0 then
    c_579_114 d x1 x3 x4 x5 h
  else
    lt_ (io_ x1 (io_ (sl_ 1 x5) (sl_ 1 (wI (h 492 602 0))))) fun y1 =>
    c_579_114 d y1 x3 x4 x5 h := by
  unfold c_579_92
  exact
    have D : fk_D 579 [(92, some [0, 1, 3, 4, 5], .istore 6, 2, 0, 0, 0), (94, none, .iload 6, 2, 0, 0, 0), (96, none, .ifCond .eq 18, 3, 114, 0, 0), (99, none, .iload_n 1, 1, 0, 0, 0), (100, none, .iconst 1, 1, 0, 1, 0), (101, none, .iload 5, 2, 0, 0, 0), (103, none, .ishl, 1, 0, 0, 0), (104, none, .iconst 1, 1, 0, 1, 0), (105, none, .aload_n 0, 1, 0, 0, 0), (106, none, .getfield 869, 3, 492, 129, 11), (109, none, .l2i, 1, 0, 0, 0), (110, none, .ishl, 1, 0, 0, 0), (111, none, .ior, 1, 0, 0, 0), (112, none, .ior, 1, 0, 0, 0), (113, none, .istore_n 1, 1, 0, 0, 0)] := fq_of2 cd_579 ow_579 cl_579 rfl (pc := 92) (by decide +kernel)
    j_ist (pc := 92) (L' := [(6, (0, s0)), (0, (4, 602)), (1, (0, x1)), (3, (0, x3)), (4, (0, x4)), (5, (0, x5))]) D rfl nl_579 rfl rfl fun D =>
    j_ild (pc := 94) D rfl rfl rfl fun D =>
    j_ifeq (pc := 96) D rfl (fun q =>
      fk_jump cut_579_114 rfl rfl) (fun q D =>
      j_ildn (pc := 99) D rfl rfl rfl fun D =>
      j_ic (pc := 100) D rfl fun D =>
      j_ild (pc := 101) D rfl rfl rfl fun D =>
      j_ishl (pc := 103) D rfl fun D =>
      j_ic (pc := 104) D rfl fun D =>
      j_aldn (pc := 105) D rfl rfl rfl fun D =>
      j_gf (pc := 106) (a := 602) D rfl rfl (by decide) rfl (s0_602 H) rfl fun D =>
      j_l2i (pc := 109) D rfl fun D =>
      j_ishl (pc := 110) D rfl fun D =>
      j_ior (pc := 111) D rfl fun D =>
      j_ior (pc := 112) D rfl fun D =>
      j_stl (pc := 113) (L' := fun y1 => [(1, (0, y1)), (6, (0, s0)), (0, (4, 602)), (3, (0, x3)), (4, (0, x4)), (5, (0, x5))]) D rfl ⟨rfl, rfl, rfl, rfl⟩ nl_579 rfl (fun _ => rfl) fun y1 ey1 D =>
      fk_jump cut_579_114 rfl rfl)
theorem e_579_114 (d : Nat) (x1 x3 x4 x5 : Int) {h : fi_H} (H : Shp h) : c_579_114 d x1 x3 x4 x5 h =
  c_579_30 d x1 x3 x4 (wI (x5 + 1)) h := by
  unfold c_579_114
  exact
    have D : fk_D 579 [(114, some [0, 1, 3, 4, 5], .iinc 5 1, 3, 0, 1, 0), (117, none, .goto (-87), 3, 30, 0, 0)] := fq_of2 cd_579 ow_579 cl_579 rfl (pc := 114) (by decide +kernel)
    j_inc (pc := 114) (L' := [(5, (0, wI (x5 + 1))), (0, (4, 602)), (1, (0, x1)), (3, (0, x3)), (4, (0, x4))]) D rfl rfl rfl (by decide +kernel) rfl fun D =>
    j_goto (pc := 117) D rfl <|
    fk_jump cut_579_30 rfl rfl
theorem e_579_120 (d : Nat) (x1 x3 x4 : Int) {h : fi_H} (H : Shp h) : c_579_120 d x1 x3 x4 h =
  c_579_18 d x1 x3 (wI (x4 + 1)) h := by
  unfold c_579_120
  exact
    have D : fk_D 579 [(120, some [0, 1, 3, 4], .iinc 4 1, 3, 0, 1, 0), (123, none, .goto (-105), 3, 18, 0, 0)] := fq_of2 cd_579 ow_579 cl_579 rfl (pc := 120) (by decide +kernel)
    j_inc (pc := 120) (L' := [(4, (0, wI (x4 + 1))), (0, (4, 602)), (1, (0, x1)), (3, (0, x3))]) D rfl rfl rfl (by decide +kernel) rfl fun D =>
    j_goto (pc := 123) D rfl <|
    fk_jump cut_579_18 rfl rfl
theorem e_579_136 (d : Nat) (x1 s0 : Int) {h : fi_H} (H : Shp h) : c_579_136 d x1 s0 h =
  c_579_9 d x1 s0 h := by
  unfold c_579_136
  exact
    have D : fk_D 579 [(136, some [0, 1], .istore_n 2, 1, 0, 0, 0), (137, none, .goto (-128), 3, 9, 0, 0)] := fq_of2 cd_579 ow_579 cl_579 rfl (pc := 136) (by decide +kernel)
    j_istn (pc := 136) (L' := [(2, (0, s0)), (0, (4, 602)), (1, (0, x1))]) D rfl nl_579 rfl rfl fun D =>
    j_goto (pc := 137) D rfl <|
    fk_jump cut_579_9 rfl rfl
theorem m_579 (d : Nat) {h : fi_H} (H : Shp h) : fj_run (d + 1) 579 h [(4, 602)] =
  c_579_9 d (sl_ 1 (h 484 602 0)) 1 h := by
  rw [fj_run_eq d (by decide) h [(4, 602)] (Nat.le_of_ble_eq_true (by rw [nl_579]; rfl))]
  show gG (fj_run d) 579 0 [(0, (4, 602))] [] h = _
  exact
    have D : fk_D 579 [(0, none, .iconst 1, 1, 0, 1, 0), (1, none, .aload_n 0, 1, 0, 0, 0), (2, none, .getfield 863, 3, 484, 129, 10), (5, none, .ishl, 1, 0, 0, 0), (6, none, .istore_n 1, 1, 0, 0, 0), (7, none, .iconst 1, 1, 0, 1, 0), (8, none, .istore_n 2, 1, 0, 0, 0)] := fq_of2 cd_579 ow_579 cl_579 rfl (pc := 0) (by decide +kernel)
    j_ic (pc := 0) D rfl fun D =>
    j_aldn (pc := 1) D rfl rfl rfl fun D =>
    j_gf (pc := 2) (a := 602) D rfl rfl (by decide) rfl (s0_602 H) rfl fun D =>
    j_ishl (pc := 5) D rfl fun D =>
    j_istn (pc := 6) (L' := [(1, (0, sl_ 1 (h 484 602 0))), (0, (4, 602))]) D rfl nl_579 rfl rfl fun D =>
    j_ic (pc := 7) D rfl fun D =>
    j_istn (pc := 8) (L' := [(2, (0, 1)), (1, (0, sl_ 1 (h 484 602 0))), (0, (4, 602))]) D rfl nl_579 rfl rfl fun D =>
    fk_jump cut_579_9 rfl rfl
/-! 580 StatuteHouseModel.isTold(II)Z -/
theorem cd_580 : fi_code 580 = prog_69_method_98_code := rfl
theorem hx_580 : ∀ pc, fi_hat 580 pc = none := fun pc => by unfold fi_hat; rw [show fi_hh 580 = [] from rfl]; rfl
theorem rt_580 : fi_ret 580 = some .boolean := rfl
theorem nl_580 : fi_nl 580 = 4 := rfl
theorem ow_580 : fi_ow 580 = 29 := rfl
theorem cl_580 : fj_cutT.getD 580 [] = [(2, [0, 1, 2, 3]), (62, [0, 1, 2, 3]), (68, [0, 1, 2]), (75, [0, 1, 2, 3]), (176, [0, 1, 2, 3])] := rfl
theorem cut_580_2 : fj_cut 580 2 = some [0, 1, 2, 3] := by decide +kernel
noncomputable def c_580_2 (d : Nat) (x1 x2 x3 : Int) (h : fi_H) : fk_R := gG (fj_run d) 580 2 [(0, (4, 602)), (1, (0, x1)), (2, (0, x2)), (3, (0, x3))] [] h
theorem cut_580_62 : fj_cut 580 62 = some [0, 1, 2, 3] := by decide +kernel
noncomputable def c_580_62 (d : Nat) (x1 x2 x3 : Int) (h : fi_H) : fk_R := gG (fj_run d) 580 62 [(0, (4, 602)), (1, (0, x1)), (2, (0, x2)), (3, (0, x3))] [] h
theorem cut_580_68 : fj_cut 580 68 = some [0, 1, 2] := by decide +kernel
noncomputable def c_580_68 (d : Nat) (x1 x2 : Int) (h : fi_H) : fk_R := gG (fj_run d) 580 68 [(0, (4, 602)), (1, (0, x1)), (2, (0, x2))] [] h
theorem cut_580_75 : fj_cut 580 75 = some [0, 1, 2, 3] := by decide +kernel
noncomputable def c_580_75 (d : Nat) (x1 x2 x3 : Int) (h : fi_H) : fk_R := gG (fj_run d) 580 75 [(0, (4, 602)), (1, (0, x1)), (2, (0, x2)), (3, (0, x3))] [] h
theorem cut_580_176 : fj_cut 580 176 = some [0, 1, 2, 3] := by decide +kernel
noncomputable def c_580_176 (d : Nat) (x1 x2 x3 : Int) (h : fi_H) : fk_R := gG (fj_run d) 580 176 [(0, (4, 602)), (1, (0, x1)), (2, (0, x2)), (3, (0, x3))] [] h
theorem e_580_2 (d : Nat) (x1 x2 x3 : Int) {h : fi_H} (H : Shp h) : c_580_2 d x1 x2 x3 h =
  if h 474 602 0 = 0 then
    c_580_68 d x1 x2 h
  else
    if x3 < h 473 602 0 then
      if 0 ≤ x3 ∧ x3 < 9 then
      if h 10 659 x3.toNat = x1 then
        if h 10 660 x3.toNat = x2 then
          lt_ (fi_upd h 492 602 0 (h 11 661 x3.toNat)) fun h2 =>
          lt_ (fi_upd h2 493 602 0 (h2 11 662 x3.toNat)) fun h3 =>
          some (.inl (some (0, 1)), h3)
        else
          c_580_62 d x1 x2 x3 h
      else
        c_580_62 d x1 x2 x3 h
      else none
    else
      c_580_68 d x1 x2 h := by
  unfold c_580_2
  exact
    have D : fk_D 580 [(2, some [0, 1, 2, 3], .aload_n 0, 1, 0, 0, 0), (3, none, .getfield 208, 3, 474, 129, 4), (6, none, .ifCond .eq 62, 3, 68, 0, 0), (9, none, .iload_n 3, 1, 0, 0, 0), (10, none, .aload_n 0, 1, 0, 0, 0), (11, none, .getfield 875, 3, 473, 129, 10), (14, none, .if_icmp .ge 54, 3, 68, 0, 0), (17, none, .aload_n 0, 1, 0, 0, 0), (18, none, .getfield 196, 3, 469, 129, 12), (21, none, .iload_n 3, 1, 0, 0, 0), (22, none, .iaload, 1, 0, 0, 0), (23, none, .iload_n 1, 1, 0, 0, 0), (24, none, .if_icmp .ne 38, 3, 62, 0, 0), (27, none, .aload_n 0, 1, 0, 0, 0), (28, none, .getfield 199, 3, 470, 129, 12), (31, none, .iload_n 3, 1, 0, 0, 0), (32, none, .iaload, 1, 0, 0, 0), (33, none, .iload_n 2, 1, 0, 0, 0), (34, none, .if_icmp .eq 6, 3, 40, 0, 0), (37, none, .goto 25, 3, 62, 0, 0)] := fq_of2 cd_580 ow_580 cl_580 rfl (pc := 2) (by decide +kernel)
    j_aldn (pc := 2) D rfl rfl rfl fun D =>
    j_gf (pc := 3) (a := 602) D rfl rfl (by decide) rfl (s0_602 H) rfl fun D =>
    j_ifeq (pc := 6) D rfl (fun q =>
      fk_jump cut_580_68 rfl rfl) (fun q D =>
      j_ildn (pc := 9) D rfl rfl rfl fun D =>
      j_aldn (pc := 10) D rfl rfl rfl fun D =>
      j_gf (pc := 11) (a := 602) D rfl rfl (by decide) rfl (s0_602 H) rfl fun D =>
      j_ige (pc := 14) D rfl (fun q D =>
        j_aldn (pc := 17) D rfl rfl rfl fun D =>
        j_gfc (pc := 18) (a := 602) D rfl rfl (by decide) rfl (s0_602 H) rfl (sf_469_602 H) fun D =>
        j_ildn (pc := 21) D rfl rfl rfl fun D =>
        j_al (pc := 22) (a := 659) (e := 10) D rfl rfl rfl (by decide) (s0_659 H) (s1_659 H) ⟨rfl, rfl, rfl⟩ rfl gn fun qb1 D =>
        j_ildn (pc := 23) D rfl rfl rfl fun D =>
        j_ine (pc := 24) D rfl (fun q D =>
          j_aldn (pc := 27) D rfl rfl rfl fun D =>
          j_gfc (pc := 28) (a := 602) D rfl rfl (by decide) rfl (s0_602 H) rfl (sf_470_602 H) fun D =>
          j_ildn (pc := 31) D rfl rfl rfl fun D =>
          j_al (pc := 32) (a := 660) (e := 10) D rfl rfl rfl (by decide) (s0_660 H) (s1_660 H) ⟨rfl, rfl, rfl⟩ rfl (gy qb1) fun q D =>
          j_ildn (pc := 33) D rfl rfl rfl fun D =>
          j_ieq (pc := 34) D rfl (fun q =>
            have D : fk_D 580 [(40, none, .aload_n 0, 1, 0, 0, 0), (41, none, .aload_n 0, 1, 0, 0, 0), (42, none, .getfield 202, 3, 471, 129, 12), (45, none, .iload_n 3, 1, 0, 0, 0), (46, none, .laload, 1, 0, 0, 0), (47, none, .putfield 869, 3, 492, 129, 11), (50, none, .aload_n 0, 1, 0, 0, 0), (51, none, .aload_n 0, 1, 0, 0, 0), (52, none, .getfield 205, 3, 472, 129, 12), (55, none, .iload_n 3, 1, 0, 0, 0), (56, none, .laload, 1, 0, 0, 0), (57, none, .putfield 872, 3, 493, 129, 11), (60, none, .iconst 1, 1, 0, 1, 0), (61, none, .ireturn, 1, 0, 0, 0)] := fq_of2 cd_580 ow_580 cl_580 rfl (pc := 40) (by decide +kernel)
            j_aldn (pc := 40) D rfl rfl rfl fun D =>
            j_aldn (pc := 41) D rfl rfl rfl fun D =>
            j_gfc (pc := 42) (a := 602) D rfl rfl (by decide) rfl (s0_602 H) rfl (sf_471_602 H) fun D =>
            j_ildn (pc := 45) D rfl rfl rfl fun D =>
            j_al (pc := 46) (a := 661) (e := 11) D rfl rfl rfl (by decide) (s0_661 H) (s1_661 H) ⟨rfl, rfl, rfl⟩ rfl (gy qb1) fun q D =>
            j_pf (pc := 47) (a := 602) D rfl rfl rfl (s0_602 H) rfl rfl (gy (by decide)) (gy rfl) fun h2 eh2 S D =>
            have T := fj_hs_ok H.1 S
            have H := shp_st H T
            j_aldn (pc := 50) D rfl rfl rfl fun D =>
            j_aldn (pc := 51) D rfl rfl rfl fun D =>
            j_gfc (pc := 52) (a := 602) D rfl rfl (by decide) rfl (s0_602 H) rfl (sf_472_602 H) fun D =>
            j_ildn (pc := 55) D rfl rfl rfl fun D =>
            j_al (pc := 56) (a := 662) (e := 11) D rfl rfl rfl (by decide) (s0_662 H) (s1_662 H) ⟨rfl, rfl, rfl⟩ rfl (gy qb1) fun q D =>
            j_pf (pc := 57) (a := 602) D rfl rfl rfl (s0_602 H) rfl rfl (gy (by decide)) (gy rfl) fun h3 eh3 S D =>
            have T := fj_hs_ok H.1 S
            have H := shp_st H T
            j_ic (pc := 60) D rfl fun D =>
            j_zret D rt_580 (gy (by decide))) (fun q D =>
            j_goto (pc := 37) D rfl <|
            fk_jump cut_580_62 rfl rfl)) (fun q =>
          fk_jump cut_580_62 rfl rfl)) (fun q =>
        fk_jump cut_580_68 rfl rfl))
theorem e_580_62 (d : Nat) (x1 x2 x3 : Int) {h : fi_H} (H : Shp h) : c_580_62 d x1 x2 x3 h =
  c_580_2 d x1 x2 (wI (x3 + 1)) h := by
  unfold c_580_62
  exact
    have D : fk_D 580 [(62, some [0, 1, 2, 3], .iinc 3 1, 3, 0, 1, 0), (65, none, .goto (-63), 3, 2, 0, 0)] := fq_of2 cd_580 ow_580 cl_580 rfl (pc := 62) (by decide +kernel)
    j_inc (pc := 62) (L' := [(3, (0, wI (x3 + 1))), (0, (4, 602)), (1, (0, x1)), (2, (0, x2))]) D rfl rfl rfl (by decide +kernel) rfl fun D =>
    j_goto (pc := 65) D rfl <|
    fk_jump cut_580_2 rfl rfl
theorem e_580_68 (d : Nat) (x1 x2 : Int) {h : fi_H} (H : Shp h) : c_580_68 d x1 x2 h =
  c_580_75 d x1 x2 (wI ((h 468 602 0) - 1)) h := by
  unfold c_580_68
  exact
    have D : fk_D 580 [(68, some [0, 1, 2], .aload_n 0, 1, 0, 0, 0), (69, none, .getfield 878, 3, 468, 129, 10), (72, none, .iconst 1, 1, 0, 1, 0), (73, none, .isub, 1, 0, 0, 0), (74, none, .istore_n 3, 1, 0, 0, 0)] := fq_of2 cd_580 ow_580 cl_580 rfl (pc := 68) (by decide +kernel)
    j_aldn (pc := 68) D rfl rfl rfl fun D =>
    j_gf (pc := 69) (a := 602) D rfl rfl (by decide) rfl (s0_602 H) rfl fun D =>
    j_ic (pc := 72) D rfl fun D =>
    j_isub (pc := 73) D rfl fun D =>
    j_istn (pc := 74) (L' := [(3, (0, wI ((h 468 602 0) - 1))), (0, (4, 602)), (1, (0, x1)), (2, (0, x2))]) D rfl nl_580 rfl rfl fun D =>
    fk_jump cut_580_75 rfl rfl
theorem e_580_75 (d : Nat) (x1 x2 x3 : Int) {h : fi_H} (H : Shp h) : c_580_75 d x1 x2 x3 h =
  if x3 < 0 then
    some (.inl (some (0, 0)), h)
  else
    if 0 ≤ x3 ∧ x3 < 500 then
    if h 10 651 x3.toNat = x1 then
      if h 10 652 x3.toNat = x2 then
        if h 483 602 0 < h 10 657 x3.toNat then
          c_580_176 d x1 x2 x3 h
        else
          if h 485 602 0 < h 10 655 x3.toNat then
            c_580_176 d x1 x2 x3 h
          else
            if h 10 656 x3.toNat < h 485 602 0 then
              c_580_176 d x1 x2 x3 h
            else
              lt_ (fi_upd h 492 602 0 (h 11 653 x3.toNat)) fun h2 =>
              lt_ (fi_upd h2 493 602 0 (h2 11 654 x3.toNat)) fun h3 =>
              if h3 4 658 x3.toNat = 0 then
                some (.inl (some (0, 1)), h3)
              else
                some (.inl (some (0, 0)), h3)
      else
        c_580_176 d x1 x2 x3 h
    else
      c_580_176 d x1 x2 x3 h
    else none := by
  unfold c_580_75
  exact
    have D : fk_D 580 [(75, some [0, 1, 2, 3], .iload_n 3, 1, 0, 0, 0), (76, none, .ifCond .lt 106, 3, 182, 0, 0), (79, none, .aload_n 0, 1, 0, 0, 0), (80, none, .getfield 172, 3, 460, 129, 12), (83, none, .iload_n 3, 1, 0, 0, 0), (84, none, .iaload, 1, 0, 0, 0), (85, none, .iload_n 1, 1, 0, 0, 0), (86, none, .if_icmp .ne 90, 3, 176, 0, 0), (89, none, .aload_n 0, 1, 0, 0, 0), (90, none, .getfield 175, 3, 461, 129, 12), (93, none, .iload_n 3, 1, 0, 0, 0), (94, none, .iaload, 1, 0, 0, 0), (95, none, .iload_n 2, 1, 0, 0, 0), (96, none, .if_icmp .ne 80, 3, 176, 0, 0), (99, none, .aload_n 0, 1, 0, 0, 0), (100, none, .getfield 190, 3, 466, 129, 12), (103, none, .iload_n 3, 1, 0, 0, 0), (104, none, .iaload, 1, 0, 0, 0), (105, none, .aload_n 0, 1, 0, 0, 0), (106, none, .getfield 881, 3, 483, 129, 10)] := fq_of2 cd_580 ow_580 cl_580 rfl (pc := 75) (by decide +kernel)
    j_ildn (pc := 75) D rfl rfl rfl fun D =>
    j_iflt (pc := 76) D rfl (fun q =>
      have D : fk_D 580 [(182, none, .iconst 0, 1, 0, 0, 0), (183, none, .ireturn, 1, 0, 0, 0)] := fq_of2 cd_580 ow_580 cl_580 rfl (pc := 182) (by decide +kernel)
      j_ic (pc := 182) D rfl fun D =>
      j_zret D rt_580 (gy (by decide))) (fun q D =>
      j_aldn (pc := 79) D rfl rfl rfl fun D =>
      j_gfc (pc := 80) (a := 602) D rfl rfl (by decide) rfl (s0_602 H) rfl (sf_460_602 H) fun D =>
      j_ildn (pc := 83) D rfl rfl rfl fun D =>
      j_al (pc := 84) (a := 651) (e := 10) D rfl rfl rfl (by decide) (s0_651 H) (s1_651 H) ⟨rfl, rfl, rfl⟩ rfl gn fun qb1 D =>
      j_ildn (pc := 85) D rfl rfl rfl fun D =>
      j_ine (pc := 86) D rfl (fun q D =>
        j_aldn (pc := 89) D rfl rfl rfl fun D =>
        j_gfc (pc := 90) (a := 602) D rfl rfl (by decide) rfl (s0_602 H) rfl (sf_461_602 H) fun D =>
        j_ildn (pc := 93) D rfl rfl rfl fun D =>
        j_al (pc := 94) (a := 652) (e := 10) D rfl rfl rfl (by decide) (s0_652 H) (s1_652 H) ⟨rfl, rfl, rfl⟩ rfl (gy qb1) fun q D =>
        j_ildn (pc := 95) D rfl rfl rfl fun D =>
        j_ine (pc := 96) D rfl (fun q D =>
          j_aldn (pc := 99) D rfl rfl rfl fun D =>
          j_gfc (pc := 100) (a := 602) D rfl rfl (by decide) rfl (s0_602 H) rfl (sf_466_602 H) fun D =>
          j_ildn (pc := 103) D rfl rfl rfl fun D =>
          j_al (pc := 104) (a := 657) (e := 10) D rfl rfl rfl (by decide) (s0_657 H) (s1_657 H) ⟨rfl, rfl, rfl⟩ rfl (gy qb1) fun q D =>
          j_aldn (pc := 105) D rfl rfl rfl fun D =>
          j_gf (pc := 106) (a := 602) D rfl rfl (by decide) rfl (s0_602 H) rfl fun D =>
          have D : fk_D 580 [(109, none, .if_icmp .gt 67, 3, 176, 0, 0), (112, none, .aload_n 0, 1, 0, 0, 0), (113, none, .getfield 866, 3, 485, 129, 10), (116, none, .aload_n 0, 1, 0, 0, 0), (117, none, .getfield 184, 3, 464, 129, 12), (120, none, .iload_n 3, 1, 0, 0, 0), (121, none, .iaload, 1, 0, 0, 0), (122, none, .if_icmp .lt 54, 3, 176, 0, 0), (125, none, .aload_n 0, 1, 0, 0, 0), (126, none, .getfield 866, 3, 485, 129, 10), (129, none, .aload_n 0, 1, 0, 0, 0), (130, none, .getfield 187, 3, 465, 129, 12), (133, none, .iload_n 3, 1, 0, 0, 0), (134, none, .iaload, 1, 0, 0, 0), (135, none, .if_icmp .le 6, 3, 141, 0, 0), (138, none, .goto 38, 3, 176, 0, 0)] := fq_of2 cd_580 ow_580 cl_580 rfl (pc := 109) (by decide +kernel)
          j_igt (pc := 109) D rfl (fun q =>
            fk_jump cut_580_176 rfl rfl) (fun q D =>
            j_aldn (pc := 112) D rfl rfl rfl fun D =>
            j_gf (pc := 113) (a := 602) D rfl rfl (by decide) rfl (s0_602 H) rfl fun D =>
            j_aldn (pc := 116) D rfl rfl rfl fun D =>
            j_gfc (pc := 117) (a := 602) D rfl rfl (by decide) rfl (s0_602 H) rfl (sf_464_602 H) fun D =>
            j_ildn (pc := 120) D rfl rfl rfl fun D =>
            j_al (pc := 121) (a := 655) (e := 10) D rfl rfl rfl (by decide) (s0_655 H) (s1_655 H) ⟨rfl, rfl, rfl⟩ rfl (gy qb1) fun q D =>
            j_ilt (pc := 122) D rfl (fun q =>
              fk_jump cut_580_176 rfl rfl) (fun q D =>
              j_aldn (pc := 125) D rfl rfl rfl fun D =>
              j_gf (pc := 126) (a := 602) D rfl rfl (by decide) rfl (s0_602 H) rfl fun D =>
              j_aldn (pc := 129) D rfl rfl rfl fun D =>
              j_gfc (pc := 130) (a := 602) D rfl rfl (by decide) rfl (s0_602 H) rfl (sf_465_602 H) fun D =>
              j_ildn (pc := 133) D rfl rfl rfl fun D =>
              j_al (pc := 134) (a := 656) (e := 10) D rfl rfl rfl (by decide) (s0_656 H) (s1_656 H) ⟨rfl, rfl, rfl⟩ rfl (gy qb1) fun q D =>
              j_ile (pc := 135) D rfl (fun q D =>
                j_goto (pc := 138) D rfl <|
                fk_jump cut_580_176 rfl rfl) (fun q =>
                have D : fk_D 580 [(141, none, .aload_n 0, 1, 0, 0, 0), (142, none, .aload_n 0, 1, 0, 0, 0), (143, none, .getfield 178, 3, 462, 129, 12), (146, none, .iload_n 3, 1, 0, 0, 0), (147, none, .laload, 1, 0, 0, 0), (148, none, .putfield 869, 3, 492, 129, 11), (151, none, .aload_n 0, 1, 0, 0, 0), (152, none, .aload_n 0, 1, 0, 0, 0), (153, none, .getfield 181, 3, 463, 129, 12), (156, none, .iload_n 3, 1, 0, 0, 0), (157, none, .laload, 1, 0, 0, 0), (158, none, .putfield 872, 3, 493, 129, 11), (161, none, .aload_n 0, 1, 0, 0, 0), (162, none, .getfield 193, 3, 467, 129, 12), (165, none, .iload_n 3, 1, 0, 0, 0), (166, none, .baload, 1, 0, 0, 0), (167, none, .ifCond .ne 7, 3, 174, 0, 0), (170, none, .iconst 1, 1, 0, 1, 0), (171, none, .goto 4, 3, 175, 0, 0)] := fq_of2 cd_580 ow_580 cl_580 rfl (pc := 141) (by decide +kernel)
                j_aldn (pc := 141) D rfl rfl rfl fun D =>
                j_aldn (pc := 142) D rfl rfl rfl fun D =>
                j_gfc (pc := 143) (a := 602) D rfl rfl (by decide) rfl (s0_602 H) rfl (sf_462_602 H) fun D =>
                j_ildn (pc := 146) D rfl rfl rfl fun D =>
                j_al (pc := 147) (a := 653) (e := 11) D rfl rfl rfl (by decide) (s0_653 H) (s1_653 H) ⟨rfl, rfl, rfl⟩ rfl (gy qb1) fun q D =>
                j_pf (pc := 148) (a := 602) D rfl rfl rfl (s0_602 H) rfl rfl (gy (by decide)) (gy rfl) fun h2 eh2 S D =>
                have T := fj_hs_ok H.1 S
                have H := shp_st H T
                j_aldn (pc := 151) D rfl rfl rfl fun D =>
                j_aldn (pc := 152) D rfl rfl rfl fun D =>
                j_gfc (pc := 153) (a := 602) D rfl rfl (by decide) rfl (s0_602 H) rfl (sf_463_602 H) fun D =>
                j_ildn (pc := 156) D rfl rfl rfl fun D =>
                j_al (pc := 157) (a := 654) (e := 11) D rfl rfl rfl (by decide) (s0_654 H) (s1_654 H) ⟨rfl, rfl, rfl⟩ rfl (gy qb1) fun q D =>
                j_pf (pc := 158) (a := 602) D rfl rfl rfl (s0_602 H) rfl rfl (gy (by decide)) (gy rfl) fun h3 eh3 S D =>
                have T := fj_hs_ok H.1 S
                have H := shp_st H T
                j_aldn (pc := 161) D rfl rfl rfl fun D =>
                j_gfc (pc := 162) (a := 602) D rfl rfl (by decide) rfl (s0_602 H) rfl (sf_467_602 H) fun D =>
                j_ildn (pc := 165) D rfl rfl rfl fun D =>
                j_al (pc := 166) (a := 658) (e := 4) D rfl rfl rfl (by decide) (s0_658 H) (s1_658 H) ⟨rfl, rfl, rfl⟩ rfl (gy qb1) fun q D =>
                j_ifne (pc := 167) D rfl (fun q D =>
                  j_ic (pc := 170) D rfl fun D =>
                  j_goto (pc := 171) D rfl <|
                  have D : fk_D 580 [(175, none, .ireturn, 1, 0, 0, 0)] := fq_of2 cd_580 ow_580 cl_580 rfl (pc := 175) (by decide +kernel)
                  j_zret D rt_580 (gy (by decide))) (fun q =>
                  have D : fk_D 580 [(174, none, .iconst 0, 1, 0, 0, 0), (175, none, .ireturn, 1, 0, 0, 0)] := fq_of2 cd_580 ow_580 cl_580 rfl (pc := 174) (by decide +kernel)
                  j_ic (pc := 174) D rfl fun D =>
                  j_zret D rt_580 (gy (by decide))))))) (fun q =>
          fk_jump cut_580_176 rfl rfl)) (fun q =>
        fk_jump cut_580_176 rfl rfl))
theorem e_580_176 (d : Nat) (x1 x2 x3 : Int) {h : fi_H} (H : Shp h) : c_580_176 d x1 x2 x3 h =
  c_580_75 d x1 x2 (wI (x3 + (-1))) h := by
  unfold c_580_176
  exact
    have D : fk_D 580 [(176, some [0, 1, 2, 3], .iinc 3 (-1), 3, 0, (-1), 0), (179, none, .goto (-104), 3, 75, 0, 0)] := fq_of2 cd_580 ow_580 cl_580 rfl (pc := 176) (by decide +kernel)
    j_inc (pc := 176) (L' := [(3, (0, wI (x3 + (-1)))), (0, (4, 602)), (1, (0, x1)), (2, (0, x2))]) D rfl rfl rfl (by decide +kernel) rfl fun D =>
    j_goto (pc := 179) D rfl <|
    fk_jump cut_580_75 rfl rfl
theorem m_580 (d : Nat) (x1 x2 : Int) {h : fi_H} (H : Shp h) : fj_run (d + 1) 580 h [(4, 602), (0, x1), (0, x2)] =
  c_580_2 d x1 x2 0 h := by
  rw [fj_run_eq d (by decide) h [(4, 602), (0, x1), (0, x2)] (Nat.le_of_ble_eq_true (by rw [nl_580]; rfl))]
  show gG (fj_run d) 580 0 [(0, (4, 602)), (1, (0, x1)), (2, (0, x2))] [] h = _
  exact
    have D : fk_D 580 [(0, none, .iconst 0, 1, 0, 0, 0), (1, none, .istore_n 3, 1, 0, 0, 0)] := fq_of2 cd_580 ow_580 cl_580 rfl (pc := 0) (by decide +kernel)
    j_ic (pc := 0) D rfl fun D =>
    j_istn (pc := 1) (L' := [(3, (0, 0)), (0, (4, 602)), (1, (0, x1)), (2, (0, x2))]) D rfl nl_580 rfl rfl fun D =>
    fk_jump cut_580_2 rfl rfl
/-! 581 StatuteHouseModel.addTo(IJJ)V -/
theorem cd_581 : fi_code 581 = prog_69_method_129_code := rfl
theorem hx_581 : ∀ pc, fi_hat 581 pc = none := fun pc => by unfold fi_hat; rw [show fi_hh 581 = [] from rfl]; rfl
theorem rt_581 : fi_ret 581 = none := rfl
theorem nl_581 : fi_nl 581 = 6 := rfl
theorem ow_581 : fi_ow 581 = 29 := rfl
theorem cl_581 : fj_cutT.getD 581 [] = [] := rfl
theorem m_581 (d : Nat) (x1 x2 x4 : Int) {h : fi_H} (H : Shp h) : fj_run (d + 1) 581 h [(4, 602), (0, x1), (1, x2), (1, x4)] =
  if x1 = 6 then
    ca_ (fj_run d 582 h [(1, x2)]) 3
      (fun v2 h1 =>
      ca_ (fj_run d 582 h1 [(1, h1 492 602 0)]) 3
        (fun v5 h4 =>
        dn_ (FP.dadd (fi_D v2) (fi_D v5)) fun v7 =>
        cv_ (fj_run d 583 h4 [(4, 602), (3, v7)])
          (fun h8 =>
          some (.inl none, h8))
          (fun q10 h8 => tx_ q10 h8))
        (fun q6 h4 => tx_ q6 h4))
      (fun q3 h1 => tx_ q3 h1)
  else
    cv_ (fj_run d 584 h [(4, 602), (1, 1), (0, x1), (1, x2), (1, x4), (0, x1), (1, h 492 602 0), (1, h 493 602 0)])
      (fun h11 =>
      some (.inl none, h11))
      (fun q13 h11 => tx_ q13 h11) := by
  rw [fj_run_eq d (by decide) h [(4, 602), (0, x1), (1, x2), (1, x4)] (Nat.le_of_ble_eq_true (by rw [nl_581]; rfl))]
  show gG (fj_run d) 581 0 [(0, (4, 602)), (1, (0, x1)), (2, (1, x2)), (4, (1, x4))] [] h = _
  exact
    have D : fk_D 581 [(0, none, .iload_n 1, 1, 0, 0, 0), (1, none, .bipush 6, 2, 0, 6, 0), (3, none, .if_icmp .ne 22, 3, 25, 0, 0), (6, none, .aload_n 0, 1, 0, 0, 0), (7, none, .lload_n 2, 1, 0, 0, 0), (8, none, .invokestatic 960, 3, 1, 582, 4), (11, none, .aload_n 0, 1, 0, 0, 0), (12, none, .getfield 869, 3, 492, 129, 11), (15, none, .invokestatic 960, 3, 1, 582, 4), (18, none, .dadd, 1, 0, 0, 0), (19, none, .invokevirtual 997, 3, 1, 426, 0), (22, none, .goto 21, 3, 43, 0, 0)] := fq_of2 cd_581 ow_581 cl_581 rfl (pc := 0) (by decide +kernel)
    j_ildn (pc := 0) D rfl rfl rfl fun D =>
    j_bp (pc := 1) D rfl fun D =>
    j_ine (pc := 3) D rfl (fun q D =>
      j_aldn (pc := 6) D rfl rfl rfl fun D =>
      j_lldn (pc := 7) D rfl rfl rfl fun D =>
      j_is (pc := 8) (m := 582) (a := [(1, x2)]) (rest := [(4, 602)]) D rfl rfl rfl rfl (fun v2 h1 e1 D =>
        have T := fj_run_ok _ _ _ _ _ _ H.1 e1
        have H := shp_st H T
        j_aldn (pc := 11) D rfl rfl rfl fun D =>
        j_gf (pc := 12) (a := 602) D rfl rfl (by decide) rfl (s0_602 H) rfl fun D =>
        j_is (pc := 15) (m := 582) (a := [(1, h1 492 602 0)]) (rest := [(3, v2), (4, 602)]) D rfl rfl rfl rfl (fun v5 h4 e1 D =>
          have T := fj_run_ok _ _ _ _ _ _ H.1 e1
          have H := shp_st H T
          j_dop (pc := 18) (u := FP.dadd (fi_D v2) (fi_D v5)) D rfl rfl rfl fun D v7 =>
          j_ivv (pc := 19) (m := 583) (dd := 426) (a := [(3, v7)]) (rest := []) D rfl rfl rfl rfl rfl (by decide) (s0_602 H) (by decide +kernel) (fun h8 e1 D =>
            have T := fj_run_ok _ _ _ _ _ _ H.1 e1
            have H := shp_st H T
            j_goto (pc := 22) D rfl <|
            have D : fk_D 581 [(43, none, .return_, 1, 0, 0, 0)] := fq_of2 cd_581 ow_581 cl_581 rfl (pc := 43) (by decide +kernel)
            j_vret D rt_581) (fun q10 h8 e1 =>
            j_tx (hx_581 _))) (fun q6 h4 e1 =>
          j_tx (hx_581 _))) (fun q3 h1 e1 =>
        j_tx (hx_581 _))) (fun q =>
      have D : fk_D 581 [(25, none, .aload_n 0, 1, 0, 0, 0), (26, none, .lconst 1, 1, 0, 0, 0), (27, none, .iload_n 1, 1, 0, 0, 0), (28, none, .lload_n 2, 1, 0, 0, 0), (29, none, .lload 4, 2, 0, 0, 0), (31, none, .iload_n 1, 1, 0, 0, 0), (32, none, .aload_n 0, 1, 0, 0, 0), (33, none, .getfield 869, 3, 492, 129, 11), (36, none, .aload_n 0, 1, 0, 0, 0), (37, none, .getfield 872, 3, 493, 129, 11), (40, none, .invokevirtual 1026, 3, 7, 431, 0), (43, none, .return_, 1, 0, 0, 0)] := fq_of2 cd_581 ow_581 cl_581 rfl (pc := 25) (by decide +kernel)
      j_aldn (pc := 25) D rfl rfl rfl fun D =>
      j_c0 (pc := 26) (v := (1, 1)) D rfl rfl (by decide +kernel) fun D =>
      j_ildn (pc := 27) D rfl rfl rfl fun D =>
      j_lldn (pc := 28) D rfl rfl rfl fun D =>
      j_lld (pc := 29) D rfl rfl rfl fun D =>
      j_ildn (pc := 31) D rfl rfl rfl fun D =>
      j_aldn (pc := 32) D rfl rfl rfl fun D =>
      j_gf (pc := 33) (a := 602) D rfl rfl (by decide) rfl (s0_602 H) rfl fun D =>
      j_aldn (pc := 36) D rfl rfl rfl fun D =>
      j_gf (pc := 37) (a := 602) D rfl rfl (by decide) rfl (s0_602 H) rfl fun D =>
      j_ivv (pc := 40) (m := 584) (dd := 431) (a := [(1, 1), (0, x1), (1, x2), (1, x4), (0, x1), (1, h 492 602 0), (1, h 493 602 0)]) (rest := []) D rfl rfl rfl rfl rfl (by decide) (s0_602 H) (by decide +kernel) (fun h11 e1 D =>
        have T := fj_run_ok _ _ _ _ _ _ H.1 e1
        have H := shp_st H T
        j_vret D rt_581) (fun q13 h11 e1 =>
        j_tx (hx_581 _)))
/-! 582 StatuteHouseModel.real(J)D -/
theorem cd_582 : fi_code 582 = prog_69_method_110_code := rfl
theorem hx_582 : ∀ pc, fi_hat 582 pc = none := fun pc => by unfold fi_hat; rw [show fi_hh 582 = [] from rfl]; rfl
theorem rt_582 : fi_ret 582 = some .double := rfl
theorem nl_582 : fi_nl 582 = 2 := rfl
theorem ow_582 : fi_ow 582 = 29 := rfl
theorem cl_582 : fj_cutT.getD 582 [] = [] := rfl
theorem m_582 (d : Nat) (x0 : Int) {h : fi_H} (H : Shp h) : fj_run (d + 1) 582 h [(1, x0)] =
  ca_ (fj_run d 1001 h [(1, x0)]) 3
    (fun v2 h1 =>
    some (.inl (some (3, v2)), h1))
    (fun q3 h1 => tx_ q3 h1) := by
  rw [fj_run_eq d (by decide) h [(1, x0)] (Nat.le_of_ble_eq_true (by rw [nl_582]; rfl))]
  show gG (fj_run d) 582 0 [(0, (1, x0))] [] h = _
  exact
    have D : fk_D 582 [(0, none, .lload_n 0, 1, 0, 0, 0), (1, none, .invokestatic 950, 3, 1, 1001, 4), (4, none, .dreturn, 1, 0, 0, 0)] := fq_of2 cd_582 ow_582 cl_582 rfl (pc := 0) (by decide +kernel)
    j_lldn (pc := 0) D rfl rfl rfl fun D =>
    j_is (pc := 1) (m := 1001) (a := [(1, x0)]) (rest := []) D rfl rfl rfl rfl (fun v2 h1 e1 D =>
      have T := fj_run_ok _ _ _ _ _ _ H.1 e1
      have H := shp_st H T
      j_dret D rt_582) (fun q3 h1 e1 =>
      j_tx (hx_582 _))
/-! 583 StatuteHouseModel.setReal(D)V -/
theorem cd_583 : fi_code 583 = prog_69_method_106_code := rfl
theorem hx_583 : ∀ pc, fi_hat 583 pc = none := fun pc => by unfold fi_hat; rw [show fi_hh 583 = [] from rfl]; rfl
theorem rt_583 : fi_ret 583 = none := rfl
theorem nl_583 : fi_nl 583 = 3 := rfl
theorem ow_583 : fi_ow 583 = 29 := rfl
theorem cl_583 : fj_cutT.getD 583 [] = [(22, [0, 1]), (28, [0, 1])] := rfl
theorem cut_583_22 : fj_cut 583 22 = some [0, 1] := by decide +kernel
noncomputable def c_583_22 (d : Nat) (x1 : Int) (h : fi_H) : fk_R := gG (fj_run d) 583 22 [(0, (4, 602)), (1, (3, x1))] [] h
theorem cut_583_28 : fj_cut 583 28 = some [0, 1] := by decide +kernel
noncomputable def c_583_28 (d : Nat) (x1 : Int) (h : fi_H) : fk_R := gG (fj_run d) 583 28 [(0, (4, 602)), (1, (3, x1))] [] h
theorem e_583_22 (d : Nat) (x1 : Int) {h : fi_H} (H : Shp h) : c_583_22 d x1 h =
  cv_ (fj_run d 577 h [(4, 602), (0, 9)])
    (fun h1 =>
    c_583_28 d x1 h1)
    (fun q3 h1 => tx_ q3 h1) := by
  unfold c_583_22
  exact
    have D : fk_D 583 [(22, some [0, 1], .aload_n 0, 1, 0, 0, 0), (23, none, .bipush 9, 2, 0, 9, 0), (25, none, .invokevirtual 854, 3, 1, 403, 0)] := fq_of2 cd_583 ow_583 cl_583 rfl (pc := 22) (by decide +kernel)
    j_aldn (pc := 22) D rfl rfl rfl fun D =>
    j_bp (pc := 23) D rfl fun D =>
    j_ivv (pc := 25) (m := 577) (dd := 403) (a := [(0, 9)]) (rest := []) D rfl rfl rfl rfl rfl (by decide) (s0_602 H) (by decide +kernel) (fun h1 e1 D =>
      have T := fj_run_ok _ _ _ _ _ _ H.1 e1
      have H := shp_st H T
      fk_jump cut_583_28 rfl rfl) (fun q3 h1 e1 =>
      j_tx (hx_583 _))
theorem e_583_28 (d : Nat) (x1 : Int) {h : fi_H} (H : Shp h) : c_583_28 d x1 h =
  ca_ (fj_run d 323 h [(3, x1)]) 1
    (fun v2 h1 =>
    lt_ (fi_upd h1 492 602 0 v2) fun h4 =>
    lt_ (fi_upd h4 493 602 0 0) fun h5 =>
    some (.inl none, h5))
    (fun q3 h1 => tx_ q3 h1) := by
  unfold c_583_28
  exact
    have D : fk_D 583 [(28, some [0, 1], .aload_n 0, 1, 0, 0, 0), (29, none, .dload_n 1, 1, 0, 0, 0), (30, none, .invokestatic 942, 3, 1, 323, 2), (33, none, .putfield 869, 3, 492, 129, 11), (36, none, .aload_n 0, 1, 0, 0, 0), (37, none, .lconst 0, 1, 0, 0, 0), (38, none, .putfield 872, 3, 493, 129, 11), (41, none, .return_, 1, 0, 0, 0)] := fq_of2 cd_583 ow_583 cl_583 rfl (pc := 28) (by decide +kernel)
    j_aldn (pc := 28) D rfl rfl rfl fun D =>
    j_dldn (pc := 29) D rfl rfl rfl fun D =>
    j_is (pc := 30) (m := 323) (a := [(3, x1)]) (rest := [(4, 602)]) D rfl rfl rfl rfl (fun v2 h1 e1 D =>
      have T := fj_run_ok _ _ _ _ _ _ H.1 e1
      have H := shp_st H T
      j_pf (pc := 33) (a := 602) D rfl rfl rfl (s0_602 H) rfl rfl (gy (by decide)) (gy rfl) fun h4 eh4 S D =>
      have T := fj_hs_ok H.1 S
      have H := shp_st H T
      j_aldn (pc := 36) D rfl rfl rfl fun D =>
      j_c0 (pc := 37) (v := (1, 0)) D rfl rfl (by decide +kernel) fun D =>
      j_pf (pc := 38) (a := 602) D rfl rfl rfl (s0_602 H) rfl rfl (gy (by decide)) (gy rfl) fun h5 eh5 S D =>
      have T := fj_hs_ok H.1 S
      have H := shp_st H T
      j_vret D rt_583) (fun q3 h1 e1 =>
      j_tx (hx_583 _))
theorem m_583 (d : Nat) (x1 : Int) {h : fi_H} (H : Shp h) : fj_run (d + 1) 583 h [(4, 602), (3, x1)] =
  if dl_ x1 x1 = 0 then
    if 0 < dl_ x1 9218868437227405311 then
      c_583_22 d x1 h
    else
      if dg_ x1 18442240474082181119 < 0 then
        c_583_22 d x1 h
      else
        c_583_28 d x1 h
  else
    c_583_22 d x1 h := by
  rw [fj_run_eq d (by decide) h [(4, 602), (3, x1)] (Nat.le_of_ble_eq_true (by rw [nl_583]; rfl))]
  show gG (fj_run d) 583 0 [(0, (4, 602)), (1, (3, x1))] [] h = _
  exact
    have D : fk_D 583 [(0, none, .dload_n 1, 1, 0, 0, 0), (1, none, .dload_n 1, 1, 0, 0, 0), (2, none, .dcmp .l, 1, 0, 0, 0), (3, none, .ifCond .ne 19, 3, 22, 0, 0), (6, none, .dload_n 1, 1, 0, 0, 0), (7, none, .ldc2_w 938, 3, 3, 9218868437227405311, 0), (10, none, .dcmp .l, 1, 0, 0, 0), (11, none, .ifCond .gt 11, 3, 22, 0, 0), (14, none, .dload_n 1, 1, 0, 0, 0), (15, none, .ldc2_w 940, 3, 3, 18442240474082181119, 0), (18, none, .dcmp .g, 1, 0, 0, 0), (19, none, .ifCond .ge 9, 3, 28, 0, 0)] := fq_of2 cd_583 ow_583 cl_583 rfl (pc := 0) (by decide +kernel)
    j_dldn (pc := 0) D rfl rfl rfl fun D =>
    j_dldn (pc := 1) D rfl rfl rfl fun D =>
    j_dcmpl (pc := 2) D rfl fun D =>
    j_ifne (pc := 3) D rfl (fun q D =>
      j_dldn (pc := 6) D rfl rfl rfl fun D =>
      j_ldc2 (pc := 7) D rfl fun D =>
      j_dcmpl (pc := 10) D rfl fun D =>
      j_ifgt (pc := 11) D rfl (fun q =>
        fk_jump cut_583_22 rfl rfl) (fun q D =>
        j_dldn (pc := 14) D rfl rfl rfl fun D =>
        j_ldc2 (pc := 15) D rfl fun D =>
        j_dcmpg (pc := 18) D rfl fun D =>
        j_ifge (pc := 19) D rfl (fun q D =>
          fk_jump cut_583_22 rfl rfl) (fun q =>
          fk_jump cut_583_28 rfl rfl))) (fun q =>
      fk_jump cut_583_22 rfl rfl)
/-! 584 StatuteHouseModel.added(JIJJIJJ)V -/
theorem cd_584 : fi_code 584 = prog_69_method_121_code := rfl
theorem hx_584 : ∀ pc, fi_hat 584 pc = none := fun pc => by unfold fi_hat; rw [show fi_hh 584 = [] from rfl]; rfl
theorem rt_584 : fi_ret 584 = none := rfl
theorem nl_584 : fi_nl 584 = 17 := rfl
theorem ow_584 : fi_ow 584 = 29 := rfl
theorem cl_584 : fj_cutT.getD 584 [] = [(70, [0, 1, 3, 4, 6, 8, 9, 11]), (81, [0, 1, 4, 8, 9, 11]), (95, [0, 1, 4, 9, 13])] := rfl
theorem cut_584_70 : fj_cut 584 70 = some [0, 1, 3, 4, 6, 8, 9, 11] := by decide +kernel
noncomputable def c_584_70 (d : Nat) (x1 x3 x4 x6 x8 x9 x11 : Int) (h : fi_H) : fk_R := gG (fj_run d) 584 70 [(0, (4, 602)), (1, (1, x1)), (3, (0, x3)), (4, (1, x4)), (6, (1, x6)), (8, (0, x8)), (9, (1, x9)), (11, (1, x11))] [] h
theorem cut_584_81 : fj_cut 584 81 = some [0, 1, 4, 8, 9, 11] := by decide +kernel
noncomputable def c_584_81 (d : Nat) (x1 x4 x8 x9 x11 s0 : Int) (h : fi_H) : fk_R := gG (fj_run d) 584 81 [(0, (4, 602)), (1, (1, x1)), (4, (1, x4)), (8, (0, x8)), (9, (1, x9)), (11, (1, x11))] [(1, s0)] h
theorem cut_584_95 : fj_cut 584 95 = some [0, 1, 4, 9, 13] := by decide +kernel
noncomputable def c_584_95 (d : Nat) (x1 x4 x9 x13 s0 : Int) (h : fi_H) : fk_R := gG (fj_run d) 584 95 [(0, (4, 602)), (1, (1, x1)), (4, (1, x4)), (9, (1, x9)), (13, (1, x13))] [(1, s0)] h
theorem e_584_70 (d : Nat) (x1 x3 x4 x6 x8 x9 x11 : Int) {h : fi_H} (H : Shp h) : c_584_70 d x1 x3 x4 x6 x8 x9 x11 h =
  if x3 = 3 then
    c_584_81 d x1 x4 x8 x9 x11 x6 h
  else
    c_584_81 d x1 x4 x8 x9 x11 1 h := by
  unfold c_584_70
  exact
    have D : fk_D 584 [(70, some [0, 1, 3, 4, 6, 8, 9, 11], .iload_n 3, 1, 0, 0, 0), (71, none, .iconst 3, 1, 0, 3, 0), (72, none, .if_icmp .ne 8, 3, 80, 0, 0), (75, none, .lload 6, 2, 0, 0, 0), (77, none, .goto 4, 3, 81, 0, 0)] := fq_of2 cd_584 ow_584 cl_584 rfl (pc := 70) (by decide +kernel)
    j_ildn (pc := 70) D rfl rfl rfl fun D =>
    j_ic (pc := 71) D rfl fun D =>
    j_ine (pc := 72) D rfl (fun q D =>
      j_lld (pc := 75) D rfl rfl rfl fun D =>
      j_goto (pc := 77) D rfl <|
      fk_jump cut_584_81 rfl rfl) (fun q =>
      have D : fk_D 584 [(80, none, .lconst 1, 1, 0, 0, 0)] := fq_of2 cd_584 ow_584 cl_584 rfl (pc := 80) (by decide +kernel)
      j_c0 (pc := 80) (v := (1, 1)) D rfl rfl (by decide +kernel) fun D =>
      fk_jump cut_584_81 rfl rfl)
theorem e_584_81 (d : Nat) (x1 x4 x8 x9 x11 s0 : Int) {h : fi_H} (H : Shp h) : c_584_81 d x1 x4 x8 x9 x11 s0 h =
  if x8 = 3 then
    c_584_95 d x1 x4 x9 s0 x11 h
  else
    c_584_95 d x1 x4 x9 s0 1 h := by
  unfold c_584_81
  exact
    have D : fk_D 584 [(81, some [0, 1, 4, 8, 9, 11], .lstore 13, 2, 0, 0, 0), (83, none, .iload 8, 2, 0, 0, 0), (85, none, .iconst 3, 1, 0, 3, 0), (86, none, .if_icmp .ne 8, 3, 94, 0, 0), (89, none, .lload 11, 2, 0, 0, 0), (91, none, .goto 4, 3, 95, 0, 0)] := fq_of2 cd_584 ow_584 cl_584 rfl (pc := 81) (by decide +kernel)
    j_lst (pc := 81) (L' := [(13, (1, s0)), (0, (4, 602)), (1, (1, x1)), (4, (1, x4)), (8, (0, x8)), (9, (1, x9)), (11, (1, x11))]) D rfl nl_584 rfl rfl fun D =>
    j_ild (pc := 83) D rfl rfl rfl fun D =>
    j_ic (pc := 85) D rfl fun D =>
    j_ine (pc := 86) D rfl (fun q D =>
      j_lld (pc := 89) D rfl rfl rfl fun D =>
      j_goto (pc := 91) D rfl <|
      fk_jump cut_584_95 rfl rfl) (fun q =>
      have D : fk_D 584 [(94, none, .lconst 1, 1, 0, 0, 0)] := fq_of2 cd_584 ow_584 cl_584 rfl (pc := 94) (by decide +kernel)
      j_c0 (pc := 94) (v := (1, 1)) D rfl rfl (by decide +kernel) fun D =>
      fk_jump cut_584_95 rfl rfl)
theorem e_584_95 (d : Nat) (x1 x4 x9 x13 s0 : Int) {h : fi_H} (H : Shp h) : c_584_95 d x1 x4 x9 x13 s0 h =
  cv_ (fj_run d 588 h [(4, 602), (1, wJ ((wJ (x4 * s0)) + (wJ ((wJ (x1 * x9)) * x13)))), (1, wJ (x13 * s0))])
    (fun h1 =>
    some (.inl none, h1))
    (fun q3 h1 => tx_ q3 h1) := by
  unfold c_584_95
  exact
    have D : fk_D 584 [(95, some [0, 1, 4, 9, 13], .lstore 15, 2, 0, 0, 0), (97, none, .aload_n 0, 1, 0, 0, 0), (98, none, .lload 4, 2, 0, 0, 0), (100, none, .lload 15, 2, 0, 0, 0), (102, none, .lmul, 1, 0, 0, 0), (103, none, .lload_n 1, 1, 0, 0, 0), (104, none, .lload 9, 2, 0, 0, 0), (106, none, .lmul, 1, 0, 0, 0), (107, none, .lload 13, 2, 0, 0, 0), (109, none, .lmul, 1, 0, 0, 0), (110, none, .ladd, 1, 0, 0, 0), (111, none, .lload 13, 2, 0, 0, 0), (113, none, .lload 15, 2, 0, 0, 0), (115, none, .lmul, 1, 0, 0, 0), (116, none, .invokevirtual 1034, 3, 2, 433, 0), (119, none, .return_, 1, 0, 0, 0)] := fq_of2 cd_584 ow_584 cl_584 rfl (pc := 95) (by decide +kernel)
    j_lst (pc := 95) (L' := [(15, (1, s0)), (0, (4, 602)), (1, (1, x1)), (4, (1, x4)), (9, (1, x9)), (13, (1, x13))]) D rfl nl_584 rfl rfl fun D =>
    j_aldn (pc := 97) D rfl rfl rfl fun D =>
    j_lld (pc := 98) D rfl rfl rfl fun D =>
    j_lld (pc := 100) D rfl rfl rfl fun D =>
    j_lmul (pc := 102) D rfl fun D =>
    j_lldn (pc := 103) D rfl rfl rfl fun D =>
    j_lld (pc := 104) D rfl rfl rfl fun D =>
    j_lmul (pc := 106) D rfl fun D =>
    j_lld (pc := 107) D rfl rfl rfl fun D =>
    j_lmul (pc := 109) D rfl fun D =>
    j_ladd (pc := 110) D rfl fun D =>
    j_lld (pc := 111) D rfl rfl rfl fun D =>
    j_lld (pc := 113) D rfl rfl rfl fun D =>
    j_lmul (pc := 115) D rfl fun D =>
    j_ivv (pc := 116) (m := 588) (dd := 433) (a := [(1, wJ ((wJ (x4 * s0)) + (wJ ((wJ (x1 * x9)) * x13)))), (1, wJ (x13 * s0))]) (rest := []) D rfl rfl rfl rfl rfl (by decide) (s0_602 H) (by decide +kernel) (fun h1 e1 D =>
      have T := fj_run_ok _ _ _ _ _ _ H.1 e1
      have H := shp_st H T
      j_vret D rt_584) (fun q3 h1 e1 =>
      j_tx (hx_584 _))
theorem m_584 (d : Nat) (x1 x3 x4 x6 x8 x9 x11 : Int) {h : fi_H} (H : Shp h) : fj_run (d + 1) 584 h [(4, 602), (1, x1), (0, x3), (1, x4), (1, x6), (0, x8), (1, x9), (1, x11)] =
  if x3 = 5 then
    cv_ (fj_run d 585 h [(4, 602), (1, wJ (x4 + (wJ (x1 * x9)))), (1, wJ (x6 + (wJ (x1 * x11))))])
      (fun h1 =>
      some (.inl none, h1))
      (fun q3 h1 => tx_ q3 h1)
  else
    if x3 = 2 then
      cv_ (fj_run d 586 h [(4, 602), (1, wJ (x4 + (wJ (x1 * x9))))])
        (fun h4 =>
        some (.inl none, h4))
        (fun q6 h4 => tx_ q6 h4)
    else
      if x3 = 1 then
        if x8 = 1 then
          cv_ (fj_run d 587 h [(4, 602), (1, wJ (x4 + (wJ (x1 * x9))))])
            (fun h7 =>
            some (.inl none, h7))
            (fun q9 h7 => tx_ q9 h7)
        else
          c_584_70 d x1 x3 x4 x6 x8 x9 x11 h
      else
        c_584_70 d x1 x3 x4 x6 x8 x9 x11 h := by
  rw [fj_run_eq d (by decide) h [(4, 602), (1, x1), (0, x3), (1, x4), (1, x6), (0, x8), (1, x9), (1, x11)] (Nat.le_of_ble_eq_true (by rw [nl_584]; rfl))]
  show gG (fj_run d) 584 0 [(0, (4, 602)), (1, (1, x1)), (3, (0, x3)), (4, (1, x4)), (6, (1, x6)), (8, (0, x8)), (9, (1, x9)), (11, (1, x11))] [] h = _
  exact
    have D : fk_D 584 [(0, none, .iload_n 3, 1, 0, 0, 0), (1, none, .iconst 5, 1, 0, 5, 0), (2, none, .if_icmp .ne 24, 3, 26, 0, 0), (5, none, .aload_n 0, 1, 0, 0, 0), (6, none, .lload 4, 2, 0, 0, 0), (8, none, .lload_n 1, 1, 0, 0, 0), (9, none, .lload 9, 2, 0, 0, 0), (11, none, .lmul, 1, 0, 0, 0), (12, none, .ladd, 1, 0, 0, 0), (13, none, .lload 6, 2, 0, 0, 0), (15, none, .lload_n 1, 1, 0, 0, 0), (16, none, .lload 11, 2, 0, 0, 0), (18, none, .lmul, 1, 0, 0, 0), (19, none, .ladd, 1, 0, 0, 0), (20, none, .invokevirtual 1013, 3, 2, 429, 0), (23, none, .goto 96, 3, 119, 0, 0)] := fq_of2 cd_584 ow_584 cl_584 rfl (pc := 0) (by decide +kernel)
    j_ildn (pc := 0) D rfl rfl rfl fun D =>
    j_ic (pc := 1) D rfl fun D =>
    j_ine (pc := 2) D rfl (fun q D =>
      j_aldn (pc := 5) D rfl rfl rfl fun D =>
      j_lld (pc := 6) D rfl rfl rfl fun D =>
      j_lldn (pc := 8) D rfl rfl rfl fun D =>
      j_lld (pc := 9) D rfl rfl rfl fun D =>
      j_lmul (pc := 11) D rfl fun D =>
      j_ladd (pc := 12) D rfl fun D =>
      j_lld (pc := 13) D rfl rfl rfl fun D =>
      j_lldn (pc := 15) D rfl rfl rfl fun D =>
      j_lld (pc := 16) D rfl rfl rfl fun D =>
      j_lmul (pc := 18) D rfl fun D =>
      j_ladd (pc := 19) D rfl fun D =>
      j_ivv (pc := 20) (m := 585) (dd := 429) (a := [(1, wJ (x4 + (wJ (x1 * x9)))), (1, wJ (x6 + (wJ (x1 * x11))))]) (rest := []) D rfl rfl rfl rfl rfl (by decide) (s0_602 H) (by decide +kernel) (fun h1 e1 D =>
        have T := fj_run_ok _ _ _ _ _ _ H.1 e1
        have H := shp_st H T
        j_goto (pc := 23) D rfl <|
        have D : fk_D 584 [(119, none, .return_, 1, 0, 0, 0)] := fq_of2 cd_584 ow_584 cl_584 rfl (pc := 119) (by decide +kernel)
        j_vret D rt_584) (fun q3 h1 e1 =>
        j_tx (hx_584 _))) (fun q =>
      have D : fk_D 584 [(26, none, .iload_n 3, 1, 0, 0, 0), (27, none, .iconst 2, 1, 0, 2, 0), (28, none, .if_icmp .ne 17, 3, 45, 0, 0), (31, none, .aload_n 0, 1, 0, 0, 0), (32, none, .lload 4, 2, 0, 0, 0), (34, none, .lload_n 1, 1, 0, 0, 0), (35, none, .lload 9, 2, 0, 0, 0), (37, none, .lmul, 1, 0, 0, 0), (38, none, .ladd, 1, 0, 0, 0), (39, none, .invokevirtual 920, 3, 1, 414, 0), (42, none, .goto 77, 3, 119, 0, 0)] := fq_of2 cd_584 ow_584 cl_584 rfl (pc := 26) (by decide +kernel)
      j_ildn (pc := 26) D rfl rfl rfl fun D =>
      j_ic (pc := 27) D rfl fun D =>
      j_ine (pc := 28) D rfl (fun q D =>
        j_aldn (pc := 31) D rfl rfl rfl fun D =>
        j_lld (pc := 32) D rfl rfl rfl fun D =>
        j_lldn (pc := 34) D rfl rfl rfl fun D =>
        j_lld (pc := 35) D rfl rfl rfl fun D =>
        j_lmul (pc := 37) D rfl fun D =>
        j_ladd (pc := 38) D rfl fun D =>
        j_ivv (pc := 39) (m := 586) (dd := 414) (a := [(1, wJ (x4 + (wJ (x1 * x9))))]) (rest := []) D rfl rfl rfl rfl rfl (by decide) (s0_602 H) (by decide +kernel) (fun h4 e1 D =>
          have T := fj_run_ok _ _ _ _ _ _ H.1 e1
          have H := shp_st H T
          j_goto (pc := 42) D rfl <|
          have D : fk_D 584 [(119, none, .return_, 1, 0, 0, 0)] := fq_of2 cd_584 ow_584 cl_584 rfl (pc := 119) (by decide +kernel)
          j_vret D rt_584) (fun q6 h4 e1 =>
          j_tx (hx_584 _))) (fun q =>
        have D : fk_D 584 [(45, none, .iload_n 3, 1, 0, 0, 0), (46, none, .iconst 1, 1, 0, 1, 0), (47, none, .if_icmp .ne 23, 3, 70, 0, 0), (50, none, .iload 8, 2, 0, 0, 0), (52, none, .iconst 1, 1, 0, 1, 0), (53, none, .if_icmp .ne 17, 3, 70, 0, 0), (56, none, .aload_n 0, 1, 0, 0, 0), (57, none, .lload 4, 2, 0, 0, 0), (59, none, .lload_n 1, 1, 0, 0, 0), (60, none, .lload 9, 2, 0, 0, 0), (62, none, .lmul, 1, 0, 0, 0), (63, none, .ladd, 1, 0, 0, 0), (64, none, .invokevirtual 994, 3, 1, 425, 0), (67, none, .goto 52, 3, 119, 0, 0)] := fq_of2 cd_584 ow_584 cl_584 rfl (pc := 45) (by decide +kernel)
        j_ildn (pc := 45) D rfl rfl rfl fun D =>
        j_ic (pc := 46) D rfl fun D =>
        j_ine (pc := 47) D rfl (fun q D =>
          j_ild (pc := 50) D rfl rfl rfl fun D =>
          j_ic (pc := 52) D rfl fun D =>
          j_ine (pc := 53) D rfl (fun q D =>
            j_aldn (pc := 56) D rfl rfl rfl fun D =>
            j_lld (pc := 57) D rfl rfl rfl fun D =>
            j_lldn (pc := 59) D rfl rfl rfl fun D =>
            j_lld (pc := 60) D rfl rfl rfl fun D =>
            j_lmul (pc := 62) D rfl fun D =>
            j_ladd (pc := 63) D rfl fun D =>
            j_ivv (pc := 64) (m := 587) (dd := 425) (a := [(1, wJ (x4 + (wJ (x1 * x9))))]) (rest := []) D rfl rfl rfl rfl rfl (by decide) (s0_602 H) (by decide +kernel) (fun h7 e1 D =>
              have T := fj_run_ok _ _ _ _ _ _ H.1 e1
              have H := shp_st H T
              j_goto (pc := 67) D rfl <|
              have D : fk_D 584 [(119, none, .return_, 1, 0, 0, 0)] := fq_of2 cd_584 ow_584 cl_584 rfl (pc := 119) (by decide +kernel)
              j_vret D rt_584) (fun q9 h7 e1 =>
              j_tx (hx_584 _))) (fun q =>
            fk_jump cut_584_70 rfl rfl)) (fun q =>
          fk_jump cut_584_70 rfl rfl)))
/-! 585 StatuteHouseModel.setSpan(JJ)V -/
theorem cd_585 : fi_code 585 = prog_69_method_107_code := rfl
theorem hx_585 : ∀ pc, fi_hat 585 pc = none := fun pc => by unfold fi_hat; rw [show fi_hh 585 = [] from rfl]; rfl
theorem rt_585 : fi_ret 585 = none := rfl
theorem nl_585 : fi_nl 585 = 5 := rfl
theorem ow_585 : fi_ow 585 = 29 := rfl
theorem cl_585 : fj_cutT.getD 585 [] = [(26, [0, 1, 3]), (32, [0, 1, 3])] := rfl
theorem cut_585_26 : fj_cut 585 26 = some [0, 1, 3] := by decide +kernel
noncomputable def c_585_26 (d : Nat) (x1 x3 : Int) (h : fi_H) : fk_R := gG (fj_run d) 585 26 [(0, (4, 602)), (1, (1, x1)), (3, (1, x3))] [] h
theorem cut_585_32 : fj_cut 585 32 = some [0, 1, 3] := by decide +kernel
noncomputable def c_585_32 (d : Nat) (x1 x3 : Int) (h : fi_H) : fk_R := gG (fj_run d) 585 32 [(0, (4, 602)), (1, (1, x1)), (3, (1, x3))] [] h
theorem e_585_26 (d : Nat) (x1 x3 : Int) {h : fi_H} (H : Shp h) : c_585_26 d x1 x3 h =
  cv_ (fj_run d 577 h [(4, 602), (0, 8)])
    (fun h1 =>
    c_585_32 d x1 x3 h1)
    (fun q3 h1 => tx_ q3 h1) := by
  unfold c_585_26
  exact
    have D : fk_D 585 [(26, some [0, 1, 3], .aload_n 0, 1, 0, 0, 0), (27, none, .bipush 8, 2, 0, 8, 0), (29, none, .invokevirtual 854, 3, 1, 403, 0)] := fq_of2 cd_585 ow_585 cl_585 rfl (pc := 26) (by decide +kernel)
    j_aldn (pc := 26) D rfl rfl rfl fun D =>
    j_bp (pc := 27) D rfl fun D =>
    j_ivv (pc := 29) (m := 577) (dd := 403) (a := [(0, 8)]) (rest := []) D rfl rfl rfl rfl rfl (by decide) (s0_602 H) (by decide +kernel) (fun h1 e1 D =>
      have T := fj_run_ok _ _ _ _ _ _ H.1 e1
      have H := shp_st H T
      fk_jump cut_585_32 rfl rfl) (fun q3 h1 e1 =>
      j_tx (hx_585 _))
theorem e_585_32 (d : Nat) (x1 x3 : Int) {h : fi_H} (H : Shp h) : c_585_32 d x1 x3 h =
  lt_ (fi_upd h 492 602 0 x1) fun h1 =>
  lt_ (fi_upd h1 493 602 0 x3) fun h2 =>
  some (.inl none, h2) := by
  unfold c_585_32
  exact
    have D : fk_D 585 [(32, some [0, 1, 3], .aload_n 0, 1, 0, 0, 0), (33, none, .lload_n 1, 1, 0, 0, 0), (34, none, .putfield 869, 3, 492, 129, 11), (37, none, .aload_n 0, 1, 0, 0, 0), (38, none, .lload_n 3, 1, 0, 0, 0), (39, none, .putfield 872, 3, 493, 129, 11), (42, none, .return_, 1, 0, 0, 0)] := fq_of2 cd_585 ow_585 cl_585 rfl (pc := 32) (by decide +kernel)
    j_aldn (pc := 32) D rfl rfl rfl fun D =>
    j_lldn (pc := 33) D rfl rfl rfl fun D =>
    j_pf (pc := 34) (a := 602) D rfl rfl rfl (s0_602 H) rfl rfl (gy (by decide)) (gy rfl) fun h1 eh1 S D =>
    have T := fj_hs_ok H.1 S
    have H := shp_st H T
    j_aldn (pc := 37) D rfl rfl rfl fun D =>
    j_lldn (pc := 38) D rfl rfl rfl fun D =>
    j_pf (pc := 39) (a := 602) D rfl rfl rfl (s0_602 H) rfl rfl (gy (by decide)) (gy rfl) fun h2 eh2 S D =>
    have T := fj_hs_ok H.1 S
    have H := shp_st H T
    j_vret D rt_585
theorem m_585 (d : Nat) (x1 x3 : Int) {h : fi_H} (H : Shp h) : fj_run (d + 1) 585 h [(4, 602), (1, x1), (1, x3)] =
  ca_ (fj_run d 508 h [(1, x1), (1, (-2400)), (1, 2400)]) 0
    (fun v2 h1 =>
    if v2 = 0 then
      c_585_26 d x1 x3 h1
    else
      ca_ (fj_run d 508 h1 [(1, x3), (1, (-65535)), (1, 65535)]) 0
        (fun v5 h4 =>
        if v5 = 0 then
          c_585_26 d x1 x3 h4
        else
          c_585_32 d x1 x3 h4)
        (fun q6 h4 => tx_ q6 h4))
    (fun q3 h1 => tx_ q3 h1) := by
  rw [fj_run_eq d (by decide) h [(4, 602), (1, x1), (1, x3)] (Nat.le_of_ble_eq_true (by rw [nl_585]; rfl))]
  show gG (fj_run d) 585 0 [(0, (4, 602)), (1, (1, x1)), (3, (1, x3))] [] h = _
  exact
    have D : fk_D 585 [(0, none, .lload_n 1, 1, 0, 0, 0), (1, none, .ldc2_w 946, 3, 1, (-2400), 0), (4, none, .ldc2_w 612, 3, 1, 2400, 0), (7, none, .invokestatic 434, 3, 3, 508, 1), (10, none, .ifCond .eq 16, 3, 26, 0, 0), (13, none, .lload_n 3, 1, 0, 0, 0), (14, none, .ldc2_w 948, 3, 1, (-65535), 0), (17, none, .ldc2_w 432, 3, 1, 65535, 0), (20, none, .invokestatic 434, 3, 3, 508, 1), (23, none, .ifCond .ne 9, 3, 32, 0, 0)] := fq_of2 cd_585 ow_585 cl_585 rfl (pc := 0) (by decide +kernel)
    j_lldn (pc := 0) D rfl rfl rfl fun D =>
    j_ldc2 (pc := 1) D rfl fun D =>
    j_ldc2 (pc := 4) D rfl fun D =>
    j_is (pc := 7) (m := 508) (a := [(1, x1), (1, (-2400)), (1, 2400)]) (rest := []) D rfl rfl rfl rfl (fun v2 h1 e1 D =>
      have T := fj_run_ok _ _ _ _ _ _ H.1 e1
      have H := shp_st H T
      j_ifeq (pc := 10) D rfl (fun q =>
        fk_jump cut_585_26 rfl rfl) (fun q D =>
        j_lldn (pc := 13) D rfl rfl rfl fun D =>
        j_ldc2 (pc := 14) D rfl fun D =>
        j_ldc2 (pc := 17) D rfl fun D =>
        j_is (pc := 20) (m := 508) (a := [(1, x3), (1, (-65535)), (1, 65535)]) (rest := []) D rfl rfl rfl rfl (fun v5 h4 e1 D =>
          have T := fj_run_ok _ _ _ _ _ _ H.1 e1
          have H := shp_st H T
          j_ifne (pc := 23) D rfl (fun q D =>
            fk_jump cut_585_26 rfl rfl) (fun q =>
            fk_jump cut_585_32 rfl rfl)) (fun q6 h4 e1 =>
          j_tx (hx_585 _)))) (fun q3 h1 e1 =>
      j_tx (hx_585 _))
/-! 586 StatuteHouseModel.setMoney(J)V -/
theorem cd_586 : fi_code 586 = prog_69_method_104_code := rfl
theorem hx_586 : ∀ pc, fi_hat 586 pc = none := fun pc => by unfold fi_hat; rw [show fi_hh 586 = [] from rfl]; rfl
theorem rt_586 : fi_ret 586 = none := rfl
theorem nl_586 : fi_nl 586 = 3 := rfl
theorem ow_586 : fi_ow 586 = 29 := rfl
theorem cl_586 : fj_cutT.getD 586 [] = [(19, [0, 1])] := rfl
theorem cut_586_19 : fj_cut 586 19 = some [0, 1] := by decide +kernel
noncomputable def c_586_19 (d : Nat) (x1 : Int) (h : fi_H) : fk_R := gG (fj_run d) 586 19 [(0, (4, 602)), (1, (1, x1))] [] h
theorem e_586_19 (d : Nat) (x1 : Int) {h : fi_H} (H : Shp h) : c_586_19 d x1 h =
  lt_ (fi_upd h 492 602 0 x1) fun h1 =>
  lt_ (fi_upd h1 493 602 0 0) fun h2 =>
  some (.inl none, h2) := by
  unfold c_586_19
  exact
    have D : fk_D 586 [(19, some [0, 1], .aload_n 0, 1, 0, 0, 0), (20, none, .lload_n 1, 1, 0, 0, 0), (21, none, .putfield 869, 3, 492, 129, 11), (24, none, .aload_n 0, 1, 0, 0, 0), (25, none, .lconst 0, 1, 0, 0, 0), (26, none, .putfield 872, 3, 493, 129, 11), (29, none, .return_, 1, 0, 0, 0)] := fq_of2 cd_586 ow_586 cl_586 rfl (pc := 19) (by decide +kernel)
    j_aldn (pc := 19) D rfl rfl rfl fun D =>
    j_lldn (pc := 20) D rfl rfl rfl fun D =>
    j_pf (pc := 21) (a := 602) D rfl rfl rfl (s0_602 H) rfl rfl (gy (by decide)) (gy rfl) fun h1 eh1 S D =>
    have T := fj_hs_ok H.1 S
    have H := shp_st H T
    j_aldn (pc := 24) D rfl rfl rfl fun D =>
    j_c0 (pc := 25) (v := (1, 0)) D rfl rfl (by decide +kernel) fun D =>
    j_pf (pc := 26) (a := 602) D rfl rfl rfl (s0_602 H) rfl rfl (gy (by decide)) (gy rfl) fun h2 eh2 S D =>
    have T := fj_hs_ok H.1 S
    have H := shp_st H T
    j_vret D rt_586
theorem m_586 (d : Nat) (x1 : Int) {h : fi_H} (H : Shp h) : fj_run (d + 1) 586 h [(4, 602), (1, x1)] =
  ca_ (fj_run d 508 h [(1, x1), (1, (-1000000000000)), (1, 1000000000000)]) 0
    (fun v2 h1 =>
    if v2 = 0 then
      cv_ (fj_run d 577 h1 [(4, 602), (0, 8)])
        (fun h4 =>
        c_586_19 d x1 h4)
        (fun q6 h4 => tx_ q6 h4)
    else
      c_586_19 d x1 h1)
    (fun q3 h1 => tx_ q3 h1) := by
  rw [fj_run_eq d (by decide) h [(4, 602), (1, x1)] (Nat.le_of_ble_eq_true (by rw [nl_586]; rfl))]
  show gG (fj_run d) 586 0 [(0, (4, 602)), (1, (1, x1))] [] h = _
  exact
    have D : fk_D 586 [(0, none, .lload_n 1, 1, 0, 0, 0), (1, none, .ldc2_w 928, 3, 1, (-1000000000000), 0), (4, none, .ldc2_w 930, 3, 1, 1000000000000, 0), (7, none, .invokestatic 434, 3, 3, 508, 1), (10, none, .ifCond .ne 9, 3, 19, 0, 0), (13, none, .aload_n 0, 1, 0, 0, 0), (14, none, .bipush 8, 2, 0, 8, 0), (16, none, .invokevirtual 854, 3, 1, 403, 0)] := fq_of2 cd_586 ow_586 cl_586 rfl (pc := 0) (by decide +kernel)
    j_lldn (pc := 0) D rfl rfl rfl fun D =>
    j_ldc2 (pc := 1) D rfl fun D =>
    j_ldc2 (pc := 4) D rfl fun D =>
    j_is (pc := 7) (m := 508) (a := [(1, x1), (1, (-1000000000000)), (1, 1000000000000)]) (rest := []) D rfl rfl rfl rfl (fun v2 h1 e1 D =>
      have T := fj_run_ok _ _ _ _ _ _ H.1 e1
      have H := shp_st H T
      j_ifne (pc := 10) D rfl (fun q D =>
        j_aldn (pc := 13) D rfl rfl rfl fun D =>
        j_bp (pc := 14) D rfl fun D =>
        j_ivv (pc := 16) (m := 577) (dd := 403) (a := [(0, 8)]) (rest := []) D rfl rfl rfl rfl rfl (by decide) (s0_602 H) (by decide +kernel) (fun h4 e1 D =>
          have T := fj_run_ok _ _ _ _ _ _ H.1 e1
          have H := shp_st H T
          fk_jump cut_586_19 rfl rfl) (fun q6 h4 e1 =>
          j_tx (hx_586 _))) (fun q =>
        fk_jump cut_586_19 rfl rfl)) (fun q3 h1 e1 =>
      j_tx (hx_586 _))
/-! 587 StatuteHouseModel.setCount(J)V -/
theorem cd_587 : fi_code 587 = prog_69_method_103_code := rfl
theorem hx_587 : ∀ pc, fi_hat 587 pc = none := fun pc => by unfold fi_hat; rw [show fi_hh 587 = [] from rfl]; rfl
theorem rt_587 : fi_ret 587 = none := rfl
theorem nl_587 : fi_nl 587 = 3 := rfl
theorem ow_587 : fi_ow 587 = 29 := rfl
theorem cl_587 : fj_cutT.getD 587 [] = [(19, [0, 1])] := rfl
theorem cut_587_19 : fj_cut 587 19 = some [0, 1] := by decide +kernel
noncomputable def c_587_19 (d : Nat) (x1 : Int) (h : fi_H) : fk_R := gG (fj_run d) 587 19 [(0, (4, 602)), (1, (1, x1))] [] h
theorem e_587_19 (d : Nat) (x1 : Int) {h : fi_H} (H : Shp h) : c_587_19 d x1 h =
  lt_ (fi_upd h 492 602 0 x1) fun h1 =>
  lt_ (fi_upd h1 493 602 0 0) fun h2 =>
  some (.inl none, h2) := by
  unfold c_587_19
  exact
    have D : fk_D 587 [(19, some [0, 1], .aload_n 0, 1, 0, 0, 0), (20, none, .lload_n 1, 1, 0, 0, 0), (21, none, .putfield 869, 3, 492, 129, 11), (24, none, .aload_n 0, 1, 0, 0, 0), (25, none, .lconst 0, 1, 0, 0, 0), (26, none, .putfield 872, 3, 493, 129, 11), (29, none, .return_, 1, 0, 0, 0)] := fq_of2 cd_587 ow_587 cl_587 rfl (pc := 19) (by decide +kernel)
    j_aldn (pc := 19) D rfl rfl rfl fun D =>
    j_lldn (pc := 20) D rfl rfl rfl fun D =>
    j_pf (pc := 21) (a := 602) D rfl rfl rfl (s0_602 H) rfl rfl (gy (by decide)) (gy rfl) fun h1 eh1 S D =>
    have T := fj_hs_ok H.1 S
    have H := shp_st H T
    j_aldn (pc := 24) D rfl rfl rfl fun D =>
    j_c0 (pc := 25) (v := (1, 0)) D rfl rfl (by decide +kernel) fun D =>
    j_pf (pc := 26) (a := 602) D rfl rfl rfl (s0_602 H) rfl rfl (gy (by decide)) (gy rfl) fun h2 eh2 S D =>
    have T := fj_hs_ok H.1 S
    have H := shp_st H T
    j_vret D rt_587
theorem m_587 (d : Nat) (x1 : Int) {h : fi_H} (H : Shp h) : fj_run (d + 1) 587 h [(4, 602), (1, x1)] =
  ca_ (fj_run d 508 h [(1, x1), (1, (-2147483648)), (1, 2147483647)]) 0
    (fun v2 h1 =>
    if v2 = 0 then
      cv_ (fj_run d 577 h1 [(4, 602), (0, 8)])
        (fun h4 =>
        c_587_19 d x1 h4)
        (fun q6 h4 => tx_ q6 h4)
    else
      c_587_19 d x1 h1)
    (fun q3 h1 => tx_ q3 h1) := by
  rw [fj_run_eq d (by decide) h [(4, 602), (1, x1)] (Nat.le_of_ble_eq_true (by rw [nl_587]; rfl))]
  show gG (fj_run d) 587 0 [(0, (4, 602)), (1, (1, x1))] [] h = _
  exact
    have D : fk_D 587 [(0, none, .lload_n 1, 1, 0, 0, 0), (1, none, .ldc2_w 924, 3, 1, (-2147483648), 0), (4, none, .ldc2_w 926, 3, 1, 2147483647, 0), (7, none, .invokestatic 434, 3, 3, 508, 1), (10, none, .ifCond .ne 9, 3, 19, 0, 0), (13, none, .aload_n 0, 1, 0, 0, 0), (14, none, .bipush 8, 2, 0, 8, 0), (16, none, .invokevirtual 854, 3, 1, 403, 0)] := fq_of2 cd_587 ow_587 cl_587 rfl (pc := 0) (by decide +kernel)
    j_lldn (pc := 0) D rfl rfl rfl fun D =>
    j_ldc2 (pc := 1) D rfl fun D =>
    j_ldc2 (pc := 4) D rfl fun D =>
    j_is (pc := 7) (m := 508) (a := [(1, x1), (1, (-2147483648)), (1, 2147483647)]) (rest := []) D rfl rfl rfl rfl (fun v2 h1 e1 D =>
      have T := fj_run_ok _ _ _ _ _ _ H.1 e1
      have H := shp_st H T
      j_ifne (pc := 10) D rfl (fun q D =>
        j_aldn (pc := 13) D rfl rfl rfl fun D =>
        j_bp (pc := 14) D rfl fun D =>
        j_ivv (pc := 16) (m := 577) (dd := 403) (a := [(0, 8)]) (rest := []) D rfl rfl rfl rfl rfl (by decide) (s0_602 H) (by decide +kernel) (fun h4 e1 D =>
          have T := fj_run_ok _ _ _ _ _ _ H.1 e1
          have H := shp_st H T
          fk_jump cut_587_19 rfl rfl) (fun q6 h4 e1 =>
          j_tx (hx_587 _))) (fun q =>
        fk_jump cut_587_19 rfl rfl)) (fun q3 h1 e1 =>
      j_tx (hx_587 _))
/-! 588 StatuteHouseModel.setRate(JJ)V -/
theorem cd_588 : fi_code 588 = prog_69_method_105_code := rfl
theorem hx_588 : ∀ pc, fi_hat 588 pc = none := fun pc => by unfold fi_hat; rw [show fi_hh 588 = [] from rfl]; rfl
theorem rt_588 : fi_ret 588 = none := rfl
theorem nl_588 : fi_nl 588 = 11 := rfl
theorem ow_588 : fi_ow 588 = 29 := rfl
theorem cl_588 : fj_cutT.getD 588 [] = [(12, [0, 3]), (26, [0, 5]), (74, [0, 5, 7]), (80, [0, 5, 7])] := rfl
theorem cut_588_12 : fj_cut 588 12 = some [0, 3] := by decide +kernel
noncomputable def c_588_12 (d : Nat) (x3 s0 : Int) (h : fi_H) : fk_R := gG (fj_run d) 588 12 [(0, (4, 602)), (3, (1, x3))] [(1, s0)] h
theorem cut_588_26 : fj_cut 588 26 = some [0, 5] := by decide +kernel
noncomputable def c_588_26 (d : Nat) (x5 s0 : Int) (h : fi_H) : fk_R := gG (fj_run d) 588 26 [(0, (4, 602)), (5, (1, x5))] [(1, s0)] h
theorem cut_588_74 : fj_cut 588 74 = some [0, 5, 7] := by decide +kernel
noncomputable def c_588_74 (d : Nat) (x5 x7 : Int) (h : fi_H) : fk_R := gG (fj_run d) 588 74 [(0, (4, 602)), (5, (1, x5)), (7, (1, x7))] [] h
theorem cut_588_80 : fj_cut 588 80 = some [0, 5, 7] := by decide +kernel
noncomputable def c_588_80 (d : Nat) (x5 x7 : Int) (h : fi_H) : fk_R := gG (fj_run d) 588 80 [(0, (4, 602)), (5, (1, x5)), (7, (1, x7))] [] h
theorem e_588_12 (d : Nat) (x3 s0 : Int) {h : fi_H} (H : Shp h) : c_588_12 d x3 s0 h =
  if lc_ x3 0 < 0 then
    c_588_26 d s0 (wJ (-x3)) h
  else
    c_588_26 d s0 x3 h := by
  unfold c_588_12
  exact
    have D : fk_D 588 [(12, some [0, 3], .lstore 5, 2, 0, 0, 0), (14, none, .lload_n 3, 1, 0, 0, 0), (15, none, .lconst 0, 1, 0, 0, 0), (16, none, .lcmp, 1, 0, 0, 0), (17, none, .ifCond .ge 8, 3, 25, 0, 0), (20, none, .lload_n 3, 1, 0, 0, 0), (21, none, .lneg, 1, 0, 0, 0), (22, none, .goto 4, 3, 26, 0, 0)] := fq_of2 cd_588 ow_588 cl_588 rfl (pc := 12) (by decide +kernel)
    j_lst (pc := 12) (L' := [(5, (1, s0)), (0, (4, 602)), (3, (1, x3))]) D rfl nl_588 rfl rfl fun D =>
    j_lldn (pc := 14) D rfl rfl rfl fun D =>
    j_c0 (pc := 15) (v := (1, 0)) D rfl rfl (by decide +kernel) fun D =>
    j_lcmp (pc := 16) D rfl fun D =>
    j_ifge (pc := 17) D rfl (fun q D =>
      j_lldn (pc := 20) D rfl rfl rfl fun D =>
      j_lneg (pc := 21) D rfl fun D =>
      j_goto (pc := 22) D rfl <|
      fk_jump cut_588_26 rfl rfl) (fun q =>
      have D : fk_D 588 [(25, none, .lload_n 3, 1, 0, 0, 0)] := fq_of2 cd_588 ow_588 cl_588 rfl (pc := 25) (by decide +kernel)
      j_lldn (pc := 25) D rfl rfl rfl fun D =>
      fk_jump cut_588_26 rfl rfl)
theorem e_588_26 (d : Nat) (x5 s0 : Int) {h : fi_H} (H : Shp h) : c_588_26 d x5 s0 h =
  ca_ (fj_run d 514 h [(1, x5), (1, s0)]) 1
    (fun v2 h1 =>
    if v2 = 0 then none else
    if v2 = 0 then none else
    ca_ (fj_run d 508 h1 [(1, lq_ x5 v2), (1, (-1000000)), (1, 1000000)]) 0
      (fun v5 h4 =>
      if v5 = 0 then
        c_588_74 d (lq_ x5 v2) (lq_ s0 v2) h4
      else
        if 0 < lc_ (lq_ s0 v2) 1000000 then
          c_588_74 d (lq_ x5 v2) (lq_ s0 v2) h4
        else
          c_588_80 d (lq_ x5 v2) (lq_ s0 v2) h4)
      (fun q6 h4 => tx_ q6 h4))
    (fun q3 h1 => tx_ q3 h1) := by
  unfold c_588_26
  exact
    have D : fk_D 588 [(26, some [0, 5], .lstore 7, 2, 0, 0, 0), (28, none, .lload 5, 2, 0, 0, 0), (30, none, .lload 7, 2, 0, 0, 0), (32, none, .invokestatic 604, 3, 2, 514, 2), (35, none, .lstore 9, 2, 0, 0, 0), (37, none, .lload 5, 2, 0, 0, 0), (39, none, .lload 9, 2, 0, 0, 0), (41, none, .ldiv, 1, 0, 0, 0), (42, none, .lstore 5, 2, 0, 0, 0), (44, none, .lload 7, 2, 0, 0, 0), (46, none, .lload 9, 2, 0, 0, 0), (48, none, .ldiv, 1, 0, 0, 0), (49, none, .lstore 7, 2, 0, 0, 0), (51, none, .lload 5, 2, 0, 0, 0), (53, none, .ldc2_w 932, 3, 1, (-1000000), 0), (56, none, .ldc2_w 934, 3, 1, 1000000, 0), (59, none, .invokestatic 434, 3, 3, 508, 1), (62, none, .ifCond .eq 12, 3, 74, 0, 0), (65, none, .lload 7, 2, 0, 0, 0), (67, none, .ldc2_w 934, 3, 1, 1000000, 0)] := fq_of2 cd_588 ow_588 cl_588 rfl (pc := 26) (by decide +kernel)
    j_lst (pc := 26) (L' := [(7, (1, s0)), (0, (4, 602)), (5, (1, x5))]) D rfl nl_588 rfl rfl fun D =>
    j_lld (pc := 28) D rfl rfl rfl fun D =>
    j_lld (pc := 30) D rfl rfl rfl fun D =>
    j_is (pc := 32) (m := 514) (a := [(1, x5), (1, s0)]) (rest := []) D rfl rfl rfl rfl (fun v2 h1 e1 D =>
      have T := fj_run_ok _ _ _ _ _ _ H.1 e1
      have H := shp_st H T
      j_lst (pc := 35) (L' := [(9, (1, v2)), (7, (1, s0)), (0, (4, 602)), (5, (1, x5))]) D rfl nl_588 rfl rfl fun D =>
      j_lld (pc := 37) D rfl rfl rfl fun D =>
      j_lld (pc := 39) D rfl rfl rfl fun D =>
      j_ldiv (pc := 41) D rfl fun q D =>
      j_lst (pc := 42) (L' := [(5, (1, lq_ x5 v2)), (9, (1, v2)), (7, (1, s0)), (0, (4, 602))]) D rfl nl_588 rfl rfl fun D =>
      j_lld (pc := 44) D rfl rfl rfl fun D =>
      j_lld (pc := 46) D rfl rfl rfl fun D =>
      j_ldiv (pc := 48) D rfl fun q D =>
      j_lst (pc := 49) (L' := [(7, (1, lq_ s0 v2)), (5, (1, lq_ x5 v2)), (9, (1, v2)), (0, (4, 602))]) D rfl nl_588 rfl rfl fun D =>
      j_lld (pc := 51) D rfl rfl rfl fun D =>
      j_ldc2 (pc := 53) D rfl fun D =>
      j_ldc2 (pc := 56) D rfl fun D =>
      j_is (pc := 59) (m := 508) (a := [(1, lq_ x5 v2), (1, (-1000000)), (1, 1000000)]) (rest := []) D rfl rfl rfl rfl (fun v5 h4 e1 D =>
        have T := fj_run_ok _ _ _ _ _ _ H.1 e1
        have H := shp_st H T
        j_ifeq (pc := 62) D rfl (fun q =>
          fk_jump cut_588_74 rfl rfl) (fun q D =>
          j_lld (pc := 65) D rfl rfl rfl fun D =>
          j_ldc2 (pc := 67) D rfl fun D =>
          have D : fk_D 588 [(70, none, .lcmp, 1, 0, 0, 0), (71, none, .ifCond .le 9, 3, 80, 0, 0)] := fq_of2 cd_588 ow_588 cl_588 rfl (pc := 70) (by decide +kernel)
          j_lcmp (pc := 70) D rfl fun D =>
          j_ifle (pc := 71) D rfl (fun q D =>
            fk_jump cut_588_74 rfl rfl) (fun q =>
            fk_jump cut_588_80 rfl rfl))) (fun q6 h4 e1 =>
        j_tx (hx_588 _))) (fun q3 h1 e1 =>
      j_tx (hx_588 _))
theorem e_588_74 (d : Nat) (x5 x7 : Int) {h : fi_H} (H : Shp h) : c_588_74 d x5 x7 h =
  cv_ (fj_run d 577 h [(4, 602), (0, 8)])
    (fun h1 =>
    c_588_80 d x5 x7 h1)
    (fun q3 h1 => tx_ q3 h1) := by
  unfold c_588_74
  exact
    have D : fk_D 588 [(74, some [0, 5, 7], .aload_n 0, 1, 0, 0, 0), (75, none, .bipush 8, 2, 0, 8, 0), (77, none, .invokevirtual 854, 3, 1, 403, 0)] := fq_of2 cd_588 ow_588 cl_588 rfl (pc := 74) (by decide +kernel)
    j_aldn (pc := 74) D rfl rfl rfl fun D =>
    j_bp (pc := 75) D rfl fun D =>
    j_ivv (pc := 77) (m := 577) (dd := 403) (a := [(0, 8)]) (rest := []) D rfl rfl rfl rfl rfl (by decide) (s0_602 H) (by decide +kernel) (fun h1 e1 D =>
      have T := fj_run_ok _ _ _ _ _ _ H.1 e1
      have H := shp_st H T
      fk_jump cut_588_80 rfl rfl) (fun q3 h1 e1 =>
      j_tx (hx_588 _))
theorem e_588_80 (d : Nat) (x5 x7 : Int) {h : fi_H} (H : Shp h) : c_588_80 d x5 x7 h =
  lt_ (fi_upd h 492 602 0 x5) fun h1 =>
  lt_ (fi_upd h1 493 602 0 x7) fun h2 =>
  some (.inl none, h2) := by
  unfold c_588_80
  exact
    have D : fk_D 588 [(80, some [0, 5, 7], .aload_n 0, 1, 0, 0, 0), (81, none, .lload 5, 2, 0, 0, 0), (83, none, .putfield 869, 3, 492, 129, 11), (86, none, .aload_n 0, 1, 0, 0, 0), (87, none, .lload 7, 2, 0, 0, 0), (89, none, .putfield 872, 3, 493, 129, 11), (92, none, .return_, 1, 0, 0, 0)] := fq_of2 cd_588 ow_588 cl_588 rfl (pc := 80) (by decide +kernel)
    j_aldn (pc := 80) D rfl rfl rfl fun D =>
    j_lld (pc := 81) D rfl rfl rfl fun D =>
    j_pf (pc := 83) (a := 602) D rfl rfl rfl (s0_602 H) rfl rfl (gy (by decide)) (gy rfl) fun h1 eh1 S D =>
    have T := fj_hs_ok H.1 S
    have H := shp_st H T
    j_aldn (pc := 86) D rfl rfl rfl fun D =>
    j_lld (pc := 87) D rfl rfl rfl fun D =>
    j_pf (pc := 89) (a := 602) D rfl rfl rfl (s0_602 H) rfl rfl (gy (by decide)) (gy rfl) fun h2 eh2 S D =>
    have T := fj_hs_ok H.1 S
    have H := shp_st H T
    j_vret D rt_588
theorem m_588 (d : Nat) (x1 x3 : Int) {h : fi_H} (H : Shp h) : fj_run (d + 1) 588 h [(4, 602), (1, x1), (1, x3)] =
  if lc_ x3 0 < 0 then
    c_588_12 d x3 (wJ (-x1)) h
  else
    c_588_12 d x3 x1 h := by
  rw [fj_run_eq d (by decide) h [(4, 602), (1, x1), (1, x3)] (Nat.le_of_ble_eq_true (by rw [nl_588]; rfl))]
  show gG (fj_run d) 588 0 [(0, (4, 602)), (1, (1, x1)), (3, (1, x3))] [] h = _
  exact
    have D : fk_D 588 [(0, none, .lload_n 3, 1, 0, 0, 0), (1, none, .lconst 0, 1, 0, 0, 0), (2, none, .lcmp, 1, 0, 0, 0), (3, none, .ifCond .ge 8, 3, 11, 0, 0), (6, none, .lload_n 1, 1, 0, 0, 0), (7, none, .lneg, 1, 0, 0, 0), (8, none, .goto 4, 3, 12, 0, 0)] := fq_of2 cd_588 ow_588 cl_588 rfl (pc := 0) (by decide +kernel)
    j_lldn (pc := 0) D rfl rfl rfl fun D =>
    j_c0 (pc := 1) (v := (1, 0)) D rfl rfl (by decide +kernel) fun D =>
    j_lcmp (pc := 2) D rfl fun D =>
    j_ifge (pc := 3) D rfl (fun q D =>
      j_lldn (pc := 6) D rfl rfl rfl fun D =>
      j_lneg (pc := 7) D rfl fun D =>
      j_goto (pc := 8) D rfl <|
      fk_jump cut_588_12 rfl rfl) (fun q =>
      have D : fk_D 588 [(11, none, .lload_n 1, 1, 0, 0, 0)] := fq_of2 cd_588 ow_588 cl_588 rfl (pc := 11) (by decide +kernel)
      j_lldn (pc := 11) D rfl rfl rfl fun D =>
      fk_jump cut_588_12 rfl rfl)
/-! 589 StatuteHouseModel.compared(IJJIJJ)I -/
theorem cd_589 : fi_code 589 = prog_69_method_114_code := rfl
theorem hx_589 : ∀ pc, fi_hat 589 pc = none := fun pc => by unfold fi_hat; rw [show fi_hh 589 = [] from rfl]; rfl
theorem rt_589 : fi_ret 589 = some .int := rfl
theorem nl_589 : fi_nl 589 = 14 := rfl
theorem ow_589 : fi_ow 589 = 29 := rfl
theorem cl_589 : fj_cutT.getD 589 [] = [(53, [0, 1, 3, 5, 6, 8]), (66, [0, 3, 5, 6]), (71, [0, 3, 5, 6]), (84, [0, 3, 6, 10]), (96, [10]), (102, [10])] := rfl
theorem cut_589_53 : fj_cut 589 53 = some [0, 1, 3, 5, 6, 8] := by decide +kernel
noncomputable def c_589_53 (d : Nat) (x0 x1 x3 x5 x6 x8 : Int) (h : fi_H) : fk_R := gG (fj_run d) 589 53 [(0, (0, x0)), (1, (1, x1)), (3, (1, x3)), (5, (0, x5)), (6, (1, x6)), (8, (1, x8))] [] h
theorem cut_589_66 : fj_cut 589 66 = some [0, 3, 5, 6] := by decide +kernel
noncomputable def c_589_66 (d : Nat) (x0 x3 x5 x6 s0 s1 : Int) (h : fi_H) : fk_R := gG (fj_run d) 589 66 [(0, (0, x0)), (3, (1, x3)), (5, (0, x5)), (6, (1, x6))] [(1, s1), (1, s0)] h
theorem cut_589_71 : fj_cut 589 71 = some [0, 3, 5, 6] := by decide +kernel
noncomputable def c_589_71 (d : Nat) (x0 x3 x5 x6 s0 : Int) (h : fi_H) : fk_R := gG (fj_run d) 589 71 [(0, (0, x0)), (3, (1, x3)), (5, (0, x5)), (6, (1, x6))] [(1, s0)] h
theorem cut_589_84 : fj_cut 589 84 = some [0, 3, 6, 10] := by decide +kernel
noncomputable def c_589_84 (d : Nat) (x0 x3 x6 x10 : Int) (h : fi_H) : fk_R := gG (fj_run d) 589 84 [(0, (0, x0)), (3, (1, x3)), (6, (1, x6)), (10, (1, x10))] [] h
theorem cut_589_96 : fj_cut 589 96 = some [10] := by decide +kernel
noncomputable def c_589_96 (d : Nat) (x10 s0 s1 : Int) (h : fi_H) : fk_R := gG (fj_run d) 589 96 [(10, (1, x10))] [(1, s1), (1, s0)] h
theorem cut_589_102 : fj_cut 589 102 = some [10] := by decide +kernel
noncomputable def c_589_102 (d : Nat) (x10 s0 : Int) (h : fi_H) : fk_R := gG (fj_run d) 589 102 [(10, (1, x10))] [(1, s0)] h
theorem e_589_53 (d : Nat) (x0 x1 x3 x5 x6 x8 : Int) {h : fi_H} (H : Shp h) : c_589_53 d x0 x1 x3 x5 x6 x8 h =
  if x5 = 3 then
    c_589_66 d x0 x3 x5 x6 x1 x8 h
  else
    c_589_66 d x0 x3 x5 x6 x1 1 h := by
  unfold c_589_53
  exact
    have D : fk_D 589 [(53, some [0, 1, 3, 5, 6, 8], .lload_n 1, 1, 0, 0, 0), (54, none, .iload 5, 2, 0, 0, 0), (56, none, .iconst 3, 1, 0, 3, 0), (57, none, .if_icmp .ne 8, 3, 65, 0, 0), (60, none, .lload 8, 2, 0, 0, 0), (62, none, .goto 4, 3, 66, 0, 0)] := fq_of2 cd_589 ow_589 cl_589 rfl (pc := 53) (by decide +kernel)
    j_lldn (pc := 53) D rfl rfl rfl fun D =>
    j_ild (pc := 54) D rfl rfl rfl fun D =>
    j_ic (pc := 56) D rfl fun D =>
    j_ine (pc := 57) D rfl (fun q D =>
      j_lld (pc := 60) D rfl rfl rfl fun D =>
      j_goto (pc := 62) D rfl <|
      fk_jump cut_589_66 rfl rfl) (fun q =>
      have D : fk_D 589 [(65, none, .lconst 1, 1, 0, 0, 0)] := fq_of2 cd_589 ow_589 cl_589 rfl (pc := 65) (by decide +kernel)
      j_c0 (pc := 65) (v := (1, 1)) D rfl rfl (by decide +kernel) fun D =>
      fk_jump cut_589_66 rfl rfl)
theorem e_589_66 (d : Nat) (x0 x3 x5 x6 s0 s1 : Int) {h : fi_H} (H : Shp h) : c_589_66 d x0 x3 x5 x6 s0 s1 h =
  c_589_71 d x0 x3 x5 x6 (wJ (s0 * s1)) h := by
  unfold c_589_66
  exact
    have D : fk_D 589 [(66, some [0, 3, 5, 6], .lmul, 1, 0, 0, 0), (67, none, .goto 4, 3, 71, 0, 0)] := fq_of2 cd_589 ow_589 cl_589 rfl (pc := 66) (by decide +kernel)
    j_lmul (pc := 66) D rfl fun D =>
    j_goto (pc := 67) D rfl <|
    fk_jump cut_589_71 rfl rfl
theorem e_589_71 (d : Nat) (x0 x3 x5 x6 s0 : Int) {h : fi_H} (H : Shp h) : c_589_71 d x0 x3 x5 x6 s0 h =
  if x0 = 3 then
    c_589_84 d x0 x3 x6 s0 h
  else
    if x5 = 3 then
      c_589_84 d x0 x3 x6 s0 h
    else
      c_589_102 d s0 x6 h := by
  unfold c_589_71
  exact
    have D : fk_D 589 [(71, some [0, 3, 5, 6], .lstore 10, 2, 0, 0, 0), (73, none, .iload_n 0, 1, 0, 0, 0), (74, none, .iconst 3, 1, 0, 3, 0), (75, none, .if_icmp .eq 9, 3, 84, 0, 0), (78, none, .iload 5, 2, 0, 0, 0), (80, none, .iconst 3, 1, 0, 3, 0), (81, none, .if_icmp .ne 19, 3, 100, 0, 0)] := fq_of2 cd_589 ow_589 cl_589 rfl (pc := 71) (by decide +kernel)
    j_lst (pc := 71) (L' := [(10, (1, s0)), (0, (0, x0)), (3, (1, x3)), (5, (0, x5)), (6, (1, x6))]) D rfl nl_589 rfl rfl fun D =>
    j_ildn (pc := 73) D rfl rfl rfl fun D =>
    j_ic (pc := 74) D rfl fun D =>
    j_ieq (pc := 75) D rfl (fun q =>
      fk_jump cut_589_84 rfl rfl) (fun q D =>
      j_ild (pc := 78) D rfl rfl rfl fun D =>
      j_ic (pc := 80) D rfl fun D =>
      j_ine (pc := 81) D rfl (fun q D =>
        fk_jump cut_589_84 rfl rfl) (fun q =>
        have D : fk_D 589 [(100, none, .lload 6, 2, 0, 0, 0)] := fq_of2 cd_589 ow_589 cl_589 rfl (pc := 100) (by decide +kernel)
        j_lld (pc := 100) D rfl rfl rfl fun D =>
        fk_jump cut_589_102 rfl rfl))
theorem e_589_84 (d : Nat) (x0 x3 x6 x10 : Int) {h : fi_H} (H : Shp h) : c_589_84 d x0 x3 x6 x10 h =
  if x0 = 3 then
    c_589_96 d x10 x6 x3 h
  else
    c_589_96 d x10 x6 1 h := by
  unfold c_589_84
  exact
    have D : fk_D 589 [(84, some [0, 3, 6, 10], .lload 6, 2, 0, 0, 0), (86, none, .iload_n 0, 1, 0, 0, 0), (87, none, .iconst 3, 1, 0, 3, 0), (88, none, .if_icmp .ne 7, 3, 95, 0, 0), (91, none, .lload_n 3, 1, 0, 0, 0), (92, none, .goto 4, 3, 96, 0, 0)] := fq_of2 cd_589 ow_589 cl_589 rfl (pc := 84) (by decide +kernel)
    j_lld (pc := 84) D rfl rfl rfl fun D =>
    j_ildn (pc := 86) D rfl rfl rfl fun D =>
    j_ic (pc := 87) D rfl fun D =>
    j_ine (pc := 88) D rfl (fun q D =>
      j_lldn (pc := 91) D rfl rfl rfl fun D =>
      j_goto (pc := 92) D rfl <|
      fk_jump cut_589_96 rfl rfl) (fun q =>
      have D : fk_D 589 [(95, none, .lconst 1, 1, 0, 0, 0)] := fq_of2 cd_589 ow_589 cl_589 rfl (pc := 95) (by decide +kernel)
      j_c0 (pc := 95) (v := (1, 1)) D rfl rfl (by decide +kernel) fun D =>
      fk_jump cut_589_96 rfl rfl)
theorem e_589_96 (d : Nat) (x10 s0 s1 : Int) {h : fi_H} (H : Shp h) : c_589_96 d x10 s0 s1 h =
  c_589_102 d x10 (wJ (s0 * s1)) h := by
  unfold c_589_96
  exact
    have D : fk_D 589 [(96, some [10], .lmul, 1, 0, 0, 0), (97, none, .goto 5, 3, 102, 0, 0)] := fq_of2 cd_589 ow_589 cl_589 rfl (pc := 96) (by decide +kernel)
    j_lmul (pc := 96) D rfl fun D =>
    j_goto (pc := 97) D rfl <|
    fk_jump cut_589_102 rfl rfl
theorem e_589_102 (d : Nat) (x10 s0 : Int) {h : fi_H} (H : Shp h) : c_589_102 d x10 s0 h =
  if lc_ x10 s0 < 0 then
    some (.inl (some (0, (-1))), h)
  else
    if 0 < lc_ x10 s0 then
      some (.inl (some (0, 1)), h)
    else
      some (.inl (some (0, 0)), h) := by
  unfold c_589_102
  exact
    have D : fk_D 589 [(102, some [10], .lstore 12, 2, 0, 0, 0), (104, none, .lload 10, 2, 0, 0, 0), (106, none, .lload 12, 2, 0, 0, 0), (108, none, .lcmp, 1, 0, 0, 0), (109, none, .ifCond .ge 7, 3, 116, 0, 0), (112, none, .iconst (-1), 1, 0, (-1), 0), (113, none, .goto 16, 3, 129, 0, 0)] := fq_of2 cd_589 ow_589 cl_589 rfl (pc := 102) (by decide +kernel)
    j_lst (pc := 102) (L' := [(12, (1, s0)), (10, (1, x10))]) D rfl nl_589 rfl rfl fun D =>
    j_lld (pc := 104) D rfl rfl rfl fun D =>
    j_lld (pc := 106) D rfl rfl rfl fun D =>
    j_lcmp (pc := 108) D rfl fun D =>
    j_ifge (pc := 109) D rfl (fun q D =>
      j_ic (pc := 112) D rfl fun D =>
      j_goto (pc := 113) D rfl <|
      have D : fk_D 589 [(129, none, .ireturn, 1, 0, 0, 0)] := fq_of2 cd_589 ow_589 cl_589 rfl (pc := 129) (by decide +kernel)
      j_iret D rt_589) (fun q =>
      have D : fk_D 589 [(116, none, .lload 10, 2, 0, 0, 0), (118, none, .lload 12, 2, 0, 0, 0), (120, none, .lcmp, 1, 0, 0, 0), (121, none, .ifCond .le 7, 3, 128, 0, 0), (124, none, .iconst 1, 1, 0, 1, 0), (125, none, .goto 4, 3, 129, 0, 0)] := fq_of2 cd_589 ow_589 cl_589 rfl (pc := 116) (by decide +kernel)
      j_lld (pc := 116) D rfl rfl rfl fun D =>
      j_lld (pc := 118) D rfl rfl rfl fun D =>
      j_lcmp (pc := 120) D rfl fun D =>
      j_ifle (pc := 121) D rfl (fun q D =>
        j_ic (pc := 124) D rfl fun D =>
        j_goto (pc := 125) D rfl <|
        have D : fk_D 589 [(129, none, .ireturn, 1, 0, 0, 0)] := fq_of2 cd_589 ow_589 cl_589 rfl (pc := 129) (by decide +kernel)
        j_iret D rt_589) (fun q =>
        have D : fk_D 589 [(128, none, .iconst 0, 1, 0, 0, 0), (129, none, .ireturn, 1, 0, 0, 0)] := fq_of2 cd_589 ow_589 cl_589 rfl (pc := 128) (by decide +kernel)
        j_ic (pc := 128) D rfl fun D =>
        j_iret D rt_589))
theorem m_589 (d : Nat) (x0 x1 x3 x5 x6 x8 : Int) {h : fi_H} (H : Shp h) : fj_run (d + 1) 589 h [(0, x0), (1, x1), (1, x3), (0, x5), (1, x6), (1, x8)] =
  if x0 = 6 then
    ca_ (fj_run d 582 h [(1, x1)]) 3
      (fun v2 h1 =>
      ca_ (fj_run d 582 h1 [(1, x6)]) 3
        (fun v5 h4 =>
        if dg_ v2 v5 < 0 then
          some (.inl (some (0, (-1))), h4)
        else
          ca_ (fj_run d 582 h4 [(1, x1)]) 3
            (fun v8 h7 =>
            ca_ (fj_run d 582 h7 [(1, x6)]) 3
              (fun v11 h10 =>
              if 0 < dl_ v8 v11 then
                some (.inl (some (0, 1)), h10)
              else
                some (.inl (some (0, 0)), h10))
              (fun q12 h10 => tx_ q12 h10))
            (fun q9 h7 => tx_ q9 h7))
        (fun q6 h4 => tx_ q6 h4))
      (fun q3 h1 => tx_ q3 h1)
  else
    if x0 = 3 then
      c_589_53 d x0 x1 x3 x5 x6 x8 h
    else
      if x5 = 3 then
        c_589_53 d x0 x1 x3 x5 x6 x8 h
      else
        c_589_71 d x0 x3 x5 x6 x1 h := by
  rw [fj_run_eq d (by decide) h [(0, x0), (1, x1), (1, x3), (0, x5), (1, x6), (1, x8)] (Nat.le_of_ble_eq_true (by rw [nl_589]; rfl))]
  show gG (fj_run d) 589 0 [(0, (0, x0)), (1, (1, x1)), (3, (1, x3)), (5, (0, x5)), (6, (1, x6)), (8, (1, x8))] [] h = _
  exact
    have D : fk_D 589 [(0, none, .iload_n 0, 1, 0, 0, 0), (1, none, .bipush 6, 2, 0, 6, 0), (3, none, .if_icmp .ne 39, 3, 42, 0, 0), (6, none, .lload_n 1, 1, 0, 0, 0), (7, none, .invokestatic 960, 3, 1, 582, 4), (10, none, .lload 6, 2, 0, 0, 0), (12, none, .invokestatic 960, 3, 1, 582, 4), (15, none, .dcmp .g, 1, 0, 0, 0), (16, none, .ifCond .ge 7, 3, 23, 0, 0), (19, none, .iconst (-1), 1, 0, (-1), 0), (20, none, .goto 21, 3, 41, 0, 0)] := fq_of2 cd_589 ow_589 cl_589 rfl (pc := 0) (by decide +kernel)
    j_ildn (pc := 0) D rfl rfl rfl fun D =>
    j_bp (pc := 1) D rfl fun D =>
    j_ine (pc := 3) D rfl (fun q D =>
      j_lldn (pc := 6) D rfl rfl rfl fun D =>
      j_is (pc := 7) (m := 582) (a := [(1, x1)]) (rest := []) D rfl rfl rfl rfl (fun v2 h1 e1 D =>
        have T := fj_run_ok _ _ _ _ _ _ H.1 e1
        have H := shp_st H T
        j_lld (pc := 10) D rfl rfl rfl fun D =>
        j_is (pc := 12) (m := 582) (a := [(1, x6)]) (rest := [(3, v2)]) D rfl rfl rfl rfl (fun v5 h4 e1 D =>
          have T := fj_run_ok _ _ _ _ _ _ H.1 e1
          have H := shp_st H T
          j_dcmpg (pc := 15) D rfl fun D =>
          j_ifge (pc := 16) D rfl (fun q D =>
            j_ic (pc := 19) D rfl fun D =>
            j_goto (pc := 20) D rfl <|
            have D : fk_D 589 [(41, none, .ireturn, 1, 0, 0, 0)] := fq_of2 cd_589 ow_589 cl_589 rfl (pc := 41) (by decide +kernel)
            j_iret D rt_589) (fun q =>
            have D : fk_D 589 [(23, none, .lload_n 1, 1, 0, 0, 0), (24, none, .invokestatic 960, 3, 1, 582, 4), (27, none, .lload 6, 2, 0, 0, 0), (29, none, .invokestatic 960, 3, 1, 582, 4), (32, none, .dcmp .l, 1, 0, 0, 0), (33, none, .ifCond .le 7, 3, 40, 0, 0), (36, none, .iconst 1, 1, 0, 1, 0), (37, none, .goto 4, 3, 41, 0, 0)] := fq_of2 cd_589 ow_589 cl_589 rfl (pc := 23) (by decide +kernel)
            j_lldn (pc := 23) D rfl rfl rfl fun D =>
            j_is (pc := 24) (m := 582) (a := [(1, x1)]) (rest := []) D rfl rfl rfl rfl (fun v8 h7 e1 D =>
              have T := fj_run_ok _ _ _ _ _ _ H.1 e1
              have H := shp_st H T
              j_lld (pc := 27) D rfl rfl rfl fun D =>
              j_is (pc := 29) (m := 582) (a := [(1, x6)]) (rest := [(3, v8)]) D rfl rfl rfl rfl (fun v11 h10 e1 D =>
                have T := fj_run_ok _ _ _ _ _ _ H.1 e1
                have H := shp_st H T
                j_dcmpl (pc := 32) D rfl fun D =>
                j_ifle (pc := 33) D rfl (fun q D =>
                  j_ic (pc := 36) D rfl fun D =>
                  j_goto (pc := 37) D rfl <|
                  have D : fk_D 589 [(41, none, .ireturn, 1, 0, 0, 0)] := fq_of2 cd_589 ow_589 cl_589 rfl (pc := 41) (by decide +kernel)
                  j_iret D rt_589) (fun q =>
                  have D : fk_D 589 [(40, none, .iconst 0, 1, 0, 0, 0), (41, none, .ireturn, 1, 0, 0, 0)] := fq_of2 cd_589 ow_589 cl_589 rfl (pc := 40) (by decide +kernel)
                  j_ic (pc := 40) D rfl fun D =>
                  j_iret D rt_589)) (fun q12 h10 e1 =>
                j_tx (hx_589 _))) (fun q9 h7 e1 =>
              j_tx (hx_589 _)))) (fun q6 h4 e1 =>
          j_tx (hx_589 _))) (fun q3 h1 e1 =>
        j_tx (hx_589 _))) (fun q =>
      have D : fk_D 589 [(42, none, .iload_n 0, 1, 0, 0, 0), (43, none, .iconst 3, 1, 0, 3, 0), (44, none, .if_icmp .eq 9, 3, 53, 0, 0), (47, none, .iload 5, 2, 0, 0, 0), (49, none, .iconst 3, 1, 0, 3, 0), (50, none, .if_icmp .ne 20, 3, 70, 0, 0)] := fq_of2 cd_589 ow_589 cl_589 rfl (pc := 42) (by decide +kernel)
      j_ildn (pc := 42) D rfl rfl rfl fun D =>
      j_ic (pc := 43) D rfl fun D =>
      j_ieq (pc := 44) D rfl (fun q =>
        fk_jump cut_589_53 rfl rfl) (fun q D =>
        j_ild (pc := 47) D rfl rfl rfl fun D =>
        j_ic (pc := 49) D rfl fun D =>
        j_ine (pc := 50) D rfl (fun q D =>
          fk_jump cut_589_53 rfl rfl) (fun q =>
          have D : fk_D 589 [(70, none, .lload_n 1, 1, 0, 0, 0)] := fq_of2 cd_589 ow_589 cl_589 rfl (pc := 70) (by decide +kernel)
          j_lldn (pc := 70) D rfl rfl rfl fun D =>
          fk_jump cut_589_71 rfl rfl)))
/-! 590 StatuteHouseModel.setTruth(Z)V -/
theorem cd_590 : fi_code 590 = prog_69_method_109_code := rfl
theorem hx_590 : ∀ pc, fi_hat 590 pc = none := fun pc => by unfold fi_hat; rw [show fi_hh 590 = [] from rfl]; rfl
theorem rt_590 : fi_ret 590 = none := rfl
theorem nl_590 : fi_nl 590 = 2 := rfl
theorem ow_590 : fi_ow 590 = 29 := rfl
theorem cl_590 : fj_cutT.getD 590 [] = [(10, [0])] := rfl
theorem cut_590_10 : fj_cut 590 10 = some [0] := by decide +kernel
noncomputable def c_590_10 (d : Nat) (s0 s1 : Int) (h : fi_H) : fk_R := gG (fj_run d) 590 10 [(0, (4, 602))] [(1, s1), (4, s0)] h
theorem e_590_10 (d : Nat) (s0 s1 : Int) {h : fi_H} (H : Shp h) : c_590_10 d s0 s1 h =
  if h 0 s0.toNat 0 = 129 then
  if 302 < s0 then
  lt_ (fi_upd h 492 s0.toNat 0 s1) fun h1 =>
  lt_ (fi_upd h1 493 602 0 0) fun h3 =>
  some (.inl none, h3)
  else none
  else none := by
  unfold c_590_10
  exact
    have D : fk_D 590 [(10, some [0], .putfield 869, 3, 492, (-129), 11), (13, none, .aload_n 0, 1, 0, 0, 0), (14, none, .lconst 0, 1, 0, 0, 0), (15, none, .putfield 872, 3, 493, 129, 11), (18, none, .return_, 1, 0, 0, 0)] := fq_of2 cd_590 ow_590 cl_590 rfl (pc := 10) (by decide +kernel)
    j_pfo (pc := 10) D rfl rfl rfl rfl rfl gn gn (gy rfl) fun h1 eh1 S kc2 D =>
    have T := fj_hs_ok H.1 S
    have H := shp_st H T
    j_aldn (pc := 13) D rfl rfl rfl fun D =>
    j_c0 (pc := 14) (v := (1, 0)) D rfl rfl (by decide +kernel) fun D =>
    j_pf (pc := 15) (a := 602) D rfl rfl rfl (s0_602 H) rfl rfl (gy (by decide)) (gy rfl) fun h3 eh3 S D =>
    have T := fj_hs_ok H.1 S
    have H := shp_st H T
    j_vret D rt_590
theorem m_590 (d : Nat) (x1 : Int) {h : fi_H} (H : Shp h) : fj_run (d + 1) 590 h [(4, 602), (0, x1)] =
  if x1 = 0 then
    c_590_10 d 602 0 h
  else
    c_590_10 d 602 1 h := by
  rw [fj_run_eq d (by decide) h [(4, 602), (0, x1)] (Nat.le_of_ble_eq_true (by rw [nl_590]; rfl))]
  show gG (fj_run d) 590 0 [(0, (4, 602)), (1, (0, x1))] [] h = _
  exact
    have D : fk_D 590 [(0, none, .aload_n 0, 1, 0, 0, 0), (1, none, .iload_n 1, 1, 0, 0, 0), (2, none, .ifCond .eq 7, 3, 9, 0, 0), (5, none, .lconst 1, 1, 0, 0, 0), (6, none, .goto 4, 3, 10, 0, 0)] := fq_of2 cd_590 ow_590 cl_590 rfl (pc := 0) (by decide +kernel)
    j_aldn (pc := 0) D rfl rfl rfl fun D =>
    j_ildn (pc := 1) D rfl rfl rfl fun D =>
    j_ifeq (pc := 2) D rfl (fun q =>
      have D : fk_D 590 [(9, none, .lconst 0, 1, 0, 0, 0)] := fq_of2 cd_590 ow_590 cl_590 rfl (pc := 9) (by decide +kernel)
      j_c0 (pc := 9) (v := (1, 0)) D rfl rfl (by decide +kernel) fun D =>
      fk_jump cut_590_10 rfl rfl) (fun q D =>
      j_c0 (pc := 5) (v := (1, 1)) D rfl rfl (by decide +kernel) fun D =>
      j_goto (pc := 6) D rfl <|
      fk_jump cut_590_10 rfl rfl)
/-! 591 StatuteHouseModel.workFunction(I)V -/
theorem cd_591 : fi_code 591 = prog_69_method_123_code := rfl
theorem hx_591 : ∀ pc, fi_hat 591 pc = none := fun pc => by unfold fi_hat; rw [show fi_hh 591 = [] from rfl]; rfl
theorem rt_591 : fi_ret 591 = none := rfl
theorem nl_591 : fi_nl 591 = 10 := rfl
theorem ow_591 : fi_ow 591 = 29 := rfl
theorem cl_591 : fj_cutT.getD 591 [] = [(48, []), (187, [0, 3, 7]), (188, [0, 3, 7]), (216, []), (342, [0, 2, 3, 5, 8]), (361, [0, 3, 5])] := rfl
theorem cut_591_48 : fj_cut 591 48 = some [] := by decide +kernel
noncomputable def c_591_48 (d : Nat) (s0 s1 : Int) (h : fi_H) : fk_R := gG (fj_run d) 591 48 [] [(0, s1), (4, s0)] h
theorem cut_591_187 : fj_cut 591 187 = some [0, 3, 7] := by decide +kernel
noncomputable def c_591_187 (d : Nat) (x3 x7 : Int) (h : fi_H) : fk_R := gG (fj_run d) 591 187 [(0, (4, 602)), (3, (1, x3)), (7, (1, x7))] [] h
theorem cut_591_188 : fj_cut 591 188 = some [0, 3, 7] := by decide +kernel
noncomputable def c_591_188 (d : Nat) (x3 x7 s0 : Int) (h : fi_H) : fk_R := gG (fj_run d) 591 188 [(0, (4, 602)), (3, (1, x3)), (7, (1, x7))] [(0, s0)] h
theorem cut_591_216 : fj_cut 591 216 = some [] := by decide +kernel
noncomputable def c_591_216 (d : Nat) (s0 s1 : Int) (h : fi_H) : fk_R := gG (fj_run d) 591 216 [] [(1, s1), (4, s0)] h
theorem cut_591_342 : fj_cut 591 342 = some [0, 2, 3, 5, 8] := by decide +kernel
noncomputable def c_591_342 (d : Nat) (x2 x3 x5 x8 : Int) (h : fi_H) : fk_R := gG (fj_run d) 591 342 [(0, (4, 602)), (2, (0, x2)), (3, (1, x3)), (5, (1, x5)), (8, (0, x8))] [] h
theorem cut_591_361 : fj_cut 591 361 = some [0, 3, 5] := by decide +kernel
noncomputable def c_591_361 (d : Nat) (x3 x5 : Int) (h : fi_H) : fk_R := gG (fj_run d) 591 361 [(0, (4, 602)), (3, (1, x3)), (5, (1, x5))] [] h
theorem e_591_48 (d : Nat) (s0 s1 : Int) {h : fi_H} (H : Shp h) : c_591_48 d s0 s1 h =
  dv_ (fi_vt 412 (h 0 s0.toNat 0)) fun m4 => cv_ (fj_run d m4 h [(4, s0), (0, s1)])
    (fun h1 =>
    some (.inl none, h1))
    (fun q3 h1 => tx_ q3 h1) := by
  unfold c_591_48
  exact
    have D : fk_D 591 [(48, some [], .invokevirtual 913, 3, 1, 412, 0), (51, none, .return_, 1, 0, 0, 0)] := fq_of2 cd_591 ow_591 cl_591 rfl (pc := 48) (by decide +kernel)
    j_ivuv (pc := 48) (dd := 412) (a := [(0, s1)]) (rest := []) H.2.1 D rfl rfl rfl rfl rfl (fun m4 h1 e1 D =>
      have T := fj_run_ok _ _ _ _ _ _ H.1 e1
      have H := shp_st H T
      j_vret D rt_591) (fun m4 q3 h1 e1 =>
      j_tx (hx_591 _))
theorem e_591_187 (d : Nat) (x3 x7 : Int) {h : fi_H} (H : Shp h) : c_591_187 d x3 x7 h =
  c_591_188 d x3 x7 0 h := by
  unfold c_591_187
  exact
    have D : fk_D 591 [(187, some [0, 3, 7], .iconst 0, 1, 0, 0, 0)] := fq_of2 cd_591 ow_591 cl_591 rfl (pc := 187) (by decide +kernel)
    j_ic (pc := 187) D rfl fun D =>
    fk_jump cut_591_188 rfl rfl
theorem e_591_188 (d : Nat) (x3 x7 s0 : Int) {h : fi_H} (H : Shp h) : c_591_188 d x3 x7 s0 h =
  if s0 = 0 then
    c_591_216 d 602 (-1) h
  else
    ca_ (fj_run d 518 h [(0, wI x3), (0, wI x7), (0, wI (h 492 602 0))]) 0
      (fun v2 h1 =>
      c_591_216 d 602 (wI v2) h1)
      (fun q3 h1 => tx_ q3 h1) := by
  unfold c_591_188
  exact
    have D : fk_D 591 [(188, some [0, 3, 7], .istore 9, 2, 0, 0, 0), (190, none, .aload_n 0, 1, 0, 0, 0), (191, none, .iload 9, 2, 0, 0, 0), (193, none, .ifCond .eq 20, 3, 213, 0, 0), (196, none, .lload_n 3, 1, 0, 0, 0), (197, none, .l2i, 1, 0, 0, 0), (198, none, .lload 7, 2, 0, 0, 0), (200, none, .l2i, 1, 0, 0, 0), (201, none, .aload_n 0, 1, 0, 0, 0), (202, none, .getfield 869, 3, 492, 129, 11), (205, none, .l2i, 1, 0, 0, 0), (206, none, .invokestatic 449, 3, 3, 518, 1), (209, none, .i2l, 1, 0, 0, 0), (210, none, .goto 6, 3, 216, 0, 0)] := fq_of2 cd_591 ow_591 cl_591 rfl (pc := 188) (by decide +kernel)
    j_ist (pc := 188) (L' := [(9, (0, s0)), (0, (4, 602)), (3, (1, x3)), (7, (1, x7))]) D rfl nl_591 rfl rfl fun D =>
    j_aldn (pc := 190) D rfl rfl rfl fun D =>
    j_ild (pc := 191) D rfl rfl rfl fun D =>
    j_ifeq (pc := 193) D rfl (fun q =>
      have D : fk_D 591 [(213, none, .ldc2_w 1024, 3, 1, (-1), 0)] := fq_of2 cd_591 ow_591 cl_591 rfl (pc := 213) (by decide +kernel)
      j_ldc2 (pc := 213) D rfl fun D =>
      fk_jump cut_591_216 rfl rfl) (fun q D =>
      j_lldn (pc := 196) D rfl rfl rfl fun D =>
      j_l2i (pc := 197) D rfl fun D =>
      j_lld (pc := 198) D rfl rfl rfl fun D =>
      j_l2i (pc := 200) D rfl fun D =>
      j_aldn (pc := 201) D rfl rfl rfl fun D =>
      j_gf (pc := 202) (a := 602) D rfl rfl (by decide) rfl (s0_602 H) rfl fun D =>
      j_l2i (pc := 205) D rfl fun D =>
      j_is (pc := 206) (m := 518) (a := [(0, wI x3), (0, wI x7), (0, wI (h 492 602 0))]) (rest := [(4, 602)]) D rfl rfl rfl rfl (fun v2 h1 e1 D =>
        have T := fj_run_ok _ _ _ _ _ _ H.1 e1
        have H := shp_st H T
        j_i2l (pc := 209) D rfl fun D =>
        j_goto (pc := 210) D rfl <|
        fk_jump cut_591_216 rfl rfl) (fun q3 h1 e1 =>
        j_tx (hx_591 _)))
theorem e_591_216 (d : Nat) (s0 s1 : Int) {h : fi_H} (H : Shp h) : c_591_216 d s0 s1 h =
  dv_ (fi_vt 419 (h 0 s0.toNat 0)) fun m4 => cv_ (fj_run d m4 h [(4, s0), (1, s1)])
    (fun h1 =>
    some (.inl none, h1))
    (fun q3 h1 => tx_ q3 h1) := by
  unfold c_591_216
  exact
    have D : fk_D 591 [(216, some [], .invokevirtual 976, 3, 1, 419, 0), (219, none, .return_, 1, 0, 0, 0)] := fq_of2 cd_591 ow_591 cl_591 rfl (pc := 216) (by decide +kernel)
    j_ivuv (pc := 216) (dd := 419) (a := [(1, s1)]) (rest := []) H.2.1 D rfl rfl rfl rfl rfl (fun m4 h1 e1 D =>
      have T := fj_run_ok _ _ _ _ _ _ H.1 e1
      have H := shp_st H T
      j_vret D rt_591) (fun m4 q3 h1 e1 =>
      j_tx (hx_591 _))
theorem e_591_342 (d : Nat) (x2 x3 x5 x8 : Int) {h : fi_H} (H : Shp h) : c_591_342 d x2 x3 x5 x8 h =
  if x2 = 34 then
    if 0 < x8 then
      some (.inl none, h)
    else
      c_591_361 d x3 x5 h
  else
    if x8 < 0 then
      some (.inl none, h)
    else
      c_591_361 d x3 x5 h := by
  unfold c_591_342
  exact
    have D : fk_D 591 [(342, some [0, 2, 3, 5, 8], .iload_n 2, 1, 0, 0, 0), (343, none, .bipush 34, 2, 0, 34, 0), (345, none, .if_icmp .ne 11, 3, 356, 0, 0), (348, none, .iload 8, 2, 0, 0, 0), (350, none, .ifCond .gt 39, 3, 389, 0, 0), (353, none, .goto 8, 3, 361, 0, 0)] := fq_of2 cd_591 ow_591 cl_591 rfl (pc := 342) (by decide +kernel)
    j_ildn (pc := 342) D rfl rfl rfl fun D =>
    j_bp (pc := 343) D rfl fun D =>
    j_ine (pc := 345) D rfl (fun q D =>
      j_ild (pc := 348) D rfl rfl rfl fun D =>
      j_ifgt (pc := 350) D rfl (fun q =>
        have D : fk_D 591 [(389, none, .return_, 1, 0, 0, 0)] := fq_of2 cd_591 ow_591 cl_591 rfl (pc := 389) (by decide +kernel)
        j_vret D rt_591) (fun q D =>
        j_goto (pc := 353) D rfl <|
        fk_jump cut_591_361 rfl rfl)) (fun q =>
      have D : fk_D 591 [(356, none, .iload 8, 2, 0, 0, 0), (358, none, .ifCond .lt 31, 3, 389, 0, 0)] := fq_of2 cd_591 ow_591 cl_591 rfl (pc := 356) (by decide +kernel)
      j_ild (pc := 356) D rfl rfl rfl fun D =>
      j_iflt (pc := 358) D rfl (fun q =>
        have D : fk_D 591 [(389, none, .return_, 1, 0, 0, 0)] := fq_of2 cd_591 ow_591 cl_591 rfl (pc := 389) (by decide +kernel)
        j_vret D rt_591) (fun q D =>
        fk_jump cut_591_361 rfl rfl))
theorem e_591_361 (d : Nat) (x3 x5 : Int) {h : fi_H} (H : Shp h) : c_591_361 d x3 x5 h =
  lt_ (fi_upd h 492 602 0 x3) fun h1 =>
  lt_ (fi_upd h1 493 602 0 x5) fun h2 =>
  some (.inl none, h2) := by
  unfold c_591_361
  exact
    have D : fk_D 591 [(361, some [0, 3, 5], .aload_n 0, 1, 0, 0, 0), (362, none, .lload_n 3, 1, 0, 0, 0), (363, none, .putfield 869, 3, 492, 129, 11), (366, none, .aload_n 0, 1, 0, 0, 0), (367, none, .lload 5, 2, 0, 0, 0), (369, none, .putfield 872, 3, 493, 129, 11), (372, none, .goto 17, 3, 389, 0, 0)] := fq_of2 cd_591 ow_591 cl_591 rfl (pc := 361) (by decide +kernel)
    j_aldn (pc := 361) D rfl rfl rfl fun D =>
    j_lldn (pc := 362) D rfl rfl rfl fun D =>
    j_pf (pc := 363) (a := 602) D rfl rfl rfl (s0_602 H) rfl rfl (gy (by decide)) (gy rfl) fun h1 eh1 S D =>
    have T := fj_hs_ok H.1 S
    have H := shp_st H T
    j_aldn (pc := 366) D rfl rfl rfl fun D =>
    j_lld (pc := 367) D rfl rfl rfl fun D =>
    j_pf (pc := 369) (a := 602) D rfl rfl rfl (s0_602 H) rfl rfl (gy (by decide)) (gy rfl) fun h2 eh2 S D =>
    have T := fj_hs_ok H.1 S
    have H := shp_st H T
    j_goto (pc := 372) D rfl <|
    have D : fk_D 591 [(389, none, .return_, 1, 0, 0, 0)] := fq_of2 cd_591 ow_591 cl_591 rfl (pc := 389) (by decide +kernel)
    j_vret D rt_591
theorem m_591 (d : Nat) (x1 : Int) {h : fi_H} (H : Shp h) : fj_run (d + 1) 591 h [(4, 602), (0, x1)] =
  if 0 ≤ x1 ∧ x1 < 9300 then
  if h 10 617 x1.toNat = 30 then
    cv_ (fj_run d 575 h [(4, 602), (0, h 10 619 x1.toNat)])
      (fun h2 =>
      if lc_ (h2 492 602 0) 1 = 0 then
        c_591_48 d 602 (h2 10 620 x1.toNat) h2
      else
        c_591_48 d 602 (h2 10 621 x1.toNat) h2)
      (fun q4 h2 => tx_ q4 h2)
  else
    cv_ (fj_run d 575 h [(4, 602), (0, h 10 619 x1.toNat)])
      (fun h5 =>
      if h5 10 620 x1.toNat = (-1) then
        if 0 ≤ h5 10 619 x1.toNat ∧ h5 10 619 x1.toNat < 9300 then
        cv_ (fj_run d 592 h5 [(4, 602), (0, h 10 617 x1.toNat), (0, h5 10 618 (h5 10 619 x1.toNat).toNat)])
          (fun h9 =>
          some (.inl none, h9))
          (fun q11 h9 => tx_ q11 h9)
        else none
      else
        cv_ (fj_run d 575 h5 [(4, 602), (0, h5 10 620 x1.toNat)])
          (fun h12 =>
          if h 10 617 x1.toNat = 52 then
            cv_ (fj_run d 575 h12 [(4, 602), (0, h12 10 621 x1.toNat)])
              (fun h15 =>
              ca_ (fj_run d 508 h15 [(1, h5 492 602 0), (1, 1900), (1, 2079)]) 0
                (fun v19 h18 =>
                if v19 = 0 then
                  c_591_187 d (h5 492 602 0) (h12 492 602 0) h18
                else
                  ca_ (fj_run d 508 h18 [(1, h12 492 602 0), (1, 1), (1, 12)]) 0
                    (fun v22 h21 =>
                    if v22 = 0 then
                      c_591_187 d (h5 492 602 0) (h12 492 602 0) h21
                    else
                      if 0 < lc_ (h21 492 602 0) 0 then
                        ca_ (fj_run d 516 h21 [(0, wI (h5 492 602 0)), (0, wI (h12 492 602 0))]) 0
                          (fun v25 h24 =>
                          if 0 < lc_ (h21 492 602 0) (wI v25) then
                            c_591_187 d (h5 492 602 0) (h12 492 602 0) h24
                          else
                            c_591_188 d (h5 492 602 0) (h12 492 602 0) 1 h24)
                          (fun q26 h24 => tx_ q26 h24)
                      else
                        c_591_187 d (h5 492 602 0) (h12 492 602 0) h21)
                    (fun q23 h21 => tx_ q23 h21))
                (fun q20 h18 => tx_ q20 h18))
              (fun q17 h15 => tx_ q17 h15)
          else
            if 0 ≤ h12 10 619 x1.toNat ∧ h12 10 619 x1.toNat < 9300 then
            if h 10 617 x1.toNat = 31 then
              ca_ (fj_run d 600 h12 [(4, 602), (0, wI (h5 492 602 0)), (0, wI (h12 492 602 0))]) 0
                (fun v29 h28 =>
                cv_ (fj_run d 587 h28 [(4, 602), (1, wI (iq_ v29 12))])
                  (fun h31 =>
                  some (.inl none, h31))
                  (fun q33 h31 => tx_ q33 h31))
                (fun q30 h28 => tx_ q30 h28)
            else if h 10 617 x1.toNat = 32 then
              ca_ (fj_run d 600 h12 [(4, 602), (0, wI (h5 492 602 0)), (0, wI (h12 492 602 0))]) 0
                (fun v35 h34 =>
                cv_ (fj_run d 587 h34 [(4, 602), (1, wI v35)])
                  (fun h37 =>
                  some (.inl none, h37))
                  (fun q39 h37 => tx_ q39 h37))
                (fun q36 h34 => tx_ q36 h34)
            else if h 10 617 x1.toNat = 33 then
              cv_ (fj_run d 587 h12 [(4, 602), (1, wJ ((h12 492 602 0) - (h5 492 602 0)))])
                (fun h40 =>
                some (.inl none, h40))
                (fun q42 h40 => tx_ q42 h40)
            else if h 10 617 x1.toNat = 34 then
              ca_ (fj_run d 589 h12 [(0, h12 10 618 (h12 10 619 x1.toNat).toNat), (1, h5 492 602 0), (1, h5 493 602 0), (0, h12 10 618 (h12 10 619 x1.toNat).toNat), (1, h12 492 602 0), (1, h12 493 602 0)]) 0
                (fun v44 h43 =>
                c_591_342 d (h 10 617 x1.toNat) (h5 492 602 0) (h5 493 602 0) v44 h43)
                (fun q45 h43 => tx_ q45 h43)
            else if h 10 617 x1.toNat = 35 then
              ca_ (fj_run d 589 h12 [(0, h12 10 618 (h12 10 619 x1.toNat).toNat), (1, h5 492 602 0), (1, h5 493 602 0), (0, h12 10 618 (h12 10 619 x1.toNat).toNat), (1, h12 492 602 0), (1, h12 493 602 0)]) 0
                (fun v47 h46 =>
                c_591_342 d (h 10 617 x1.toNat) (h5 492 602 0) (h5 493 602 0) v47 h46)
                (fun q48 h46 => tx_ q48 h46)
            else 
              ca_ (fj_run d 602 h12 [(4, 602), (0, h 10 617 x1.toNat), (1, h5 492 602 0), (1, h12 492 602 0)]) 1
                (fun v50 h49 =>
                cv_ (fj_run d 586 h49 [(4, 602), (1, v50)])
                  (fun h52 =>
                  some (.inl none, h52))
                  (fun q54 h52 => tx_ q54 h52))
                (fun q51 h49 => tx_ q51 h49)
            else none)
          (fun q14 h12 => tx_ q14 h12))
      (fun q7 h5 => tx_ q7 h5)
  else none := by
  rw [fj_run_eq d (by decide) h [(4, 602), (0, x1)] (Nat.le_of_ble_eq_true (by rw [nl_591]; rfl))]
  show gG (fj_run d) 591 0 [(0, (4, 602)), (1, (0, x1))] [] h = _
  exact
    have D : fk_D 591 [(0, none, .aload_n 0, 1, 0, 0, 0), (1, none, .getfield 62, 3, 418, 129, 12), (4, none, .iload_n 1, 1, 0, 0, 0), (5, none, .iaload, 1, 0, 0, 0), (6, none, .istore_n 2, 1, 0, 0, 0), (7, none, .iload_n 2, 1, 0, 0, 0), (8, none, .bipush 30, 2, 0, 30, 0), (10, none, .if_icmp .ne 42, 3, 52, 0, 0), (13, none, .aload_n 0, 1, 0, 0, 0), (14, none, .aload_n 0, 1, 0, 0, 0), (15, none, .getfield 68, 3, 420, 129, 12), (18, none, .iload_n 1, 1, 0, 0, 0), (19, none, .iaload, 1, 0, 0, 0), (20, none, .invokevirtual 913, 3, 1, 412, 0), (23, none, .aload_n 0, 1, 0, 0, 0), (24, none, .aload_n 0, 1, 0, 0, 0), (25, none, .getfield 869, 3, 492, 129, 11), (28, none, .lconst 1, 1, 0, 0, 0), (29, none, .lcmp, 1, 0, 0, 0), (30, none, .ifCond .ne 12, 3, 42, 0, 0)] := fq_of2 cd_591 ow_591 cl_591 rfl (pc := 0) (by decide +kernel)
    j_aldn (pc := 0) D rfl rfl rfl fun D =>
    j_gfc (pc := 1) (a := 602) D rfl rfl (by decide) rfl (s0_602 H) rfl (sf_418_602 H) fun D =>
    j_ildn (pc := 4) D rfl rfl rfl fun D =>
    j_al (pc := 5) (a := 617) (e := 10) D rfl rfl rfl (by decide) (s0_617 H) (s1_617 H) ⟨rfl, rfl, rfl⟩ rfl gn fun qb1 D =>
    j_istn (pc := 6) (L' := [(2, (0, h 10 617 x1.toNat)), (0, (4, 602)), (1, (0, x1))]) D rfl nl_591 rfl rfl fun D =>
    j_ildn (pc := 7) D rfl rfl rfl fun D =>
    j_bp (pc := 8) D rfl fun D =>
    j_ine (pc := 10) D rfl (fun q D =>
      j_aldn (pc := 13) D rfl rfl rfl fun D =>
      j_aldn (pc := 14) D rfl rfl rfl fun D =>
      j_gfc (pc := 15) (a := 602) D rfl rfl (by decide) rfl (s0_602 H) rfl (sf_420_602 H) fun D =>
      j_ildn (pc := 18) D rfl rfl rfl fun D =>
      j_al (pc := 19) (a := 619) (e := 10) D rfl rfl rfl (by decide) (s0_619 H) (s1_619 H) ⟨rfl, rfl, rfl⟩ rfl (gy qb1) fun q D =>
      j_ivv (pc := 20) (m := 575) (dd := 412) (a := [(0, h 10 619 x1.toNat)]) (rest := []) D rfl rfl rfl rfl rfl (by decide) (s0_602 H) (by decide +kernel) (fun h2 e1 D =>
        have T := fj_run_ok _ _ _ _ _ _ H.1 e1
        have H := shp_st H T
        j_aldn (pc := 23) D rfl rfl rfl fun D =>
        j_aldn (pc := 24) D rfl rfl rfl fun D =>
        j_gf (pc := 25) (a := 602) D rfl rfl (by decide) rfl (s0_602 H) rfl fun D =>
        j_c0 (pc := 28) (v := (1, 1)) D rfl rfl (by decide +kernel) fun D =>
        j_lcmp (pc := 29) D rfl fun D =>
        j_ifne (pc := 30) D rfl (fun q D =>
          have D : fk_D 591 [(33, none, .aload_n 0, 1, 0, 0, 0), (34, none, .getfield 71, 3, 421, 129, 12), (37, none, .iload_n 1, 1, 0, 0, 0), (38, none, .iaload, 1, 0, 0, 0), (39, none, .goto 9, 3, 48, 0, 0)] := fq_of2 cd_591 ow_591 cl_591 rfl (pc := 33) (by decide +kernel)
          j_aldn (pc := 33) D rfl rfl rfl fun D =>
          j_gfc (pc := 34) (a := 602) D rfl rfl (by decide) rfl (s0_602 H) rfl (sf_421_602 H) fun D =>
          j_ildn (pc := 37) D rfl rfl rfl fun D =>
          j_al (pc := 38) (a := 620) (e := 10) D rfl rfl rfl (by decide) (s0_620 H) (s1_620 H) ⟨rfl, rfl, rfl⟩ rfl (gy qb1) fun q D =>
          j_goto (pc := 39) D rfl <|
          fk_jump cut_591_48 rfl rfl) (fun q =>
          have D : fk_D 591 [(42, none, .aload_n 0, 1, 0, 0, 0), (43, none, .getfield 74, 3, 422, 129, 12), (46, none, .iload_n 1, 1, 0, 0, 0), (47, none, .iaload, 1, 0, 0, 0)] := fq_of2 cd_591 ow_591 cl_591 rfl (pc := 42) (by decide +kernel)
          j_aldn (pc := 42) D rfl rfl rfl fun D =>
          j_gfc (pc := 43) (a := 602) D rfl rfl (by decide) rfl (s0_602 H) rfl (sf_422_602 H) fun D =>
          j_ildn (pc := 46) D rfl rfl rfl fun D =>
          j_al (pc := 47) (a := 621) (e := 10) D rfl rfl rfl (by decide) (s0_621 H) (s1_621 H) ⟨rfl, rfl, rfl⟩ rfl (gy qb1) fun q D =>
          fk_jump cut_591_48 rfl rfl)) (fun q4 h2 e1 =>
        j_tx (hx_591 _))) (fun q =>
      have D : fk_D 591 [(52, none, .aload_n 0, 1, 0, 0, 0), (53, none, .aload_n 0, 1, 0, 0, 0), (54, none, .getfield 68, 3, 420, 129, 12), (57, none, .iload_n 1, 1, 0, 0, 0), (58, none, .iaload, 1, 0, 0, 0), (59, none, .invokevirtual 913, 3, 1, 412, 0), (62, none, .aload_n 0, 1, 0, 0, 0), (63, none, .getfield 71, 3, 421, 129, 12), (66, none, .iload_n 1, 1, 0, 0, 0), (67, none, .iaload, 1, 0, 0, 0), (68, none, .iconst (-1), 1, 0, (-1), 0), (69, none, .if_icmp .ne 20, 3, 89, 0, 0), (72, none, .aload_n 0, 1, 0, 0, 0), (73, none, .iload_n 2, 1, 0, 0, 0), (74, none, .aload_n 0, 1, 0, 0, 0), (75, none, .getfield 65, 3, 419, 129, 12), (78, none, .aload_n 0, 1, 0, 0, 0), (79, none, .getfield 68, 3, 420, 129, 12), (82, none, .iload_n 1, 1, 0, 0, 0), (83, none, .iaload, 1, 0, 0, 0)] := fq_of2 cd_591 ow_591 cl_591 rfl (pc := 52) (by decide +kernel)
      j_aldn (pc := 52) D rfl rfl rfl fun D =>
      j_aldn (pc := 53) D rfl rfl rfl fun D =>
      j_gfc (pc := 54) (a := 602) D rfl rfl (by decide) rfl (s0_602 H) rfl (sf_420_602 H) fun D =>
      j_ildn (pc := 57) D rfl rfl rfl fun D =>
      j_al (pc := 58) (a := 619) (e := 10) D rfl rfl rfl (by decide) (s0_619 H) (s1_619 H) ⟨rfl, rfl, rfl⟩ rfl (gy qb1) fun q D =>
      j_ivv (pc := 59) (m := 575) (dd := 412) (a := [(0, h 10 619 x1.toNat)]) (rest := []) D rfl rfl rfl rfl rfl (by decide) (s0_602 H) (by decide +kernel) (fun h5 e1 D =>
        have T := fj_run_ok _ _ _ _ _ _ H.1 e1
        have H := shp_st H T
        j_aldn (pc := 62) D rfl rfl rfl fun D =>
        j_gfc (pc := 63) (a := 602) D rfl rfl (by decide) rfl (s0_602 H) rfl (sf_421_602 H) fun D =>
        j_ildn (pc := 66) D rfl rfl rfl fun D =>
        j_al (pc := 67) (a := 620) (e := 10) D rfl rfl rfl (by decide) (s0_620 H) (s1_620 H) ⟨rfl, rfl, rfl⟩ rfl (gy qb1) fun q D =>
        j_ic (pc := 68) D rfl fun D =>
        j_ine (pc := 69) D rfl (fun q D =>
          j_aldn (pc := 72) D rfl rfl rfl fun D =>
          j_ildn (pc := 73) D rfl rfl rfl fun D =>
          j_aldn (pc := 74) D rfl rfl rfl fun D =>
          j_gfc (pc := 75) (a := 602) D rfl rfl (by decide) rfl (s0_602 H) rfl (sf_419_602 H) fun D =>
          j_aldn (pc := 78) D rfl rfl rfl fun D =>
          j_gfc (pc := 79) (a := 602) D rfl rfl (by decide) rfl (s0_602 H) rfl (sf_420_602 H) fun D =>
          j_ildn (pc := 82) D rfl rfl rfl fun D =>
          j_al (pc := 83) (a := 619) (e := 10) D rfl rfl rfl (by decide) (s0_619 H) (s1_619 H) ⟨rfl, rfl, rfl⟩ rfl (gy qb1) fun q D =>
          have D : fk_D 591 [(84, none, .iaload, 1, 0, 0, 0), (85, none, .invokevirtual 1037, 3, 2, 434, 0), (88, none, .return_, 1, 0, 0, 0)] := fq_of2 cd_591 ow_591 cl_591 rfl (pc := 84) (by decide +kernel)
          j_al (pc := 84) (a := 618) (e := 10) D rfl rfl rfl (by decide) (s0_618 H) (s1_618 H) ⟨rfl, rfl, rfl⟩ rfl gn fun qb8 D =>
          j_ivv (pc := 85) (m := 592) (dd := 434) (a := [(0, h 10 617 x1.toNat), (0, h5 10 618 (h5 10 619 x1.toNat).toNat)]) (rest := []) D rfl rfl rfl rfl rfl (by decide) (s0_602 H) (by decide +kernel) (fun h9 e1 D =>
            have T := fj_run_ok _ _ _ _ _ _ H.1 e1
            have H := shp_st H T
            j_vret D rt_591) (fun q11 h9 e1 =>
            j_tx (hx_591 _))) (fun q =>
          have D : fk_D 591 [(89, none, .aload_n 0, 1, 0, 0, 0), (90, none, .getfield 869, 3, 492, 129, 11), (93, none, .lstore_n 3, 1, 0, 0, 0), (94, none, .aload_n 0, 1, 0, 0, 0), (95, none, .getfield 872, 3, 493, 129, 11), (98, none, .lstore 5, 2, 0, 0, 0), (100, none, .aload_n 0, 1, 0, 0, 0), (101, none, .aload_n 0, 1, 0, 0, 0), (102, none, .getfield 71, 3, 421, 129, 12), (105, none, .iload_n 1, 1, 0, 0, 0), (106, none, .iaload, 1, 0, 0, 0), (107, none, .invokevirtual 913, 3, 1, 412, 0), (110, none, .iload_n 2, 1, 0, 0, 0), (111, none, .bipush 52, 2, 0, 52, 0), (113, none, .if_icmp .ne 107, 3, 220, 0, 0), (116, none, .aload_n 0, 1, 0, 0, 0), (117, none, .getfield 869, 3, 492, 129, 11), (120, none, .lstore 7, 2, 0, 0, 0), (122, none, .aload_n 0, 1, 0, 0, 0), (123, none, .aload_n 0, 1, 0, 0, 0)] := fq_of2 cd_591 ow_591 cl_591 rfl (pc := 89) (by decide +kernel)
          j_aldn (pc := 89) D rfl rfl rfl fun D =>
          j_gf (pc := 90) (a := 602) D rfl rfl (by decide) rfl (s0_602 H) rfl fun D =>
          j_lstn (pc := 93) (L' := [(3, (1, h5 492 602 0)), (2, (0, h 10 617 x1.toNat)), (0, (4, 602)), (1, (0, x1))]) D rfl nl_591 rfl rfl fun D =>
          j_aldn (pc := 94) D rfl rfl rfl fun D =>
          j_gf (pc := 95) (a := 602) D rfl rfl (by decide) rfl (s0_602 H) rfl fun D =>
          j_lst (pc := 98) (L' := [(5, (1, h5 493 602 0)), (3, (1, h5 492 602 0)), (2, (0, h 10 617 x1.toNat)), (0, (4, 602)), (1, (0, x1))]) D rfl nl_591 rfl rfl fun D =>
          j_aldn (pc := 100) D rfl rfl rfl fun D =>
          j_aldn (pc := 101) D rfl rfl rfl fun D =>
          j_gfc (pc := 102) (a := 602) D rfl rfl (by decide) rfl (s0_602 H) rfl (sf_421_602 H) fun D =>
          j_ildn (pc := 105) D rfl rfl rfl fun D =>
          j_al (pc := 106) (a := 620) (e := 10) D rfl rfl rfl (by decide) (s0_620 H) (s1_620 H) ⟨rfl, rfl, rfl⟩ rfl (gy qb1) fun q D =>
          j_ivv (pc := 107) (m := 575) (dd := 412) (a := [(0, h5 10 620 x1.toNat)]) (rest := []) D rfl rfl rfl rfl rfl (by decide) (s0_602 H) (by decide +kernel) (fun h12 e1 D =>
            have T := fj_run_ok _ _ _ _ _ _ H.1 e1
            have H := shp_st H T
            j_ildn (pc := 110) D rfl rfl rfl fun D =>
            j_bp (pc := 111) D rfl fun D =>
            j_ine (pc := 113) D rfl (fun q D =>
              j_aldn (pc := 116) D rfl rfl rfl fun D =>
              j_gf (pc := 117) (a := 602) D rfl rfl (by decide) rfl (s0_602 H) rfl fun D =>
              j_lst (pc := 120) (L' := [(7, (1, h12 492 602 0)), (5, (1, h5 493 602 0)), (3, (1, h5 492 602 0)), (2, (0, h 10 617 x1.toNat)), (0, (4, 602)), (1, (0, x1))]) D rfl nl_591 rfl rfl fun D =>
              j_aldn (pc := 122) D rfl rfl rfl fun D =>
              j_aldn (pc := 123) D rfl rfl rfl fun D =>
              have D : fk_D 591 [(124, none, .getfield 74, 3, 422, 129, 12), (127, none, .iload_n 1, 1, 0, 0, 0), (128, none, .iaload, 1, 0, 0, 0), (129, none, .invokevirtual 913, 3, 1, 412, 0), (132, none, .lload_n 3, 1, 0, 0, 0), (133, none, .ldc2_w 586, 3, 1, 1900, 0), (136, none, .ldc2_w 588, 3, 1, 2079, 0), (139, none, .invokestatic 434, 3, 3, 508, 1), (142, none, .ifCond .eq 45, 3, 187, 0, 0), (145, none, .lload 7, 2, 0, 0, 0), (147, none, .lconst 1, 1, 0, 0, 0), (148, none, .ldc2_w 590, 3, 1, 12, 0), (151, none, .invokestatic 434, 3, 3, 508, 1), (154, none, .ifCond .eq 33, 3, 187, 0, 0), (157, none, .aload_n 0, 1, 0, 0, 0), (158, none, .getfield 869, 3, 492, 129, 11), (161, none, .lconst 0, 1, 0, 0, 0), (162, none, .lcmp, 1, 0, 0, 0), (163, none, .ifCond .le 24, 3, 187, 0, 0), (166, none, .aload_n 0, 1, 0, 0, 0)] := fq_of2 cd_591 ow_591 cl_591 rfl (pc := 124) (by decide +kernel)
              j_gfc (pc := 124) (a := 602) D rfl rfl (by decide) rfl (s0_602 H) rfl (sf_422_602 H) fun D =>
              j_ildn (pc := 127) D rfl rfl rfl fun D =>
              j_al (pc := 128) (a := 621) (e := 10) D rfl rfl rfl (by decide) (s0_621 H) (s1_621 H) ⟨rfl, rfl, rfl⟩ rfl (gy qb1) fun q D =>
              j_ivv (pc := 129) (m := 575) (dd := 412) (a := [(0, h12 10 621 x1.toNat)]) (rest := []) D rfl rfl rfl rfl rfl (by decide) (s0_602 H) (by decide +kernel) (fun h15 e1 D =>
                have T := fj_run_ok _ _ _ _ _ _ H.1 e1
                have H := shp_st H T
                j_lldn (pc := 132) D rfl rfl rfl fun D =>
                j_ldc2 (pc := 133) D rfl fun D =>
                j_ldc2 (pc := 136) D rfl fun D =>
                j_is (pc := 139) (m := 508) (a := [(1, h5 492 602 0), (1, 1900), (1, 2079)]) (rest := []) D rfl rfl rfl rfl (fun v19 h18 e1 D =>
                  have T := fj_run_ok _ _ _ _ _ _ H.1 e1
                  have H := shp_st H T
                  j_ifeq (pc := 142) D rfl (fun q =>
                    fk_jump cut_591_187 rfl rfl) (fun q D =>
                    j_lld (pc := 145) D rfl rfl rfl fun D =>
                    j_c0 (pc := 147) (v := (1, 1)) D rfl rfl (by decide +kernel) fun D =>
                    j_ldc2 (pc := 148) D rfl fun D =>
                    j_is (pc := 151) (m := 508) (a := [(1, h12 492 602 0), (1, 1), (1, 12)]) (rest := []) D rfl rfl rfl rfl (fun v22 h21 e1 D =>
                      have T := fj_run_ok _ _ _ _ _ _ H.1 e1
                      have H := shp_st H T
                      j_ifeq (pc := 154) D rfl (fun q =>
                        fk_jump cut_591_187 rfl rfl) (fun q D =>
                        j_aldn (pc := 157) D rfl rfl rfl fun D =>
                        j_gf (pc := 158) (a := 602) D rfl rfl (by decide) rfl (s0_602 H) rfl fun D =>
                        j_c0 (pc := 161) (v := (1, 0)) D rfl rfl (by decide +kernel) fun D =>
                        j_lcmp (pc := 162) D rfl fun D =>
                        j_ifle (pc := 163) D rfl (fun q D =>
                          j_aldn (pc := 166) D rfl rfl rfl fun D =>
                          have D : fk_D 591 [(167, none, .getfield 869, 3, 492, 129, 11), (170, none, .lload_n 3, 1, 0, 0, 0), (171, none, .l2i, 1, 0, 0, 0), (172, none, .lload 7, 2, 0, 0, 0), (174, none, .l2i, 1, 0, 0, 0), (175, none, .invokestatic 419, 3, 2, 516, 1), (178, none, .i2l, 1, 0, 0, 0), (179, none, .lcmp, 1, 0, 0, 0), (180, none, .ifCond .gt 7, 3, 187, 0, 0), (183, none, .iconst 1, 1, 0, 1, 0), (184, none, .goto 4, 3, 188, 0, 0)] := fq_of2 cd_591 ow_591 cl_591 rfl (pc := 167) (by decide +kernel)
                          j_gf (pc := 167) (a := 602) D rfl rfl (by decide) rfl (s0_602 H) rfl fun D =>
                          j_lldn (pc := 170) D rfl rfl rfl fun D =>
                          j_l2i (pc := 171) D rfl fun D =>
                          j_lld (pc := 172) D rfl rfl rfl fun D =>
                          j_l2i (pc := 174) D rfl fun D =>
                          j_is (pc := 175) (m := 516) (a := [(0, wI (h5 492 602 0)), (0, wI (h12 492 602 0))]) (rest := [(1, h21 492 602 0)]) D rfl rfl rfl rfl (fun v25 h24 e1 D =>
                            have T := fj_run_ok _ _ _ _ _ _ H.1 e1
                            have H := shp_st H T
                            j_i2l (pc := 178) D rfl fun D =>
                            j_lcmp (pc := 179) D rfl fun D =>
                            j_ifgt (pc := 180) D rfl (fun q =>
                              fk_jump cut_591_187 rfl rfl) (fun q D =>
                              j_ic (pc := 183) D rfl fun D =>
                              j_goto (pc := 184) D rfl <|
                              fk_jump cut_591_188 rfl rfl)) (fun q26 h24 e1 =>
                            j_tx (hx_591 _))) (fun q =>
                          fk_jump cut_591_187 rfl rfl))) (fun q23 h21 e1 =>
                      j_tx (hx_591 _)))) (fun q20 h18 e1 =>
                  j_tx (hx_591 _))) (fun q17 h15 e1 =>
                j_tx (hx_591 _))) (fun q =>
              have D : fk_D 591 [(220, none, .aload_n 0, 1, 0, 0, 0), (221, none, .getfield 65, 3, 419, 129, 12), (224, none, .aload_n 0, 1, 0, 0, 0), (225, none, .getfield 68, 3, 420, 129, 12), (228, none, .iload_n 1, 1, 0, 0, 0), (229, none, .iaload, 1, 0, 0, 0), (230, none, .iaload, 1, 0, 0, 0), (231, none, .istore 7, 2, 0, 0, 0), (233, none, .iload_n 2, 1, 0, 0, 0), (234, none, .tableswitch 141 31 35 #[34, 56, 75, 88, 88], 34, 0, 0, 0)] := fq_of3 cd_591 ow_591 cl_591 rfl (pc := 220) (by decide +kernel)
              j_aldn (pc := 220) D rfl rfl rfl fun D =>
              j_gfc (pc := 221) (a := 602) D rfl rfl (by decide) rfl (s0_602 H) rfl (sf_419_602 H) fun D =>
              j_aldn (pc := 224) D rfl rfl rfl fun D =>
              j_gfc (pc := 225) (a := 602) D rfl rfl (by decide) rfl (s0_602 H) rfl (sf_420_602 H) fun D =>
              j_ildn (pc := 228) D rfl rfl rfl fun D =>
              j_al (pc := 229) (a := 619) (e := 10) D rfl rfl rfl (by decide) (s0_619 H) (s1_619 H) ⟨rfl, rfl, rfl⟩ rfl (gy qb1) fun q D =>
              j_al (pc := 230) (a := 618) (e := 10) D rfl rfl rfl (by decide) (s0_618 H) (s1_618 H) ⟨rfl, rfl, rfl⟩ rfl gn fun qb27 D =>
              j_ist (pc := 231) (L' := [(7, (0, h12 10 618 (h12 10 619 x1.toNat).toNat)), (5, (1, h5 493 602 0)), (3, (1, h5 492 602 0)), (2, (0, h 10 617 x1.toNat)), (0, (4, 602)), (1, (0, x1))]) D rfl nl_591 rfl rfl fun D =>
              j_ildn (pc := 233) D rfl rfl rfl fun D =>
              have N : fk_ni (h 10 617 x1.toNat) [] := trivial
              j_tc (pc := 234) 31 (t := 268) D N rfl (by decide +kernel) (fun q =>
                have D : fk_D 591 [(268, none, .aload_n 0, 1, 0, 0, 0), (269, none, .aload_n 0, 1, 0, 0, 0), (270, none, .lload_n 3, 1, 0, 0, 0), (271, none, .l2i, 1, 0, 0, 0), (272, none, .aload_n 0, 1, 0, 0, 0), (273, none, .getfield 869, 3, 492, 129, 11), (276, none, .l2i, 1, 0, 0, 0), (277, none, .invokevirtual 460, 3, 2, 337, 1), (280, none, .bipush 12, 2, 0, 12, 0), (282, none, .idiv, 1, 0, 0, 0), (283, none, .i2l, 1, 0, 0, 0), (284, none, .invokevirtual 994, 3, 1, 425, 0), (287, none, .goto 102, 3, 389, 0, 0)] := fq_of2 cd_591 ow_591 cl_591 rfl (pc := 268) (by decide +kernel)
                j_aldn (pc := 268) D rfl rfl rfl fun D =>
                j_aldn (pc := 269) D rfl rfl rfl fun D =>
                j_lldn (pc := 270) D rfl rfl rfl fun D =>
                j_l2i (pc := 271) D rfl fun D =>
                j_aldn (pc := 272) D rfl rfl rfl fun D =>
                j_gf (pc := 273) (a := 602) D rfl rfl (by decide) rfl (s0_602 H) rfl fun D =>
                j_l2i (pc := 276) D rfl fun D =>
                j_iv (pc := 277) (m := 600) (dd := 337) (a := [(0, wI (h5 492 602 0)), (0, wI (h12 492 602 0))]) (rest := [(4, 602)]) D rfl rfl rfl rfl rfl (by decide) (s0_602 H) (by decide +kernel) (fun v29 h28 e1 D =>
                  have T := fj_run_ok _ _ _ _ _ _ H.1 e1
                  have H := shp_st H T
                  j_bp (pc := 280) D rfl fun D =>
                  j_idivk (pc := 282) D rfl (by decide) fun D =>
                  j_i2l (pc := 283) D rfl fun D =>
                  j_ivv (pc := 284) (m := 587) (dd := 425) (a := [(1, wI (iq_ v29 12))]) (rest := []) D rfl rfl rfl rfl rfl (by decide) (s0_602 H) (by decide +kernel) (fun h31 e1 D =>
                    have T := fj_run_ok _ _ _ _ _ _ H.1 e1
                    have H := shp_st H T
                    j_goto (pc := 287) D rfl <|
                    have D : fk_D 591 [(389, none, .return_, 1, 0, 0, 0)] := fq_of2 cd_591 ow_591 cl_591 rfl (pc := 389) (by decide +kernel)
                    j_vret D rt_591) (fun q33 h31 e1 =>
                    j_tx (hx_591 _))) (fun q30 h28 e1 =>
                  j_tx (hx_591 _))) (fun N =>
                j_tc 32 (t := 290) D N rfl (by decide +kernel) (fun q =>
                  have D : fk_D 591 [(290, none, .aload_n 0, 1, 0, 0, 0), (291, none, .aload_n 0, 1, 0, 0, 0), (292, none, .lload_n 3, 1, 0, 0, 0), (293, none, .l2i, 1, 0, 0, 0), (294, none, .aload_n 0, 1, 0, 0, 0), (295, none, .getfield 869, 3, 492, 129, 11), (298, none, .l2i, 1, 0, 0, 0), (299, none, .invokevirtual 460, 3, 2, 337, 1), (302, none, .i2l, 1, 0, 0, 0), (303, none, .invokevirtual 994, 3, 1, 425, 0), (306, none, .goto 83, 3, 389, 0, 0)] := fq_of2 cd_591 ow_591 cl_591 rfl (pc := 290) (by decide +kernel)
                  j_aldn (pc := 290) D rfl rfl rfl fun D =>
                  j_aldn (pc := 291) D rfl rfl rfl fun D =>
                  j_lldn (pc := 292) D rfl rfl rfl fun D =>
                  j_l2i (pc := 293) D rfl fun D =>
                  j_aldn (pc := 294) D rfl rfl rfl fun D =>
                  j_gf (pc := 295) (a := 602) D rfl rfl (by decide) rfl (s0_602 H) rfl fun D =>
                  j_l2i (pc := 298) D rfl fun D =>
                  j_iv (pc := 299) (m := 600) (dd := 337) (a := [(0, wI (h5 492 602 0)), (0, wI (h12 492 602 0))]) (rest := [(4, 602)]) D rfl rfl rfl rfl rfl (by decide) (s0_602 H) (by decide +kernel) (fun v35 h34 e1 D =>
                    have T := fj_run_ok _ _ _ _ _ _ H.1 e1
                    have H := shp_st H T
                    j_i2l (pc := 302) D rfl fun D =>
                    j_ivv (pc := 303) (m := 587) (dd := 425) (a := [(1, wI v35)]) (rest := []) D rfl rfl rfl rfl rfl (by decide) (s0_602 H) (by decide +kernel) (fun h37 e1 D =>
                      have T := fj_run_ok _ _ _ _ _ _ H.1 e1
                      have H := shp_st H T
                      j_goto (pc := 306) D rfl <|
                      have D : fk_D 591 [(389, none, .return_, 1, 0, 0, 0)] := fq_of2 cd_591 ow_591 cl_591 rfl (pc := 389) (by decide +kernel)
                      j_vret D rt_591) (fun q39 h37 e1 =>
                      j_tx (hx_591 _))) (fun q36 h34 e1 =>
                    j_tx (hx_591 _))) (fun N =>
                  j_tc 33 (t := 309) D N rfl (by decide +kernel) (fun q =>
                    have D : fk_D 591 [(309, none, .aload_n 0, 1, 0, 0, 0), (310, none, .aload_n 0, 1, 0, 0, 0), (311, none, .getfield 869, 3, 492, 129, 11), (314, none, .lload_n 3, 1, 0, 0, 0), (315, none, .lsub, 1, 0, 0, 0), (316, none, .invokevirtual 994, 3, 1, 425, 0), (319, none, .goto 70, 3, 389, 0, 0)] := fq_of2 cd_591 ow_591 cl_591 rfl (pc := 309) (by decide +kernel)
                    j_aldn (pc := 309) D rfl rfl rfl fun D =>
                    j_aldn (pc := 310) D rfl rfl rfl fun D =>
                    j_gf (pc := 311) (a := 602) D rfl rfl (by decide) rfl (s0_602 H) rfl fun D =>
                    j_lldn (pc := 314) D rfl rfl rfl fun D =>
                    j_lsub (pc := 315) D rfl fun D =>
                    j_ivv (pc := 316) (m := 587) (dd := 425) (a := [(1, wJ ((h12 492 602 0) - (h5 492 602 0)))]) (rest := []) D rfl rfl rfl rfl rfl (by decide) (s0_602 H) (by decide +kernel) (fun h40 e1 D =>
                      have T := fj_run_ok _ _ _ _ _ _ H.1 e1
                      have H := shp_st H T
                      j_goto (pc := 319) D rfl <|
                      have D : fk_D 591 [(389, none, .return_, 1, 0, 0, 0)] := fq_of2 cd_591 ow_591 cl_591 rfl (pc := 389) (by decide +kernel)
                      j_vret D rt_591) (fun q42 h40 e1 =>
                      j_tx (hx_591 _))) (fun N =>
                    j_tc 34 (t := 322) D N rfl (by decide +kernel) (fun q =>
                      have D : fk_D 591 [(322, none, .iload 7, 2, 0, 0, 0), (324, none, .lload_n 3, 1, 0, 0, 0), (325, none, .lload 5, 2, 0, 0, 0), (327, none, .iload 7, 2, 0, 0, 0), (329, none, .aload_n 0, 1, 0, 0, 0), (330, none, .getfield 869, 3, 492, 129, 11), (333, none, .aload_n 0, 1, 0, 0, 0), (334, none, .getfield 872, 3, 493, 129, 11), (337, none, .invokestatic 1001, 3, 6, 589, 1), (340, none, .istore 8, 2, 0, 0, 0)] := fq_of2 cd_591 ow_591 cl_591 rfl (pc := 322) (by decide +kernel)
                      j_ild (pc := 322) D rfl rfl rfl fun D =>
                      j_lldn (pc := 324) D rfl rfl rfl fun D =>
                      j_lld (pc := 325) D rfl rfl rfl fun D =>
                      j_ild (pc := 327) D rfl rfl rfl fun D =>
                      j_aldn (pc := 329) D rfl rfl rfl fun D =>
                      j_gf (pc := 330) (a := 602) D rfl rfl (by decide) rfl (s0_602 H) rfl fun D =>
                      j_aldn (pc := 333) D rfl rfl rfl fun D =>
                      j_gf (pc := 334) (a := 602) D rfl rfl (by decide) rfl (s0_602 H) rfl fun D =>
                      j_is (pc := 337) (m := 589) (a := [(0, h12 10 618 (h12 10 619 x1.toNat).toNat), (1, h5 492 602 0), (1, h5 493 602 0), (0, h12 10 618 (h12 10 619 x1.toNat).toNat), (1, h12 492 602 0), (1, h12 493 602 0)]) (rest := []) D rfl rfl rfl rfl (fun v44 h43 e1 D =>
                        have T := fj_run_ok _ _ _ _ _ _ H.1 e1
                        have H := shp_st H T
                        j_ist (pc := 340) (L' := [(8, (0, v44)), (7, (0, h12 10 618 (h12 10 619 x1.toNat).toNat)), (5, (1, h5 493 602 0)), (3, (1, h5 492 602 0)), (2, (0, h 10 617 x1.toNat)), (0, (4, 602)), (1, (0, x1))]) D rfl nl_591 rfl rfl fun D =>
                        fk_jump cut_591_342 rfl rfl) (fun q45 h43 e1 =>
                        j_tx (hx_591 _))) (fun N =>
                      j_tc 35 (t := 322) D N rfl (by decide +kernel) (fun q =>
                        have D : fk_D 591 [(322, none, .iload 7, 2, 0, 0, 0), (324, none, .lload_n 3, 1, 0, 0, 0), (325, none, .lload 5, 2, 0, 0, 0), (327, none, .iload 7, 2, 0, 0, 0), (329, none, .aload_n 0, 1, 0, 0, 0), (330, none, .getfield 869, 3, 492, 129, 11), (333, none, .aload_n 0, 1, 0, 0, 0), (334, none, .getfield 872, 3, 493, 129, 11), (337, none, .invokestatic 1001, 3, 6, 589, 1), (340, none, .istore 8, 2, 0, 0, 0)] := fq_of2 cd_591 ow_591 cl_591 rfl (pc := 322) (by decide +kernel)
                        j_ild (pc := 322) D rfl rfl rfl fun D =>
                        j_lldn (pc := 324) D rfl rfl rfl fun D =>
                        j_lld (pc := 325) D rfl rfl rfl fun D =>
                        j_ild (pc := 327) D rfl rfl rfl fun D =>
                        j_aldn (pc := 329) D rfl rfl rfl fun D =>
                        j_gf (pc := 330) (a := 602) D rfl rfl (by decide) rfl (s0_602 H) rfl fun D =>
                        j_aldn (pc := 333) D rfl rfl rfl fun D =>
                        j_gf (pc := 334) (a := 602) D rfl rfl (by decide) rfl (s0_602 H) rfl fun D =>
                        j_is (pc := 337) (m := 589) (a := [(0, h12 10 618 (h12 10 619 x1.toNat).toNat), (1, h5 492 602 0), (1, h5 493 602 0), (0, h12 10 618 (h12 10 619 x1.toNat).toNat), (1, h12 492 602 0), (1, h12 493 602 0)]) (rest := []) D rfl rfl rfl rfl (fun v47 h46 e1 D =>
                          have T := fj_run_ok _ _ _ _ _ _ H.1 e1
                          have H := shp_st H T
                          j_ist (pc := 340) (L' := [(8, (0, v47)), (7, (0, h12 10 618 (h12 10 619 x1.toNat).toNat)), (5, (1, h5 493 602 0)), (3, (1, h5 492 602 0)), (2, (0, h 10 617 x1.toNat)), (0, (4, 602)), (1, (0, x1))]) D rfl nl_591 rfl rfl fun D =>
                          fk_jump cut_591_342 rfl rfl) (fun q48 h46 e1 =>
                          j_tx (hx_591 _))) (fun N =>
                        j_td (t := 375) D N rfl (by decide +kernel) (by decide +kernel) <|
                        have D : fk_D 591 [(375, none, .aload_n 0, 1, 0, 0, 0), (376, none, .aload_n 0, 1, 0, 0, 0), (377, none, .iload_n 2, 1, 0, 0, 0), (378, none, .lload_n 3, 1, 0, 0, 0), (379, none, .aload_n 0, 1, 0, 0, 0), (380, none, .getfield 869, 3, 492, 129, 11), (383, none, .invokevirtual 916, 3, 3, 413, 2), (386, none, .invokevirtual 920, 3, 1, 414, 0), (389, none, .return_, 1, 0, 0, 0)] := fq_of2 cd_591 ow_591 cl_591 rfl (pc := 375) (by decide +kernel)
                        j_aldn (pc := 375) D rfl rfl rfl fun D =>
                        j_aldn (pc := 376) D rfl rfl rfl fun D =>
                        j_ildn (pc := 377) D rfl rfl rfl fun D =>
                        j_lldn (pc := 378) D rfl rfl rfl fun D =>
                        j_aldn (pc := 379) D rfl rfl rfl fun D =>
                        j_gf (pc := 380) (a := 602) D rfl rfl (by decide) rfl (s0_602 H) rfl fun D =>
                        j_iv (pc := 383) (m := 602) (dd := 413) (a := [(0, h 10 617 x1.toNat), (1, h5 492 602 0), (1, h12 492 602 0)]) (rest := [(4, 602)]) D rfl rfl rfl rfl rfl (by decide) (s0_602 H) (by decide +kernel) (fun v50 h49 e1 D =>
                          have T := fj_run_ok _ _ _ _ _ _ H.1 e1
                          have H := shp_st H T
                          j_ivv (pc := 386) (m := 586) (dd := 414) (a := [(1, v50)]) (rest := []) D rfl rfl rfl rfl rfl (by decide) (s0_602 H) (by decide +kernel) (fun h52 e1 D =>
                            have T := fj_run_ok _ _ _ _ _ _ H.1 e1
                            have H := shp_st H T
                            j_vret D rt_591) (fun q54 h52 e1 =>
                            j_tx (hx_591 _))) (fun q51 h49 e1 =>
                          j_tx (hx_591 _))))))))) (fun q14 h12 e1 =>
            j_tx (hx_591 _)))) (fun q7 h5 e1 =>
        j_tx (hx_591 _)))
/-! 592 StatuteHouseModel.ofOne(II)V -/
theorem cd_592 : fi_code 592 = prog_69_method_124_code := rfl
theorem hx_592 : ∀ pc, fi_hat 592 pc = none := fun pc => by unfold fi_hat; rw [show fi_hh 592 = [] from rfl]; rfl
theorem rt_592 : fi_ret 592 = none := rfl
theorem nl_592 : fi_nl 592 = 5 := rfl
theorem ow_592 : fi_ow 592 = 29 := rfl
theorem cl_592 : fj_cutT.getD 592 [] = [(88, [0, 1]), (193, []), (199, [0]), (216, [0]), (232, [0]), (249, [0, 2]), (302, []), (341, [0, 2]), (383, []), (389, [0]), (407, [0]), (424, [0]), (455, [0, 3]), (461, [0, 3]), (470, [0, 2])] := rfl
theorem cut_592_88 : fj_cut 592 88 = some [0, 1] := by decide +kernel
noncomputable def c_592_88 (d : Nat) (x1 : Int) (h : fi_H) : fk_R := gG (fj_run d) 592 88 [(0, (4, 602)), (1, (0, x1))] [] h
theorem cut_592_193 : fj_cut 592 193 = some [] := by decide +kernel
noncomputable def c_592_193 (d : Nat) (s0 s1 : Int) (h : fi_H) : fk_R := gG (fj_run d) 592 193 [] [(1, s1), (4, s0)] h
theorem cut_592_199 : fj_cut 592 199 = some [0] := by decide +kernel
noncomputable def c_592_199 (d : Nat) (h : fi_H) : fk_R := gG (fj_run d) 592 199 [(0, (4, 602))] [] h
theorem cut_592_216 : fj_cut 592 216 = some [0] := by decide +kernel
noncomputable def c_592_216 (d : Nat) (h : fi_H) : fk_R := gG (fj_run d) 592 216 [(0, (4, 602))] [] h
theorem cut_592_232 : fj_cut 592 232 = some [0] := by decide +kernel
noncomputable def c_592_232 (d : Nat) (h : fi_H) : fk_R := gG (fj_run d) 592 232 [(0, (4, 602))] [] h
theorem cut_592_249 : fj_cut 592 249 = some [0, 2] := by decide +kernel
noncomputable def c_592_249 (d : Nat) (x2 : Int) (h : fi_H) : fk_R := gG (fj_run d) 592 249 [(0, (4, 602)), (2, (0, x2))] [] h
theorem cut_592_302 : fj_cut 592 302 = some [] := by decide +kernel
noncomputable def c_592_302 (d : Nat) (s0 s1 : Int) (h : fi_H) : fk_R := gG (fj_run d) 592 302 [] [(3, s1), (4, s0)] h
theorem cut_592_341 : fj_cut 592 341 = some [0, 2] := by decide +kernel
noncomputable def c_592_341 (d : Nat) (x2 : Int) (h : fi_H) : fk_R := gG (fj_run d) 592 341 [(0, (4, 602)), (2, (0, x2))] [] h
theorem cut_592_383 : fj_cut 592 383 = some [] := by decide +kernel
noncomputable def c_592_383 (d : Nat) (s0 s1 : Int) (h : fi_H) : fk_R := gG (fj_run d) 592 383 [] [(3, s1), (4, s0)] h
theorem cut_592_389 : fj_cut 592 389 = some [0] := by decide +kernel
noncomputable def c_592_389 (d : Nat) (h : fi_H) : fk_R := gG (fj_run d) 592 389 [(0, (4, 602))] [] h
theorem cut_592_407 : fj_cut 592 407 = some [0] := by decide +kernel
noncomputable def c_592_407 (d : Nat) (h : fi_H) : fk_R := gG (fj_run d) 592 407 [(0, (4, 602))] [] h
theorem cut_592_424 : fj_cut 592 424 = some [0] := by decide +kernel
noncomputable def c_592_424 (d : Nat) (h : fi_H) : fk_R := gG (fj_run d) 592 424 [(0, (4, 602))] [] h
theorem cut_592_455 : fj_cut 592 455 = some [0, 3] := by decide +kernel
noncomputable def c_592_455 (d : Nat) (x3 : Int) (h : fi_H) : fk_R := gG (fj_run d) 592 455 [(0, (4, 602)), (3, (3, x3))] [] h
theorem cut_592_461 : fj_cut 592 461 = some [0, 3] := by decide +kernel
noncomputable def c_592_461 (d : Nat) (x3 : Int) (h : fi_H) : fk_R := gG (fj_run d) 592 461 [(0, (4, 602)), (3, (3, x3))] [] h
theorem cut_592_470 : fj_cut 592 470 = some [0, 2] := by decide +kernel
noncomputable def c_592_470 (d : Nat) (x2 : Int) (h : fi_H) : fk_R := gG (fj_run d) 592 470 [(0, (4, 602)), (2, (0, x2))] [] h
theorem e_592_88 (d : Nat) (x1 : Int) {h : fi_H} (H : Shp h) : c_592_88 d x1 h =
  cv_ (fj_run d 593 h [(4, 602), (0, wI (h 492 602 0))])
    (fun h1 =>
    if x1 = 36 then
      ca_ (fj_run d 518 h1 [(0, h1 384 602 0), (0, h1 385 602 0), (0, 1)]) 0
        (fun v5 h4 =>
        cv_ (fj_run d 594 h4 [(4, 602), (1, wI v5)])
          (fun h7 =>
          some (.inl none, h7))
          (fun q9 h7 => tx_ q9 h7))
        (fun q6 h4 => tx_ q6 h4)
    else
      if x1 = 37 then
        ca_ (fj_run d 516 h1 [(0, h1 384 602 0), (0, h1 385 602 0)]) 0
          (fun v11 h10 =>
          ca_ (fj_run d 518 h10 [(0, h1 384 602 0), (0, h1 385 602 0), (0, v11)]) 0
            (fun v14 h13 =>
            cv_ (fj_run d 594 h13 [(4, 602), (1, wI v14)])
              (fun h16 =>
              some (.inl none, h16))
              (fun q18 h16 => tx_ q18 h16))
            (fun q15 h13 => tx_ q15 h13))
          (fun q12 h10 => tx_ q12 h10)
      else
        if x1 = 38 then
          c_592_193 d 602 (wI (h1 384 602 0)) h1
        else
          if x1 = 39 then
            c_592_193 d 602 (wI (h1 385 602 0)) h1
          else
            c_592_193 d 602 (wI (h1 386 602 0)) h1)
    (fun q3 h1 => tx_ q3 h1) := by
  unfold c_592_88
  exact
    have D : fk_D 592 [(88, some [0, 1], .aload_n 0, 1, 0, 0, 0), (89, none, .aload_n 0, 1, 0, 0, 0), (90, none, .getfield 869, 3, 492, 129, 11), (93, none, .l2i, 1, 0, 0, 0), (94, none, .invokevirtual 438, 3, 1, 335, 0), (97, none, .iload_n 1, 1, 0, 0, 0), (98, none, .bipush 36, 2, 0, 36, 0), (100, none, .if_icmp .ne 23, 3, 123, 0, 0), (103, none, .aload_n 0, 1, 0, 0, 0), (104, none, .aload_n 0, 1, 0, 0, 0), (105, none, .getfield 423, 3, 384, 129, 10), (108, none, .aload_n 0, 1, 0, 0, 0), (109, none, .getfield 426, 3, 385, 129, 10), (112, none, .iconst 1, 1, 0, 1, 0), (113, none, .invokestatic 449, 3, 3, 518, 1), (116, none, .i2l, 1, 0, 0, 0), (117, none, .invokevirtual 976, 3, 1, 419, 0), (120, none, .goto 382, 3, 502, 0, 0)] := fq_of2 cd_592 ow_592 cl_592 rfl (pc := 88) (by decide +kernel)
    j_aldn (pc := 88) D rfl rfl rfl fun D =>
    j_aldn (pc := 89) D rfl rfl rfl fun D =>
    j_gf (pc := 90) (a := 602) D rfl rfl (by decide) rfl (s0_602 H) rfl fun D =>
    j_l2i (pc := 93) D rfl fun D =>
    j_ivv (pc := 94) (m := 593) (dd := 335) (a := [(0, wI (h 492 602 0))]) (rest := []) D rfl rfl rfl rfl rfl (by decide) (s0_602 H) (by decide +kernel) (fun h1 e1 D =>
      have T := fj_run_ok _ _ _ _ _ _ H.1 e1
      have H := shp_st H T
      j_ildn (pc := 97) D rfl rfl rfl fun D =>
      j_bp (pc := 98) D rfl fun D =>
      j_ine (pc := 100) D rfl (fun q D =>
        j_aldn (pc := 103) D rfl rfl rfl fun D =>
        j_aldn (pc := 104) D rfl rfl rfl fun D =>
        j_gf (pc := 105) (a := 602) D rfl rfl (by decide) rfl (s0_602 H) rfl fun D =>
        j_aldn (pc := 108) D rfl rfl rfl fun D =>
        j_gf (pc := 109) (a := 602) D rfl rfl (by decide) rfl (s0_602 H) rfl fun D =>
        j_ic (pc := 112) D rfl fun D =>
        j_is (pc := 113) (m := 518) (a := [(0, h1 384 602 0), (0, h1 385 602 0), (0, 1)]) (rest := [(4, 602)]) D rfl rfl rfl rfl (fun v5 h4 e1 D =>
          have T := fj_run_ok _ _ _ _ _ _ H.1 e1
          have H := shp_st H T
          j_i2l (pc := 116) D rfl fun D =>
          j_ivv (pc := 117) (m := 594) (dd := 419) (a := [(1, wI v5)]) (rest := []) D rfl rfl rfl rfl rfl (by decide) (s0_602 H) (by decide +kernel) (fun h7 e1 D =>
            have T := fj_run_ok _ _ _ _ _ _ H.1 e1
            have H := shp_st H T
            j_goto (pc := 120) D rfl <|
            have D : fk_D 592 [(502, none, .return_, 1, 0, 0, 0)] := fq_of2 cd_592 ow_592 cl_592 rfl (pc := 502) (by decide +kernel)
            j_vret D rt_592) (fun q9 h7 e1 =>
            j_tx (hx_592 _))) (fun q6 h4 e1 =>
          j_tx (hx_592 _))) (fun q =>
        have D : fk_D 592 [(123, none, .iload_n 1, 1, 0, 0, 0), (124, none, .bipush 37, 2, 0, 37, 0), (126, none, .if_icmp .ne 33, 3, 159, 0, 0), (129, none, .aload_n 0, 1, 0, 0, 0), (130, none, .aload_n 0, 1, 0, 0, 0), (131, none, .getfield 423, 3, 384, 129, 10), (134, none, .aload_n 0, 1, 0, 0, 0), (135, none, .getfield 426, 3, 385, 129, 10), (138, none, .aload_n 0, 1, 0, 0, 0), (139, none, .getfield 423, 3, 384, 129, 10), (142, none, .aload_n 0, 1, 0, 0, 0), (143, none, .getfield 426, 3, 385, 129, 10), (146, none, .invokestatic 419, 3, 2, 516, 1), (149, none, .invokestatic 449, 3, 3, 518, 1), (152, none, .i2l, 1, 0, 0, 0), (153, none, .invokevirtual 976, 3, 1, 419, 0), (156, none, .goto 346, 3, 502, 0, 0)] := fq_of2 cd_592 ow_592 cl_592 rfl (pc := 123) (by decide +kernel)
        j_ildn (pc := 123) D rfl rfl rfl fun D =>
        j_bp (pc := 124) D rfl fun D =>
        j_ine (pc := 126) D rfl (fun q D =>
          j_aldn (pc := 129) D rfl rfl rfl fun D =>
          j_aldn (pc := 130) D rfl rfl rfl fun D =>
          j_gf (pc := 131) (a := 602) D rfl rfl (by decide) rfl (s0_602 H) rfl fun D =>
          j_aldn (pc := 134) D rfl rfl rfl fun D =>
          j_gf (pc := 135) (a := 602) D rfl rfl (by decide) rfl (s0_602 H) rfl fun D =>
          j_aldn (pc := 138) D rfl rfl rfl fun D =>
          j_gf (pc := 139) (a := 602) D rfl rfl (by decide) rfl (s0_602 H) rfl fun D =>
          j_aldn (pc := 142) D rfl rfl rfl fun D =>
          j_gf (pc := 143) (a := 602) D rfl rfl (by decide) rfl (s0_602 H) rfl fun D =>
          j_is (pc := 146) (m := 516) (a := [(0, h1 384 602 0), (0, h1 385 602 0)]) (rest := [(0, h1 385 602 0), (0, h1 384 602 0), (4, 602)]) D rfl rfl rfl rfl (fun v11 h10 e1 D =>
            have T := fj_run_ok _ _ _ _ _ _ H.1 e1
            have H := shp_st H T
            j_is (pc := 149) (m := 518) (a := [(0, h1 384 602 0), (0, h1 385 602 0), (0, v11)]) (rest := [(4, 602)]) D rfl rfl rfl rfl (fun v14 h13 e1 D =>
              have T := fj_run_ok _ _ _ _ _ _ H.1 e1
              have H := shp_st H T
              j_i2l (pc := 152) D rfl fun D =>
              j_ivv (pc := 153) (m := 594) (dd := 419) (a := [(1, wI v14)]) (rest := []) D rfl rfl rfl rfl rfl (by decide) (s0_602 H) (by decide +kernel) (fun h16 e1 D =>
                have T := fj_run_ok _ _ _ _ _ _ H.1 e1
                have H := shp_st H T
                j_goto (pc := 156) D rfl <|
                have D : fk_D 592 [(502, none, .return_, 1, 0, 0, 0)] := fq_of2 cd_592 ow_592 cl_592 rfl (pc := 502) (by decide +kernel)
                j_vret D rt_592) (fun q18 h16 e1 =>
                j_tx (hx_592 _))) (fun q15 h13 e1 =>
              j_tx (hx_592 _))) (fun q12 h10 e1 =>
            j_tx (hx_592 _))) (fun q =>
          have D : fk_D 592 [(159, none, .aload_n 0, 1, 0, 0, 0), (160, none, .iload_n 1, 1, 0, 0, 0), (161, none, .bipush 38, 2, 0, 38, 0), (163, none, .if_icmp .ne 11, 3, 174, 0, 0), (166, none, .aload_n 0, 1, 0, 0, 0), (167, none, .getfield 423, 3, 384, 129, 10), (170, none, .i2l, 1, 0, 0, 0), (171, none, .goto 22, 3, 193, 0, 0)] := fq_of2 cd_592 ow_592 cl_592 rfl (pc := 159) (by decide +kernel)
          j_aldn (pc := 159) D rfl rfl rfl fun D =>
          j_ildn (pc := 160) D rfl rfl rfl fun D =>
          j_bp (pc := 161) D rfl fun D =>
          j_ine (pc := 163) D rfl (fun q D =>
            j_aldn (pc := 166) D rfl rfl rfl fun D =>
            j_gf (pc := 167) (a := 602) D rfl rfl (by decide) rfl (s0_602 H) rfl fun D =>
            j_i2l (pc := 170) D rfl fun D =>
            j_goto (pc := 171) D rfl <|
            fk_jump cut_592_193 rfl rfl) (fun q =>
            have D : fk_D 592 [(174, none, .iload_n 1, 1, 0, 0, 0), (175, none, .bipush 39, 2, 0, 39, 0), (177, none, .if_icmp .ne 11, 3, 188, 0, 0), (180, none, .aload_n 0, 1, 0, 0, 0), (181, none, .getfield 426, 3, 385, 129, 10), (184, none, .i2l, 1, 0, 0, 0), (185, none, .goto 8, 3, 193, 0, 0)] := fq_of2 cd_592 ow_592 cl_592 rfl (pc := 174) (by decide +kernel)
            j_ildn (pc := 174) D rfl rfl rfl fun D =>
            j_bp (pc := 175) D rfl fun D =>
            j_ine (pc := 177) D rfl (fun q D =>
              j_aldn (pc := 180) D rfl rfl rfl fun D =>
              j_gf (pc := 181) (a := 602) D rfl rfl (by decide) rfl (s0_602 H) rfl fun D =>
              j_i2l (pc := 184) D rfl fun D =>
              j_goto (pc := 185) D rfl <|
              fk_jump cut_592_193 rfl rfl) (fun q =>
              have D : fk_D 592 [(188, none, .aload_n 0, 1, 0, 0, 0), (189, none, .getfield 429, 3, 386, 129, 10), (192, none, .i2l, 1, 0, 0, 0)] := fq_of2 cd_592 ow_592 cl_592 rfl (pc := 188) (by decide +kernel)
              j_aldn (pc := 188) D rfl rfl rfl fun D =>
              j_gf (pc := 189) (a := 602) D rfl rfl (by decide) rfl (s0_602 H) rfl fun D =>
              j_i2l (pc := 192) D rfl fun D =>
              fk_jump cut_592_193 rfl rfl))))) (fun q3 h1 e1 =>
      j_tx (hx_592 _))
theorem e_592_193 (d : Nat) (s0 s1 : Int) {h : fi_H} (H : Shp h) : c_592_193 d s0 s1 h =
  dv_ (fi_vt 425 (h 0 s0.toNat 0)) fun m4 => cv_ (fj_run d m4 h [(4, s0), (1, s1)])
    (fun h1 =>
    some (.inl none, h1))
    (fun q3 h1 => tx_ q3 h1) := by
  unfold c_592_193
  exact
    have D : fk_D 592 [(193, some [], .invokevirtual 994, 3, 1, 425, 0), (196, none, .goto 306, 3, 502, 0, 0)] := fq_of2 cd_592 ow_592 cl_592 rfl (pc := 193) (by decide +kernel)
    j_ivuv (pc := 193) (dd := 425) (a := [(1, s1)]) (rest := []) H.2.1 D rfl rfl rfl rfl rfl (fun m4 h1 e1 D =>
      have T := fj_run_ok _ _ _ _ _ _ H.1 e1
      have H := shp_st H T
      j_goto (pc := 196) D rfl <|
      have D : fk_D 592 [(502, none, .return_, 1, 0, 0, 0)] := fq_of2 cd_592 ow_592 cl_592 rfl (pc := 502) (by decide +kernel)
      j_vret D rt_592) (fun m4 q3 h1 e1 =>
      j_tx (hx_592 _))
theorem e_592_199 (d : Nat) {h : fi_H} (H : Shp h) : c_592_199 d h =
  cv_ (fj_run d 587 h [(4, 602), (1, wJ ((lr_ (h 492 602 0) 7) + 1))])
    (fun h1 =>
    some (.inl none, h1))
    (fun q3 h1 => tx_ q3 h1) := by
  unfold c_592_199
  exact
    have D : fk_D 592 [(199, some [0], .aload_n 0, 1, 0, 0, 0), (200, none, .aload_n 0, 1, 0, 0, 0), (201, none, .getfield 869, 3, 492, 129, 11), (204, none, .ldc2_w 1040, 3, 1, 7, 0), (207, none, .lrem, 1, 0, 0, 0), (208, none, .lconst 1, 1, 0, 0, 0), (209, none, .ladd, 1, 0, 0, 0), (210, none, .invokevirtual 994, 3, 1, 425, 0), (213, none, .goto 289, 3, 502, 0, 0)] := fq_of2 cd_592 ow_592 cl_592 rfl (pc := 199) (by decide +kernel)
    j_aldn (pc := 199) D rfl rfl rfl fun D =>
    j_aldn (pc := 200) D rfl rfl rfl fun D =>
    j_gf (pc := 201) (a := 602) D rfl rfl (by decide) rfl (s0_602 H) rfl fun D =>
    j_ldc2 (pc := 204) D rfl fun D =>
    j_lremk (pc := 207) D rfl (by decide) fun D =>
    j_c0 (pc := 208) (v := (1, 1)) D rfl rfl (by decide +kernel) fun D =>
    j_ladd (pc := 209) D rfl fun D =>
    j_ivv (pc := 210) (m := 587) (dd := 425) (a := [(1, wJ ((lr_ (h 492 602 0) 7) + 1))]) (rest := []) D rfl rfl rfl rfl rfl (by decide) (s0_602 H) (by decide +kernel) (fun h1 e1 D =>
      have T := fj_run_ok _ _ _ _ _ _ H.1 e1
      have H := shp_st H T
      j_goto (pc := 213) D rfl <|
      have D : fk_D 592 [(502, none, .return_, 1, 0, 0, 0)] := fq_of2 cd_592 ow_592 cl_592 rfl (pc := 502) (by decide +kernel)
      j_vret D rt_592) (fun q3 h1 e1 =>
      j_tx (hx_592 _))
theorem e_592_216 (d : Nat) {h : fi_H} (H : Shp h) : c_592_216 d h =
  ca_ (fj_run d 595 h [(4, 602), (0, wI (h 492 602 0))]) 0
    (fun v2 h1 =>
    cv_ (fj_run d 590 h1 [(4, 602), (0, v2)])
      (fun h4 =>
      some (.inl none, h4))
      (fun q6 h4 => tx_ q6 h4))
    (fun q3 h1 => tx_ q3 h1) := by
  unfold c_592_216
  exact
    have D : fk_D 592 [(216, some [0], .aload_n 0, 1, 0, 0, 0), (217, none, .aload_n 0, 1, 0, 0, 0), (218, none, .aload_n 0, 1, 0, 0, 0), (219, none, .getfield 869, 3, 492, 129, 11), (222, none, .l2i, 1, 0, 0, 0), (223, none, .invokevirtual 470, 3, 1, 338, 1), (226, none, .invokevirtual 969, 3, 1, 417, 0), (229, none, .goto 273, 3, 502, 0, 0)] := fq_of2 cd_592 ow_592 cl_592 rfl (pc := 216) (by decide +kernel)
    j_aldn (pc := 216) D rfl rfl rfl fun D =>
    j_aldn (pc := 217) D rfl rfl rfl fun D =>
    j_aldn (pc := 218) D rfl rfl rfl fun D =>
    j_gf (pc := 219) (a := 602) D rfl rfl (by decide) rfl (s0_602 H) rfl fun D =>
    j_l2i (pc := 222) D rfl fun D =>
    j_iv (pc := 223) (m := 595) (dd := 338) (a := [(0, wI (h 492 602 0))]) (rest := [(4, 602)]) D rfl rfl rfl rfl rfl (by decide) (s0_602 H) (by decide +kernel) (fun v2 h1 e1 D =>
      have T := fj_run_ok _ _ _ _ _ _ H.1 e1
      have H := shp_st H T
      j_ivv (pc := 226) (m := 590) (dd := 417) (a := [(0, v2)]) (rest := []) D rfl rfl rfl rfl rfl (by decide) (s0_602 H) (by decide +kernel) (fun h4 e1 D =>
        have T := fj_run_ok _ _ _ _ _ _ H.1 e1
        have H := shp_st H T
        j_goto (pc := 229) D rfl <|
        have D : fk_D 592 [(502, none, .return_, 1, 0, 0, 0)] := fq_of2 cd_592 ow_592 cl_592 rfl (pc := 502) (by decide +kernel)
        j_vret D rt_592) (fun q6 h4 e1 =>
        j_tx (hx_592 _))) (fun q3 h1 e1 =>
      j_tx (hx_592 _))
theorem e_592_232 (d : Nat) {h : fi_H} (H : Shp h) : c_592_232 d h =
  ca_ (fj_run d 597 h [(4, 602), (0, wI (h 492 602 0))]) 0
    (fun v2 h1 =>
    cv_ (fj_run d 594 h1 [(4, 602), (1, wI v2)])
      (fun h4 =>
      some (.inl none, h4))
      (fun q6 h4 => tx_ q6 h4))
    (fun q3 h1 => tx_ q3 h1) := by
  unfold c_592_232
  exact
    have D : fk_D 592 [(232, some [0], .aload_n 0, 1, 0, 0, 0), (233, none, .aload_n 0, 1, 0, 0, 0), (234, none, .aload_n 0, 1, 0, 0, 0), (235, none, .getfield 869, 3, 492, 129, 11), (238, none, .l2i, 1, 0, 0, 0), (239, none, .invokevirtual 1042, 3, 1, 435, 1), (242, none, .i2l, 1, 0, 0, 0), (243, none, .invokevirtual 976, 3, 1, 419, 0), (246, none, .goto 256, 3, 502, 0, 0)] := fq_of2 cd_592 ow_592 cl_592 rfl (pc := 232) (by decide +kernel)
    j_aldn (pc := 232) D rfl rfl rfl fun D =>
    j_aldn (pc := 233) D rfl rfl rfl fun D =>
    j_aldn (pc := 234) D rfl rfl rfl fun D =>
    j_gf (pc := 235) (a := 602) D rfl rfl (by decide) rfl (s0_602 H) rfl fun D =>
    j_l2i (pc := 238) D rfl fun D =>
    j_iv (pc := 239) (m := 597) (dd := 435) (a := [(0, wI (h 492 602 0))]) (rest := [(4, 602)]) D rfl rfl rfl rfl rfl (by decide) (s0_602 H) (by decide +kernel) (fun v2 h1 e1 D =>
      have T := fj_run_ok _ _ _ _ _ _ H.1 e1
      have H := shp_st H T
      j_i2l (pc := 242) D rfl fun D =>
      j_ivv (pc := 243) (m := 594) (dd := 419) (a := [(1, wI v2)]) (rest := []) D rfl rfl rfl rfl rfl (by decide) (s0_602 H) (by decide +kernel) (fun h4 e1 D =>
        have T := fj_run_ok _ _ _ _ _ _ H.1 e1
        have H := shp_st H T
        j_goto (pc := 246) D rfl <|
        have D : fk_D 592 [(502, none, .return_, 1, 0, 0, 0)] := fq_of2 cd_592 ow_592 cl_592 rfl (pc := 502) (by decide +kernel)
        j_vret D rt_592) (fun q6 h4 e1 =>
        j_tx (hx_592 _))) (fun q3 h1 e1 =>
      j_tx (hx_592 _))
theorem e_592_249 (d : Nat) (x2 : Int) {h : fi_H} (H : Shp h) : c_592_249 d x2 h =
  if x2 = 6 then
    ca_ (fj_run d 582 h [(1, h 492 602 0)]) 3
      (fun v2 h1 =>
      if dg_ v2 0 < 0 then
        ca_ (fj_run d 582 h1 [(1, h1 492 602 0)]) 3
          (fun v5 h4 =>
          c_592_302 d 602 (dneg_ v5) h4)
          (fun q6 h4 => tx_ q6 h4)
      else
        ca_ (fj_run d 582 h1 [(1, h1 492 602 0)]) 3
          (fun v8 h7 =>
          if dl_ v8 0 = 0 then
            c_592_302 d 602 0 h7
          else
            ca_ (fj_run d 582 h7 [(1, h7 492 602 0)]) 3
              (fun v11 h10 =>
              c_592_302 d 602 v11 h10)
              (fun q12 h10 => tx_ q12 h10))
          (fun q9 h7 => tx_ q9 h7))
      (fun q3 h1 => tx_ q3 h1)
  else
    if x2 = 1 then
      ca_ (fj_run d 598 h [(1, h 492 602 0)]) 1
        (fun v14 h13 =>
        cv_ (fj_run d 587 h13 [(4, 602), (1, v14)])
          (fun h16 =>
          some (.inl none, h16))
          (fun q18 h16 => tx_ q18 h16))
        (fun q15 h13 => tx_ q15 h13)
    else
      ca_ (fj_run d 598 h [(1, h 492 602 0)]) 1
        (fun v20 h19 =>
        lt_ (fi_upd h19 492 602 0 v20) fun h22 =>
        some (.inl none, h22))
        (fun q21 h19 => tx_ q21 h19) := by
  unfold c_592_249
  exact
    have D : fk_D 592 [(249, some [0, 2], .iload_n 2, 1, 0, 0, 0), (250, none, .bipush 6, 2, 0, 6, 0), (252, none, .if_icmp .ne 56, 3, 308, 0, 0), (255, none, .aload_n 0, 1, 0, 0, 0), (256, none, .aload_n 0, 1, 0, 0, 0), (257, none, .getfield 869, 3, 492, 129, 11), (260, none, .invokestatic 960, 3, 1, 582, 4), (263, none, .dconst 0, 1, 0, 0, 0), (264, none, .dcmp .g, 1, 0, 0, 0), (265, none, .ifCond .ge 14, 3, 279, 0, 0), (268, none, .aload_n 0, 1, 0, 0, 0), (269, none, .getfield 869, 3, 492, 129, 11), (272, none, .invokestatic 960, 3, 1, 582, 4), (275, none, .dneg, 1, 0, 0, 0), (276, none, .goto 26, 3, 302, 0, 0)] := fq_of2 cd_592 ow_592 cl_592 rfl (pc := 249) (by decide +kernel)
    j_ildn (pc := 249) D rfl rfl rfl fun D =>
    j_bp (pc := 250) D rfl fun D =>
    j_ine (pc := 252) D rfl (fun q D =>
      j_aldn (pc := 255) D rfl rfl rfl fun D =>
      j_aldn (pc := 256) D rfl rfl rfl fun D =>
      j_gf (pc := 257) (a := 602) D rfl rfl (by decide) rfl (s0_602 H) rfl fun D =>
      j_is (pc := 260) (m := 582) (a := [(1, h 492 602 0)]) (rest := [(4, 602)]) D rfl rfl rfl rfl (fun v2 h1 e1 D =>
        have T := fj_run_ok _ _ _ _ _ _ H.1 e1
        have H := shp_st H T
        j_c0 (pc := 263) (v := (3, 0)) D rfl rfl (by decide +kernel) fun D =>
        j_dcmpg (pc := 264) D rfl fun D =>
        j_ifge (pc := 265) D rfl (fun q D =>
          j_aldn (pc := 268) D rfl rfl rfl fun D =>
          j_gf (pc := 269) (a := 602) D rfl rfl (by decide) rfl (s0_602 H) rfl fun D =>
          j_is (pc := 272) (m := 582) (a := [(1, h1 492 602 0)]) (rest := [(4, 602)]) D rfl rfl rfl rfl (fun v5 h4 e1 D =>
            have T := fj_run_ok _ _ _ _ _ _ H.1 e1
            have H := shp_st H T
            j_dneg (pc := 275) D rfl fun D =>
            j_goto (pc := 276) D rfl <|
            fk_jump cut_592_302 rfl rfl) (fun q6 h4 e1 =>
            j_tx (hx_592 _))) (fun q =>
          have D : fk_D 592 [(279, none, .aload_n 0, 1, 0, 0, 0), (280, none, .getfield 869, 3, 492, 129, 11), (283, none, .invokestatic 960, 3, 1, 582, 4), (286, none, .dconst 0, 1, 0, 0, 0), (287, none, .dcmp .l, 1, 0, 0, 0), (288, none, .ifCond .ne 7, 3, 295, 0, 0), (291, none, .dconst 0, 1, 0, 0, 0), (292, none, .goto 10, 3, 302, 0, 0)] := fq_of2 cd_592 ow_592 cl_592 rfl (pc := 279) (by decide +kernel)
          j_aldn (pc := 279) D rfl rfl rfl fun D =>
          j_gf (pc := 280) (a := 602) D rfl rfl (by decide) rfl (s0_602 H) rfl fun D =>
          j_is (pc := 283) (m := 582) (a := [(1, h1 492 602 0)]) (rest := [(4, 602)]) D rfl rfl rfl rfl (fun v8 h7 e1 D =>
            have T := fj_run_ok _ _ _ _ _ _ H.1 e1
            have H := shp_st H T
            j_c0 (pc := 286) (v := (3, 0)) D rfl rfl (by decide +kernel) fun D =>
            j_dcmpl (pc := 287) D rfl fun D =>
            j_ifne (pc := 288) D rfl (fun q D =>
              j_c0 (pc := 291) (v := (3, 0)) D rfl rfl (by decide +kernel) fun D =>
              j_goto (pc := 292) D rfl <|
              fk_jump cut_592_302 rfl rfl) (fun q =>
              have D : fk_D 592 [(295, none, .aload_n 0, 1, 0, 0, 0), (296, none, .getfield 869, 3, 492, 129, 11), (299, none, .invokestatic 960, 3, 1, 582, 4)] := fq_of2 cd_592 ow_592 cl_592 rfl (pc := 295) (by decide +kernel)
              j_aldn (pc := 295) D rfl rfl rfl fun D =>
              j_gf (pc := 296) (a := 602) D rfl rfl (by decide) rfl (s0_602 H) rfl fun D =>
              j_is (pc := 299) (m := 582) (a := [(1, h7 492 602 0)]) (rest := [(4, 602)]) D rfl rfl rfl rfl (fun v11 h10 e1 D =>
                have T := fj_run_ok _ _ _ _ _ _ H.1 e1
                have H := shp_st H T
                fk_jump cut_592_302 rfl rfl) (fun q12 h10 e1 =>
                j_tx (hx_592 _)))) (fun q9 h7 e1 =>
            j_tx (hx_592 _)))) (fun q3 h1 e1 =>
        j_tx (hx_592 _))) (fun q =>
      have D : fk_D 592 [(308, none, .iload_n 2, 1, 0, 0, 0), (309, none, .iconst 1, 1, 0, 1, 0), (310, none, .if_icmp .ne 17, 3, 327, 0, 0), (313, none, .aload_n 0, 1, 0, 0, 0), (314, none, .aload_n 0, 1, 0, 0, 0), (315, none, .getfield 869, 3, 492, 129, 11), (318, none, .invokestatic 954, 3, 1, 598, 2), (321, none, .invokevirtual 994, 3, 1, 425, 0), (324, none, .goto 178, 3, 502, 0, 0)] := fq_of2 cd_592 ow_592 cl_592 rfl (pc := 308) (by decide +kernel)
      j_ildn (pc := 308) D rfl rfl rfl fun D =>
      j_ic (pc := 309) D rfl fun D =>
      j_ine (pc := 310) D rfl (fun q D =>
        j_aldn (pc := 313) D rfl rfl rfl fun D =>
        j_aldn (pc := 314) D rfl rfl rfl fun D =>
        j_gf (pc := 315) (a := 602) D rfl rfl (by decide) rfl (s0_602 H) rfl fun D =>
        j_is (pc := 318) (m := 598) (a := [(1, h 492 602 0)]) (rest := [(4, 602)]) D rfl rfl rfl rfl (fun v14 h13 e1 D =>
          have T := fj_run_ok _ _ _ _ _ _ H.1 e1
          have H := shp_st H T
          j_ivv (pc := 321) (m := 587) (dd := 425) (a := [(1, v14)]) (rest := []) D rfl rfl rfl rfl rfl (by decide) (s0_602 H) (by decide +kernel) (fun h16 e1 D =>
            have T := fj_run_ok _ _ _ _ _ _ H.1 e1
            have H := shp_st H T
            j_goto (pc := 324) D rfl <|
            have D : fk_D 592 [(502, none, .return_, 1, 0, 0, 0)] := fq_of2 cd_592 ow_592 cl_592 rfl (pc := 502) (by decide +kernel)
            j_vret D rt_592) (fun q18 h16 e1 =>
            j_tx (hx_592 _))) (fun q15 h13 e1 =>
          j_tx (hx_592 _))) (fun q =>
        have D : fk_D 592 [(327, none, .aload_n 0, 1, 0, 0, 0), (328, none, .aload_n 0, 1, 0, 0, 0), (329, none, .getfield 869, 3, 492, 129, 11), (332, none, .invokestatic 954, 3, 1, 598, 2), (335, none, .putfield 869, 3, 492, 129, 11), (338, none, .goto 164, 3, 502, 0, 0)] := fq_of2 cd_592 ow_592 cl_592 rfl (pc := 327) (by decide +kernel)
        j_aldn (pc := 327) D rfl rfl rfl fun D =>
        j_aldn (pc := 328) D rfl rfl rfl fun D =>
        j_gf (pc := 329) (a := 602) D rfl rfl (by decide) rfl (s0_602 H) rfl fun D =>
        j_is (pc := 332) (m := 598) (a := [(1, h 492 602 0)]) (rest := [(4, 602)]) D rfl rfl rfl rfl (fun v20 h19 e1 D =>
          have T := fj_run_ok _ _ _ _ _ _ H.1 e1
          have H := shp_st H T
          j_pf (pc := 335) (a := 602) D rfl rfl rfl (s0_602 H) rfl rfl (gy (by decide)) (gy rfl) fun h22 eh22 S D =>
          have T := fj_hs_ok H.1 S
          have H := shp_st H T
          j_goto (pc := 338) D rfl <|
          have D : fk_D 592 [(502, none, .return_, 1, 0, 0, 0)] := fq_of2 cd_592 ow_592 cl_592 rfl (pc := 502) (by decide +kernel)
          j_vret D rt_592) (fun q21 h19 e1 =>
          j_tx (hx_592 _))))
theorem e_592_302 (d : Nat) (s0 s1 : Int) {h : fi_H} (H : Shp h) : c_592_302 d s0 s1 h =
  dv_ (fi_vt 426 (h 0 s0.toNat 0)) fun m4 => cv_ (fj_run d m4 h [(4, s0), (3, s1)])
    (fun h1 =>
    some (.inl none, h1))
    (fun q3 h1 => tx_ q3 h1) := by
  unfold c_592_302
  exact
    have D : fk_D 592 [(302, some [], .invokevirtual 997, 3, 1, 426, 0), (305, none, .goto 197, 3, 502, 0, 0)] := fq_of2 cd_592 ow_592 cl_592 rfl (pc := 302) (by decide +kernel)
    j_ivuv (pc := 302) (dd := 426) (a := [(3, s1)]) (rest := []) H.2.1 D rfl rfl rfl rfl rfl (fun m4 h1 e1 D =>
      have T := fj_run_ok _ _ _ _ _ _ H.1 e1
      have H := shp_st H T
      j_goto (pc := 305) D rfl <|
      have D : fk_D 592 [(502, none, .return_, 1, 0, 0, 0)] := fq_of2 cd_592 ow_592 cl_592 rfl (pc := 502) (by decide +kernel)
      j_vret D rt_592) (fun m4 q3 h1 e1 =>
      j_tx (hx_592 _))
theorem e_592_341 (d : Nat) (x2 : Int) {h : fi_H} (H : Shp h) : c_592_341 d x2 h =
  if x2 = 1 then
    c_592_383 d 602 (ld_ (h 492 602 0)) h
  else
    if x2 = 2 then
      dn_ (FP.ddiv (fi_D (ld_ (h 492 602 0))) (fi_D 4636737291354636288)) fun v1 =>
      c_592_383 d 602 v1 h
    else
      dn_ (FP.ddiv (fi_D (ld_ (h 492 602 0))) (fi_D (ld_ (h 493 602 0)))) fun v2 =>
      c_592_383 d 602 v2 h := by
  unfold c_592_341
  exact
    have D : fk_D 592 [(341, some [0, 2], .aload_n 0, 1, 0, 0, 0), (342, none, .iload_n 2, 1, 0, 0, 0), (343, none, .iconst 1, 1, 0, 1, 0), (344, none, .if_icmp .ne 11, 3, 355, 0, 0), (347, none, .aload_n 0, 1, 0, 0, 0), (348, none, .getfield 869, 3, 492, 129, 11), (351, none, .l2d, 1, 0, 0, 0), (352, none, .goto 31, 3, 383, 0, 0)] := fq_of2 cd_592 ow_592 cl_592 rfl (pc := 341) (by decide +kernel)
    j_aldn (pc := 341) D rfl rfl rfl fun D =>
    j_ildn (pc := 342) D rfl rfl rfl fun D =>
    j_ic (pc := 343) D rfl fun D =>
    j_ine (pc := 344) D rfl (fun q D =>
      j_aldn (pc := 347) D rfl rfl rfl fun D =>
      j_gf (pc := 348) (a := 602) D rfl rfl (by decide) rfl (s0_602 H) rfl fun D =>
      j_l2d (pc := 351) D rfl fun D =>
      j_goto (pc := 352) D rfl <|
      fk_jump cut_592_383 rfl rfl) (fun q =>
      have D : fk_D 592 [(355, none, .iload_n 2, 1, 0, 0, 0), (356, none, .iconst 2, 1, 0, 2, 0), (357, none, .if_icmp .ne 15, 3, 372, 0, 0), (360, none, .aload_n 0, 1, 0, 0, 0), (361, none, .getfield 869, 3, 492, 129, 11), (364, none, .l2d, 1, 0, 0, 0), (365, none, .ldc2_w 1045, 3, 3, 4636737291354636288, 0), (368, none, .ddiv, 1, 0, 0, 0), (369, none, .goto 14, 3, 383, 0, 0)] := fq_of2 cd_592 ow_592 cl_592 rfl (pc := 355) (by decide +kernel)
      j_ildn (pc := 355) D rfl rfl rfl fun D =>
      j_ic (pc := 356) D rfl fun D =>
      j_ine (pc := 357) D rfl (fun q D =>
        j_aldn (pc := 360) D rfl rfl rfl fun D =>
        j_gf (pc := 361) (a := 602) D rfl rfl (by decide) rfl (s0_602 H) rfl fun D =>
        j_l2d (pc := 364) D rfl fun D =>
        j_ldc2 (pc := 365) D rfl fun D =>
        j_dop (pc := 368) (u := FP.ddiv (fi_D (ld_ (h 492 602 0))) (fi_D 4636737291354636288)) D rfl rfl rfl fun D v1 =>
        j_goto (pc := 369) D rfl <|
        fk_jump cut_592_383 rfl rfl) (fun q =>
        have D : fk_D 592 [(372, none, .aload_n 0, 1, 0, 0, 0), (373, none, .getfield 869, 3, 492, 129, 11), (376, none, .l2d, 1, 0, 0, 0), (377, none, .aload_n 0, 1, 0, 0, 0), (378, none, .getfield 872, 3, 493, 129, 11), (381, none, .l2d, 1, 0, 0, 0), (382, none, .ddiv, 1, 0, 0, 0)] := fq_of2 cd_592 ow_592 cl_592 rfl (pc := 372) (by decide +kernel)
        j_aldn (pc := 372) D rfl rfl rfl fun D =>
        j_gf (pc := 373) (a := 602) D rfl rfl (by decide) rfl (s0_602 H) rfl fun D =>
        j_l2d (pc := 376) D rfl fun D =>
        j_aldn (pc := 377) D rfl rfl rfl fun D =>
        j_gf (pc := 378) (a := 602) D rfl rfl (by decide) rfl (s0_602 H) rfl fun D =>
        j_l2d (pc := 381) D rfl fun D =>
        j_dop (pc := 382) (u := FP.ddiv (fi_D (ld_ (h 492 602 0))) (fi_D (ld_ (h 493 602 0)))) D rfl rfl rfl fun D v2 =>
        fk_jump cut_592_383 rfl rfl))
theorem e_592_383 (d : Nat) (s0 s1 : Int) {h : fi_H} (H : Shp h) : c_592_383 d s0 s1 h =
  dv_ (fi_vt 426 (h 0 s0.toNat 0)) fun m4 => cv_ (fj_run d m4 h [(4, s0), (3, s1)])
    (fun h1 =>
    some (.inl none, h1))
    (fun q3 h1 => tx_ q3 h1) := by
  unfold c_592_383
  exact
    have D : fk_D 592 [(383, some [], .invokevirtual 997, 3, 1, 426, 0), (386, none, .goto 116, 3, 502, 0, 0)] := fq_of2 cd_592 ow_592 cl_592 rfl (pc := 383) (by decide +kernel)
    j_ivuv (pc := 383) (dd := 426) (a := [(3, s1)]) (rest := []) H.2.1 D rfl rfl rfl rfl rfl (fun m4 h1 e1 D =>
      have T := fj_run_ok _ _ _ _ _ _ H.1 e1
      have H := shp_st H T
      j_goto (pc := 386) D rfl <|
      have D : fk_D 592 [(502, none, .return_, 1, 0, 0, 0)] := fq_of2 cd_592 ow_592 cl_592 rfl (pc := 502) (by decide +kernel)
      j_vret D rt_592) (fun m4 q3 h1 e1 =>
      j_tx (hx_592 _))
theorem e_592_389 (d : Nat) {h : fi_H} (H : Shp h) : c_592_389 d h =
  ca_ (fj_run d 582 h [(1, h 492 602 0)]) 3
    (fun v2 h1 =>
    if dg_ v2 0 < 0 then
      cv_ (fj_run d 577 h1 [(4, 602), (0, 9)])
        (fun h4 =>
        c_592_407 d h4)
        (fun q6 h4 => tx_ q6 h4)
    else
      c_592_407 d h1)
    (fun q3 h1 => tx_ q3 h1) := by
  unfold c_592_389
  exact
    have D : fk_D 592 [(389, some [0], .aload_n 0, 1, 0, 0, 0), (390, none, .getfield 869, 3, 492, 129, 11), (393, none, .invokestatic 960, 3, 1, 582, 4), (396, none, .dconst 0, 1, 0, 0, 0), (397, none, .dcmp .g, 1, 0, 0, 0), (398, none, .ifCond .ge 9, 3, 407, 0, 0), (401, none, .aload_n 0, 1, 0, 0, 0), (402, none, .bipush 9, 2, 0, 9, 0), (404, none, .invokevirtual 854, 3, 1, 403, 0)] := fq_of2 cd_592 ow_592 cl_592 rfl (pc := 389) (by decide +kernel)
    j_aldn (pc := 389) D rfl rfl rfl fun D =>
    j_gf (pc := 390) (a := 602) D rfl rfl (by decide) rfl (s0_602 H) rfl fun D =>
    j_is (pc := 393) (m := 582) (a := [(1, h 492 602 0)]) (rest := []) D rfl rfl rfl rfl (fun v2 h1 e1 D =>
      have T := fj_run_ok _ _ _ _ _ _ H.1 e1
      have H := shp_st H T
      j_c0 (pc := 396) (v := (3, 0)) D rfl rfl (by decide +kernel) fun D =>
      j_dcmpg (pc := 397) D rfl fun D =>
      j_ifge (pc := 398) D rfl (fun q D =>
        j_aldn (pc := 401) D rfl rfl rfl fun D =>
        j_bp (pc := 402) D rfl fun D =>
        j_ivv (pc := 404) (m := 577) (dd := 403) (a := [(0, 9)]) (rest := []) D rfl rfl rfl rfl rfl (by decide) (s0_602 H) (by decide +kernel) (fun h4 e1 D =>
          have T := fj_run_ok _ _ _ _ _ _ H.1 e1
          have H := shp_st H T
          fk_jump cut_592_407 rfl rfl) (fun q6 h4 e1 =>
          j_tx (hx_592 _))) (fun q =>
        fk_jump cut_592_407 rfl rfl)) (fun q3 h1 e1 =>
      j_tx (hx_592 _))
theorem e_592_407 (d : Nat) {h : fi_H} (H : Shp h) : c_592_407 d h =
  ca_ (fj_run d 582 h [(1, h 492 602 0)]) 3
    (fun v2 h1 =>
    ca_ (fj_run d 399 h1 [(3, v2)]) 3
      (fun v5 h4 =>
      cv_ (fj_run d 583 h4 [(4, 602), (3, v5)])
        (fun h7 =>
        some (.inl none, h7))
        (fun q9 h7 => tx_ q9 h7))
      (fun q6 h4 => tx_ q6 h4))
    (fun q3 h1 => tx_ q3 h1) := by
  unfold c_592_407
  exact
    have D : fk_D 592 [(407, some [0], .aload_n 0, 1, 0, 0, 0), (408, none, .aload_n 0, 1, 0, 0, 0), (409, none, .getfield 869, 3, 492, 129, 11), (412, none, .invokestatic 960, 3, 1, 582, 4), (415, none, .invokestatic 1047, 3, 1, 399, 4), (418, none, .invokevirtual 997, 3, 1, 426, 0), (421, none, .goto 81, 3, 502, 0, 0)] := fq_of2 cd_592 ow_592 cl_592 rfl (pc := 407) (by decide +kernel)
    j_aldn (pc := 407) D rfl rfl rfl fun D =>
    j_aldn (pc := 408) D rfl rfl rfl fun D =>
    j_gf (pc := 409) (a := 602) D rfl rfl (by decide) rfl (s0_602 H) rfl fun D =>
    j_is (pc := 412) (m := 582) (a := [(1, h 492 602 0)]) (rest := [(4, 602)]) D rfl rfl rfl rfl (fun v2 h1 e1 D =>
      have T := fj_run_ok _ _ _ _ _ _ H.1 e1
      have H := shp_st H T
      j_is (pc := 415) (m := 399) (a := [(3, v2)]) (rest := [(4, 602)]) D rfl rfl rfl rfl (fun v5 h4 e1 D =>
        have T := fj_run_ok _ _ _ _ _ _ H.1 e1
        have H := shp_st H T
        j_ivv (pc := 418) (m := 583) (dd := 426) (a := [(3, v5)]) (rest := []) D rfl rfl rfl rfl rfl (by decide) (s0_602 H) (by decide +kernel) (fun h7 e1 D =>
          have T := fj_run_ok _ _ _ _ _ _ H.1 e1
          have H := shp_st H T
          j_goto (pc := 421) D rfl <|
          have D : fk_D 592 [(502, none, .return_, 1, 0, 0, 0)] := fq_of2 cd_592 ow_592 cl_592 rfl (pc := 502) (by decide +kernel)
          j_vret D rt_592) (fun q9 h7 e1 =>
          j_tx (hx_592 _))) (fun q6 h4 e1 =>
        j_tx (hx_592 _))) (fun q3 h1 e1 =>
      j_tx (hx_592 _))
theorem e_592_424 (d : Nat) {h : fi_H} (H : Shp h) : c_592_424 d h =
  ca_ (fj_run d 582 h [(1, h 492 602 0)]) 3
    (fun v2 h1 =>
    dn_ (FP.dmul (fi_D v2) (fi_D 4636737291354636288)) fun v4 =>
    ca_ (fj_run d 1007 h1 [(3, v4)]) 3
      (fun v6 h5 =>
      if 0 < dl_ v6 4786511204640096256 then
        c_592_455 d v6 h5
      else
        if dg_ v6 14009883241494872064 < 0 then
          c_592_455 d v6 h5
        else
          c_592_461 d v6 h5)
      (fun q7 h5 => tx_ q7 h5))
    (fun q3 h1 => tx_ q3 h1) := by
  unfold c_592_424
  exact
    have D : fk_D 592 [(424, some [0], .aload_n 0, 1, 0, 0, 0), (425, none, .getfield 869, 3, 492, 129, 11), (428, none, .invokestatic 960, 3, 1, 582, 4), (431, none, .ldc2_w 1045, 3, 3, 4636737291354636288, 0), (434, none, .dmul, 1, 0, 0, 0), (435, none, .invokestatic 1053, 3, 1, 1007, 4), (438, none, .dstore_n 3, 1, 0, 0, 0), (439, none, .dload_n 3, 1, 0, 0, 0), (440, none, .ldc2_w 1056, 3, 3, 4786511204640096256, 0), (443, none, .dcmp .l, 1, 0, 0, 0), (444, none, .ifCond .gt 11, 3, 455, 0, 0), (447, none, .dload_n 3, 1, 0, 0, 0), (448, none, .ldc2_w 1058, 3, 3, 14009883241494872064, 0), (451, none, .dcmp .g, 1, 0, 0, 0), (452, none, .ifCond .ge 9, 3, 461, 0, 0)] := fq_of2 cd_592 ow_592 cl_592 rfl (pc := 424) (by decide +kernel)
    j_aldn (pc := 424) D rfl rfl rfl fun D =>
    j_gf (pc := 425) (a := 602) D rfl rfl (by decide) rfl (s0_602 H) rfl fun D =>
    j_is (pc := 428) (m := 582) (a := [(1, h 492 602 0)]) (rest := []) D rfl rfl rfl rfl (fun v2 h1 e1 D =>
      have T := fj_run_ok _ _ _ _ _ _ H.1 e1
      have H := shp_st H T
      j_ldc2 (pc := 431) D rfl fun D =>
      j_dop (pc := 434) (u := FP.dmul (fi_D v2) (fi_D 4636737291354636288)) D rfl rfl rfl fun D v4 =>
      j_is (pc := 435) (m := 1007) (a := [(3, v4)]) (rest := []) D rfl rfl rfl rfl (fun v6 h5 e1 D =>
        have T := fj_run_ok _ _ _ _ _ _ H.1 e1
        have H := shp_st H T
        j_dstn (pc := 438) (L' := [(3, (3, v6)), (0, (4, 602))]) D rfl nl_592 rfl rfl fun D =>
        j_dldn (pc := 439) D rfl rfl rfl fun D =>
        j_ldc2 (pc := 440) D rfl fun D =>
        j_dcmpl (pc := 443) D rfl fun D =>
        j_ifgt (pc := 444) D rfl (fun q =>
          fk_jump cut_592_455 rfl rfl) (fun q D =>
          j_dldn (pc := 447) D rfl rfl rfl fun D =>
          j_ldc2 (pc := 448) D rfl fun D =>
          j_dcmpg (pc := 451) D rfl fun D =>
          j_ifge (pc := 452) D rfl (fun q D =>
            fk_jump cut_592_455 rfl rfl) (fun q =>
            fk_jump cut_592_461 rfl rfl))) (fun q7 h5 e1 =>
        j_tx (hx_592 _))) (fun q3 h1 e1 =>
      j_tx (hx_592 _))
theorem e_592_455 (d : Nat) (x3 : Int) {h : fi_H} (H : Shp h) : c_592_455 d x3 h =
  cv_ (fj_run d 577 h [(4, 602), (0, 8)])
    (fun h1 =>
    c_592_461 d x3 h1)
    (fun q3 h1 => tx_ q3 h1) := by
  unfold c_592_455
  exact
    have D : fk_D 592 [(455, some [0, 3], .aload_n 0, 1, 0, 0, 0), (456, none, .bipush 8, 2, 0, 8, 0), (458, none, .invokevirtual 854, 3, 1, 403, 0)] := fq_of2 cd_592 ow_592 cl_592 rfl (pc := 455) (by decide +kernel)
    j_aldn (pc := 455) D rfl rfl rfl fun D =>
    j_bp (pc := 456) D rfl fun D =>
    j_ivv (pc := 458) (m := 577) (dd := 403) (a := [(0, 8)]) (rest := []) D rfl rfl rfl rfl rfl (by decide) (s0_602 H) (by decide +kernel) (fun h1 e1 D =>
      have T := fj_run_ok _ _ _ _ _ _ H.1 e1
      have H := shp_st H T
      fk_jump cut_592_461 rfl rfl) (fun q3 h1 e1 =>
      j_tx (hx_592 _))
theorem e_592_461 (d : Nat) (x3 : Int) {h : fi_H} (H : Shp h) : c_592_461 d x3 h =
  cv_ (fj_run d 586 h [(4, 602), (1, d2l_ x3)])
    (fun h1 =>
    some (.inl none, h1))
    (fun q3 h1 => tx_ q3 h1) := by
  unfold c_592_461
  exact
    have D : fk_D 592 [(461, some [0, 3], .aload_n 0, 1, 0, 0, 0), (462, none, .dload_n 3, 1, 0, 0, 0), (463, none, .d2l, 1, 0, 0, 0), (464, none, .invokevirtual 920, 3, 1, 414, 0), (467, none, .goto 35, 3, 502, 0, 0)] := fq_of2 cd_592 ow_592 cl_592 rfl (pc := 461) (by decide +kernel)
    j_aldn (pc := 461) D rfl rfl rfl fun D =>
    j_dldn (pc := 462) D rfl rfl rfl fun D =>
    j_d2l (pc := 463) D rfl fun D =>
    j_ivv (pc := 464) (m := 586) (dd := 414) (a := [(1, d2l_ x3)]) (rest := []) D rfl rfl rfl rfl rfl (by decide) (s0_602 H) (by decide +kernel) (fun h1 e1 D =>
      have T := fj_run_ok _ _ _ _ _ _ H.1 e1
      have H := shp_st H T
      j_goto (pc := 467) D rfl <|
      have D : fk_D 592 [(502, none, .return_, 1, 0, 0, 0)] := fq_of2 cd_592 ow_592 cl_592 rfl (pc := 502) (by decide +kernel)
      j_vret D rt_592) (fun q3 h1 e1 =>
      j_tx (hx_592 _))
theorem e_592_470 (d : Nat) (x2 : Int) {h : fi_H} (H : Shp h) : c_592_470 d x2 h =
  if x2 = 3 then
    if h 493 602 0 = 0 then none else
    cv_ (fj_run d 587 h [(4, 602), (1, lq_ (h 492 602 0) (h 493 602 0))])
      (fun h1 =>
      some (.inl none, h1))
      (fun q3 h1 => tx_ q3 h1)
  else
    ca_ (fj_run d 582 h [(1, h 492 602 0)]) 3
      (fun v5 h4 =>
      cv_ (fj_run d 599 h4 [(4, 602), (3, v5)])
        (fun h7 =>
        some (.inl none, h7))
        (fun q9 h7 => tx_ q9 h7))
      (fun q6 h4 => tx_ q6 h4) := by
  unfold c_592_470
  exact
    have D : fk_D 592 [(470, some [0, 2], .iload_n 2, 1, 0, 0, 0), (471, none, .iconst 3, 1, 0, 3, 0), (472, none, .if_icmp .ne 19, 3, 491, 0, 0), (475, none, .aload_n 0, 1, 0, 0, 0), (476, none, .aload_n 0, 1, 0, 0, 0), (477, none, .getfield 869, 3, 492, 129, 11), (480, none, .aload_n 0, 1, 0, 0, 0), (481, none, .getfield 872, 3, 493, 129, 11), (484, none, .ldiv, 1, 0, 0, 0), (485, none, .invokevirtual 994, 3, 1, 425, 0), (488, none, .goto 14, 3, 502, 0, 0)] := fq_of2 cd_592 ow_592 cl_592 rfl (pc := 470) (by decide +kernel)
    j_ildn (pc := 470) D rfl rfl rfl fun D =>
    j_ic (pc := 471) D rfl fun D =>
    j_ine (pc := 472) D rfl (fun q D =>
      j_aldn (pc := 475) D rfl rfl rfl fun D =>
      j_aldn (pc := 476) D rfl rfl rfl fun D =>
      j_gf (pc := 477) (a := 602) D rfl rfl (by decide) rfl (s0_602 H) rfl fun D =>
      j_aldn (pc := 480) D rfl rfl rfl fun D =>
      j_gf (pc := 481) (a := 602) D rfl rfl (by decide) rfl (s0_602 H) rfl fun D =>
      j_ldiv (pc := 484) D rfl fun q D =>
      j_ivv (pc := 485) (m := 587) (dd := 425) (a := [(1, lq_ (h 492 602 0) (h 493 602 0))]) (rest := []) D rfl rfl rfl rfl rfl (by decide) (s0_602 H) (by decide +kernel) (fun h1 e1 D =>
        have T := fj_run_ok _ _ _ _ _ _ H.1 e1
        have H := shp_st H T
        j_goto (pc := 488) D rfl <|
        have D : fk_D 592 [(502, none, .return_, 1, 0, 0, 0)] := fq_of2 cd_592 ow_592 cl_592 rfl (pc := 502) (by decide +kernel)
        j_vret D rt_592) (fun q3 h1 e1 =>
        j_tx (hx_592 _))) (fun q =>
      have D : fk_D 592 [(491, none, .aload_n 0, 1, 0, 0, 0), (492, none, .aload_n 0, 1, 0, 0, 0), (493, none, .getfield 869, 3, 492, 129, 11), (496, none, .invokestatic 960, 3, 1, 582, 4), (499, none, .invokevirtual 1060, 3, 1, 436, 0), (502, none, .return_, 1, 0, 0, 0)] := fq_of2 cd_592 ow_592 cl_592 rfl (pc := 491) (by decide +kernel)
      j_aldn (pc := 491) D rfl rfl rfl fun D =>
      j_aldn (pc := 492) D rfl rfl rfl fun D =>
      j_gf (pc := 493) (a := 602) D rfl rfl (by decide) rfl (s0_602 H) rfl fun D =>
      j_is (pc := 496) (m := 582) (a := [(1, h 492 602 0)]) (rest := [(4, 602)]) D rfl rfl rfl rfl (fun v5 h4 e1 D =>
        have T := fj_run_ok _ _ _ _ _ _ H.1 e1
        have H := shp_st H T
        j_ivv (pc := 499) (m := 599) (dd := 436) (a := [(3, v5)]) (rest := []) D rfl rfl rfl rfl rfl (by decide) (s0_602 H) (by decide +kernel) (fun h7 e1 D =>
          have T := fj_run_ok _ _ _ _ _ _ H.1 e1
          have H := shp_st H T
          j_vret D rt_592) (fun q9 h7 e1 =>
          j_tx (hx_592 _))) (fun q6 h4 e1 =>
        j_tx (hx_592 _)))
theorem m_592 (d : Nat) (x1 x2 : Int) {h : fi_H} (H : Shp h) : fj_run (d + 1) 592 h [(4, 602), (0, x1), (0, x2)] =
  if x1 = 36 then
    c_592_88 d x1 h
  else if x1 = 37 then
    c_592_88 d x1 h
  else if x1 = 38 then
    c_592_88 d x1 h
  else if x1 = 39 then
    c_592_88 d x1 h
  else if x1 = 40 then
    c_592_88 d x1 h
  else if x1 = 41 then
    c_592_199 d h
  else if x1 = 42 then
    c_592_216 d h
  else if x1 = 43 then
    c_592_232 d h
  else if x1 = 44 then
    c_592_249 d x2 h
  else if x1 = 45 then
    c_592_389 d h
  else if x1 = 46 then
    c_592_424 d h
  else if x1 = 53 then
    c_592_341 d x2 h
  else 
    c_592_470 d x2 h := by
  rw [fj_run_eq d (by decide) h [(4, 602), (0, x1), (0, x2)] (Nat.le_of_ble_eq_true (by rw [nl_592]; rfl))]
  show gG (fj_run d) 592 0 [(0, (4, 602)), (1, (0, x1)), (2, (0, x2))] [] h = _
  exact
    have D : fk_D 592 [(0, none, .iload_n 1, 1, 0, 0, 0), (1, none, .tableswitch 469 36 53 #[87, 87, 87, 87, 87, 198, 215, 231, 248, 388, 423, 469, 469, 469, 469, 469, 469, 340], 87, 0, 0, 0)] := fq_of3 cd_592 ow_592 cl_592 rfl (pc := 0) (by decide +kernel)
    j_ildn (pc := 0) D rfl rfl rfl fun D =>
    have N : fk_ni (x1) [] := trivial
    j_tc (pc := 1) 36 (t := 88) D N rfl (by decide +kernel) (fun q =>
      fk_jump cut_592_88 rfl rfl) (fun N =>
      j_tc 37 (t := 88) D N rfl (by decide +kernel) (fun q =>
        fk_jump cut_592_88 rfl rfl) (fun N =>
        j_tc 38 (t := 88) D N rfl (by decide +kernel) (fun q =>
          fk_jump cut_592_88 rfl rfl) (fun N =>
          j_tc 39 (t := 88) D N rfl (by decide +kernel) (fun q =>
            fk_jump cut_592_88 rfl rfl) (fun N =>
            j_tc 40 (t := 88) D N rfl (by decide +kernel) (fun q =>
              fk_jump cut_592_88 rfl rfl) (fun N =>
              j_tc 41 (t := 199) D N rfl (by decide +kernel) (fun q =>
                fk_jump cut_592_199 rfl rfl) (fun N =>
                j_tc 42 (t := 216) D N rfl (by decide +kernel) (fun q =>
                  fk_jump cut_592_216 rfl rfl) (fun N =>
                  j_tc 43 (t := 232) D N rfl (by decide +kernel) (fun q =>
                    fk_jump cut_592_232 rfl rfl) (fun N =>
                    j_tc 44 (t := 249) D N rfl (by decide +kernel) (fun q =>
                      fk_jump cut_592_249 rfl rfl) (fun N =>
                      j_tc 45 (t := 389) D N rfl (by decide +kernel) (fun q =>
                        fk_jump cut_592_389 rfl rfl) (fun N =>
                        j_tc 46 (t := 424) D N rfl (by decide +kernel) (fun q =>
                          fk_jump cut_592_424 rfl rfl) (fun N =>
                          j_tc 53 (t := 341) D N rfl (by decide +kernel) (fun q =>
                            fk_jump cut_592_341 rfl rfl) (fun N =>
                            j_td (t := 470) D N rfl (by decide +kernel) (by decide +kernel) <|
                            fk_jump cut_592_470 rfl rfl))))))))))))
/-! 593 StatuteHouseModel.look(I)V -/
theorem cd_593 : fi_code 593 = prog_69_method_8_code := rfl
theorem hx_593 : ∀ pc, fi_hat 593 pc = none := fun pc => by unfold fi_hat; rw [show fi_hh 593 = [] from rfl]; rfl
theorem rt_593 : fi_ret 593 = none := rfl
theorem nl_593 : fi_nl 593 = 5 := rfl
theorem ow_593 : fi_ow 593 = 29 := rfl
theorem cl_593 : fj_cutT.getD 593 [] = [(10, [0, 1, 2]), (36, [0, 2, 3, 4])] := rfl
theorem cut_593_10 : fj_cut 593 10 = some [0, 1, 2] := by decide +kernel
noncomputable def c_593_10 (d : Nat) (x1 x2 : Int) (h : fi_H) : fk_R := gG (fj_run d) 593 10 [(0, (4, 602)), (1, (0, x1)), (2, (0, x2))] [] h
theorem cut_593_36 : fj_cut 593 36 = some [0, 2, 3, 4] := by decide +kernel
noncomputable def c_593_36 (d : Nat) (x2 x3 x4 : Int) (h : fi_H) : fk_R := gG (fj_run d) 593 36 [(0, (4, 602)), (2, (0, x2)), (3, (0, x3)), (4, (0, x4))] [] h
theorem e_593_10 (d : Nat) (x1 x2 : Int) {h : fi_H} (H : Shp h) : c_593_10 d x1 x2 h =
  ca_ (fj_run d 519 h [(0, wI (x2 + 1))]) 0
    (fun v2 h1 =>
    if x1 < v2 then
      ca_ (fj_run d 519 h1 [(0, x2)]) 0
        (fun v5 h4 =>
        c_593_36 d x2 (wI (x1 - v5)) 1 h4)
        (fun q6 h4 => tx_ q6 h4)
    else
      c_593_10 d x1 (wI (x2 + 1)) h1)
    (fun q3 h1 => tx_ q3 h1) := by
  unfold c_593_10
  exact
    have D : fk_D 593 [(10, some [0, 1, 2], .iload_n 2, 1, 0, 0, 0), (11, none, .iconst 1, 1, 0, 1, 0), (12, none, .iadd, 1, 0, 0, 0), (13, none, .invokestatic 415, 3, 1, 519, 1), (16, none, .iload_n 1, 1, 0, 0, 0), (17, none, .if_icmp .gt 9, 3, 26, 0, 0), (20, none, .iinc 2 1, 3, 0, 1, 0), (23, none, .goto (-13), 3, 10, 0, 0)] := fq_of2 cd_593 ow_593 cl_593 rfl (pc := 10) (by decide +kernel)
    j_ildn (pc := 10) D rfl rfl rfl fun D =>
    j_ic (pc := 11) D rfl fun D =>
    j_iadd (pc := 12) D rfl fun D =>
    j_is (pc := 13) (m := 519) (a := [(0, wI (x2 + 1))]) (rest := []) D rfl rfl rfl rfl (fun v2 h1 e1 D =>
      have T := fj_run_ok _ _ _ _ _ _ H.1 e1
      have H := shp_st H T
      j_ildn (pc := 16) D rfl rfl rfl fun D =>
      j_igt (pc := 17) D rfl (fun q =>
        have D : fk_D 593 [(26, none, .iload_n 1, 1, 0, 0, 0), (27, none, .iload_n 2, 1, 0, 0, 0), (28, none, .invokestatic 415, 3, 1, 519, 1), (31, none, .isub, 1, 0, 0, 0), (32, none, .istore_n 3, 1, 0, 0, 0), (33, none, .iconst 1, 1, 0, 1, 0), (34, none, .istore 4, 2, 0, 0, 0)] := fq_of2 cd_593 ow_593 cl_593 rfl (pc := 26) (by decide +kernel)
        j_ildn (pc := 26) D rfl rfl rfl fun D =>
        j_ildn (pc := 27) D rfl rfl rfl fun D =>
        j_is (pc := 28) (m := 519) (a := [(0, x2)]) (rest := [(0, x1)]) D rfl rfl rfl rfl (fun v5 h4 e1 D =>
          have T := fj_run_ok _ _ _ _ _ _ H.1 e1
          have H := shp_st H T
          j_isub (pc := 31) D rfl fun D =>
          j_istn (pc := 32) (L' := [(3, (0, wI (x1 - v5))), (0, (4, 602)), (1, (0, x1)), (2, (0, x2))]) D rfl nl_593 rfl rfl fun D =>
          j_ic (pc := 33) D rfl fun D =>
          j_ist (pc := 34) (L' := [(4, (0, 1)), (3, (0, wI (x1 - v5))), (0, (4, 602)), (1, (0, x1)), (2, (0, x2))]) D rfl nl_593 rfl rfl fun D =>
          fk_jump cut_593_36 rfl rfl) (fun q6 h4 e1 =>
          j_tx (hx_593 _))) (fun q D =>
        j_inc (pc := 20) (L' := [(2, (0, wI (x2 + 1))), (0, (4, 602)), (1, (0, x1))]) D rfl rfl rfl (by decide +kernel) rfl fun D =>
        j_goto (pc := 23) D rfl <|
        fk_jump cut_593_10 rfl rfl)) (fun q3 h1 e1 =>
      j_tx (hx_593 _))
theorem e_593_36 (d : Nat) (x2 x3 x4 : Int) {h : fi_H} (H : Shp h) : c_593_36 d x2 x3 x4 h =
  ca_ (fj_run d 516 h [(0, x2), (0, x4)]) 0
    (fun v2 h1 =>
    if x3 < v2 then
      lt_ (fi_upd h1 384 602 0 x2) fun h4 =>
      lt_ (fi_upd h4 385 602 0 x4) fun h5 =>
      lt_ (fi_upd h5 386 602 0 (wI (x3 + 1))) fun h6 =>
      some (.inl none, h6)
    else
      ca_ (fj_run d 516 h1 [(0, x2), (0, x4)]) 0
        (fun v8 h7 =>
        c_593_36 d x2 (wI (x3 - v8)) (wI (x4 + 1)) h7)
        (fun q9 h7 => tx_ q9 h7))
    (fun q3 h1 => tx_ q3 h1) := by
  unfold c_593_36
  exact
    have D : fk_D 593 [(36, some [0, 2, 3, 4], .iload_n 3, 1, 0, 0, 0), (37, none, .iload_n 2, 1, 0, 0, 0), (38, none, .iload 4, 2, 0, 0, 0), (40, none, .invokestatic 419, 3, 2, 516, 1), (43, none, .if_icmp .lt 18, 3, 61, 0, 0), (46, none, .iload_n 3, 1, 0, 0, 0), (47, none, .iload_n 2, 1, 0, 0, 0), (48, none, .iload 4, 2, 0, 0, 0), (50, none, .invokestatic 419, 3, 2, 516, 1), (53, none, .isub, 1, 0, 0, 0), (54, none, .istore_n 3, 1, 0, 0, 0), (55, none, .iinc 4 1, 3, 0, 1, 0), (58, none, .goto (-22), 3, 36, 0, 0)] := fq_of2 cd_593 ow_593 cl_593 rfl (pc := 36) (by decide +kernel)
    j_ildn (pc := 36) D rfl rfl rfl fun D =>
    j_ildn (pc := 37) D rfl rfl rfl fun D =>
    j_ild (pc := 38) D rfl rfl rfl fun D =>
    j_is (pc := 40) (m := 516) (a := [(0, x2), (0, x4)]) (rest := [(0, x3)]) D rfl rfl rfl rfl (fun v2 h1 e1 D =>
      have T := fj_run_ok _ _ _ _ _ _ H.1 e1
      have H := shp_st H T
      j_ilt (pc := 43) D rfl (fun q =>
        have D : fk_D 593 [(61, none, .aload_n 0, 1, 0, 0, 0), (62, none, .iload_n 2, 1, 0, 0, 0), (63, none, .putfield 423, 3, 384, 129, 10), (66, none, .aload_n 0, 1, 0, 0, 0), (67, none, .iload 4, 2, 0, 0, 0), (69, none, .putfield 426, 3, 385, 129, 10), (72, none, .aload_n 0, 1, 0, 0, 0), (73, none, .iload_n 3, 1, 0, 0, 0), (74, none, .iconst 1, 1, 0, 1, 0), (75, none, .iadd, 1, 0, 0, 0), (76, none, .putfield 429, 3, 386, 129, 10), (79, none, .return_, 1, 0, 0, 0)] := fq_of2 cd_593 ow_593 cl_593 rfl (pc := 61) (by decide +kernel)
        j_aldn (pc := 61) D rfl rfl rfl fun D =>
        j_ildn (pc := 62) D rfl rfl rfl fun D =>
        j_pf (pc := 63) (a := 602) D rfl rfl rfl (s0_602 H) rfl rfl (gy (by decide)) (gy rfl) fun h4 eh4 S D =>
        have T := fj_hs_ok H.1 S
        have H := shp_st H T
        j_aldn (pc := 66) D rfl rfl rfl fun D =>
        j_ild (pc := 67) D rfl rfl rfl fun D =>
        j_pf (pc := 69) (a := 602) D rfl rfl rfl (s0_602 H) rfl rfl (gy (by decide)) (gy rfl) fun h5 eh5 S D =>
        have T := fj_hs_ok H.1 S
        have H := shp_st H T
        j_aldn (pc := 72) D rfl rfl rfl fun D =>
        j_ildn (pc := 73) D rfl rfl rfl fun D =>
        j_ic (pc := 74) D rfl fun D =>
        j_iadd (pc := 75) D rfl fun D =>
        j_pf (pc := 76) (a := 602) D rfl rfl rfl (s0_602 H) rfl rfl (gy (by decide)) (gy rfl) fun h6 eh6 S D =>
        have T := fj_hs_ok H.1 S
        have H := shp_st H T
        j_vret D rt_593) (fun q D =>
        j_ildn (pc := 46) D rfl rfl rfl fun D =>
        j_ildn (pc := 47) D rfl rfl rfl fun D =>
        j_ild (pc := 48) D rfl rfl rfl fun D =>
        j_is (pc := 50) (m := 516) (a := [(0, x2), (0, x4)]) (rest := [(0, x3)]) D rfl rfl rfl rfl (fun v8 h7 e1 D =>
          have T := fj_run_ok _ _ _ _ _ _ H.1 e1
          have H := shp_st H T
          j_isub (pc := 53) D rfl fun D =>
          j_istn (pc := 54) (L' := [(3, (0, wI (x3 - v8))), (0, (4, 602)), (2, (0, x2)), (4, (0, x4))]) D rfl nl_593 rfl rfl fun D =>
          j_inc (pc := 55) (L' := [(4, (0, wI (x4 + 1))), (3, (0, wI (x3 - v8))), (0, (4, 602)), (2, (0, x2))]) D rfl rfl rfl (by decide +kernel) rfl fun D =>
          j_goto (pc := 58) D rfl <|
          fk_jump cut_593_36 rfl rfl) (fun q9 h7 e1 =>
          j_tx (hx_593 _)))) (fun q3 h1 e1 =>
      j_tx (hx_593 _))
theorem m_593 (d : Nat) (x1 : Int) {h : fi_H} (H : Shp h) : fj_run (d + 1) 593 h [(4, 602), (0, x1)] =
  c_593_10 d x1 (wI (1900 + (iq_ x1 366))) h := by
  rw [fj_run_eq d (by decide) h [(4, 602), (0, x1)] (Nat.le_of_ble_eq_true (by rw [nl_593]; rfl))]
  show gG (fj_run d) 593 0 [(0, (4, 602)), (1, (0, x1))] [] h = _
  exact
    have D : fk_D 593 [(0, none, .sipush 1900, 3, 0, 1900, 0), (3, none, .iload_n 1, 1, 0, 0, 0), (4, none, .sipush 366, 3, 0, 366, 0), (7, none, .idiv, 1, 0, 0, 0), (8, none, .iadd, 1, 0, 0, 0), (9, none, .istore_n 2, 1, 0, 0, 0)] := fq_of2 cd_593 ow_593 cl_593 rfl (pc := 0) (by decide +kernel)
    j_sp (pc := 0) D rfl fun D =>
    j_ildn (pc := 3) D rfl rfl rfl fun D =>
    j_sp (pc := 4) D rfl fun D =>
    j_idivk (pc := 7) D rfl (by decide) fun D =>
    j_iadd (pc := 8) D rfl fun D =>
    j_istn (pc := 9) (L' := [(2, (0, wI (1900 + (iq_ x1 366)))), (0, (4, 602)), (1, (0, x1))]) D rfl nl_593 rfl rfl fun D =>
    fk_jump cut_593_10 rfl rfl
/-! 594 StatuteHouseModel.setDay(J)V -/
theorem cd_594 : fi_code 594 = prog_69_method_108_code := rfl
theorem hx_594 : ∀ pc, fi_hat 594 pc = none := fun pc => by unfold fi_hat; rw [show fi_hh 594 = [] from rfl]; rfl
theorem rt_594 : fi_ret 594 = none := rfl
theorem nl_594 : fi_nl 594 = 3 := rfl
theorem ow_594 : fi_ow 594 = 29 := rfl
theorem cl_594 : fj_cutT.getD 594 [] = [(13, [0, 1])] := rfl
theorem cut_594_13 : fj_cut 594 13 = some [0, 1] := by decide +kernel
noncomputable def c_594_13 (d : Nat) (x1 : Int) (h : fi_H) : fk_R := gG (fj_run d) 594 13 [(0, (4, 602)), (1, (1, x1))] [] h
theorem e_594_13 (d : Nat) (x1 : Int) {h : fi_H} (H : Shp h) : c_594_13 d x1 h =
  lt_ (fi_upd h 492 602 0 x1) fun h1 =>
  lt_ (fi_upd h1 493 602 0 0) fun h2 =>
  some (.inl none, h2) := by
  unfold c_594_13
  exact
    have D : fk_D 594 [(13, some [0, 1], .aload_n 0, 1, 0, 0, 0), (14, none, .lload_n 1, 1, 0, 0, 0), (15, none, .putfield 869, 3, 492, 129, 11), (18, none, .aload_n 0, 1, 0, 0, 0), (19, none, .lconst 0, 1, 0, 0, 0), (20, none, .putfield 872, 3, 493, 129, 11), (23, none, .return_, 1, 0, 0, 0)] := fq_of2 cd_594 ow_594 cl_594 rfl (pc := 13) (by decide +kernel)
    j_aldn (pc := 13) D rfl rfl rfl fun D =>
    j_lldn (pc := 14) D rfl rfl rfl fun D =>
    j_pf (pc := 15) (a := 602) D rfl rfl rfl (s0_602 H) rfl rfl (gy (by decide)) (gy rfl) fun h1 eh1 S D =>
    have T := fj_hs_ok H.1 S
    have H := shp_st H T
    j_aldn (pc := 18) D rfl rfl rfl fun D =>
    j_c0 (pc := 19) (v := (1, 0)) D rfl rfl (by decide +kernel) fun D =>
    j_pf (pc := 20) (a := 602) D rfl rfl rfl (s0_602 H) rfl rfl (gy (by decide)) (gy rfl) fun h2 eh2 S D =>
    have T := fj_hs_ok H.1 S
    have H := shp_st H T
    j_vret D rt_594
theorem m_594 (d : Nat) (x1 : Int) {h : fi_H} (H : Shp h) : fj_run (d + 1) 594 h [(4, 602), (1, x1)] =
  ca_ (fj_run d 520 h [(1, x1)]) 0
    (fun v2 h1 =>
    if v2 = 0 then
      cv_ (fj_run d 577 h1 [(4, 602), (0, 8)])
        (fun h4 =>
        c_594_13 d x1 h4)
        (fun q6 h4 => tx_ q6 h4)
    else
      c_594_13 d x1 h1)
    (fun q3 h1 => tx_ q3 h1) := by
  rw [fj_run_eq d (by decide) h [(4, 602), (1, x1)] (Nat.le_of_ble_eq_true (by rw [nl_594]; rfl))]
  show gG (fj_run d) 594 0 [(0, (4, 602)), (1, (1, x1))] [] h = _
  exact
    have D : fk_D 594 [(0, none, .lload_n 1, 1, 0, 0, 0), (1, none, .invokestatic 456, 3, 1, 520, 1), (4, none, .ifCond .ne 9, 3, 13, 0, 0), (7, none, .aload_n 0, 1, 0, 0, 0), (8, none, .bipush 8, 2, 0, 8, 0), (10, none, .invokevirtual 854, 3, 1, 403, 0)] := fq_of2 cd_594 ow_594 cl_594 rfl (pc := 0) (by decide +kernel)
    j_lldn (pc := 0) D rfl rfl rfl fun D =>
    j_is (pc := 1) (m := 520) (a := [(1, x1)]) (rest := []) D rfl rfl rfl rfl (fun v2 h1 e1 D =>
      have T := fj_run_ok _ _ _ _ _ _ H.1 e1
      have H := shp_st H T
      j_ifne (pc := 4) D rfl (fun q D =>
        j_aldn (pc := 7) D rfl rfl rfl fun D =>
        j_bp (pc := 8) D rfl fun D =>
        j_ivv (pc := 10) (m := 577) (dd := 403) (a := [(0, 8)]) (rest := []) D rfl rfl rfl rfl rfl (by decide) (s0_602 H) (by decide +kernel) (fun h4 e1 D =>
          have T := fj_run_ok _ _ _ _ _ _ H.1 e1
          have H := shp_st H T
          fk_jump cut_594_13 rfl rfl) (fun q6 h4 e1 =>
          j_tx (hx_594 _))) (fun q =>
        fk_jump cut_594_13 rfl rfl)) (fun q3 h1 e1 =>
      j_tx (hx_594 _))
/-! 595 StatuteHouseModel.isWorking(I)Z -/
theorem cd_595 : fi_code 595 = prog_69_method_14_code := rfl
theorem hx_595 : ∀ pc, fi_hat 595 pc = none := fun pc => by unfold fi_hat; rw [show fi_hh 595 = [] from rfl]; rfl
theorem rt_595 : fi_ret 595 = some .boolean := rfl
theorem nl_595 : fi_nl 595 = 4 := rfl
theorem ow_595 : fi_ow 595 = 29 := rfl
theorem cl_595 : fj_cutT.getD 595 [] = [(17, [0, 1, 2]), (86, [0, 1, 2]), (87, [0, 1, 2]), (114, [0, 1, 2]), (157, [0, 1, 2]), (158, [0, 1, 2]), (213, [0, 1, 2]), (214, [0, 1, 2]), (215, [0, 1, 2, 3])] := rfl
theorem cut_595_17 : fj_cut 595 17 = some [0, 1, 2] := by decide +kernel
noncomputable def c_595_17 (d : Nat) (x1 x2 : Int) (h : fi_H) : fk_R := gG (fj_run d) 595 17 [(0, (4, 602)), (1, (0, x1)), (2, (0, x2))] [] h
theorem cut_595_86 : fj_cut 595 86 = some [0, 1, 2] := by decide +kernel
noncomputable def c_595_86 (d : Nat) (x1 x2 : Int) (h : fi_H) : fk_R := gG (fj_run d) 595 86 [(0, (4, 602)), (1, (0, x1)), (2, (0, x2))] [] h
theorem cut_595_87 : fj_cut 595 87 = some [0, 1, 2] := by decide +kernel
noncomputable def c_595_87 (d : Nat) (x1 x2 s0 : Int) (h : fi_H) : fk_R := gG (fj_run d) 595 87 [(0, (4, 602)), (1, (0, x1)), (2, (0, x2))] [(0, s0)] h
theorem cut_595_114 : fj_cut 595 114 = some [0, 1, 2] := by decide +kernel
noncomputable def c_595_114 (d : Nat) (x1 x2 s0 : Int) (h : fi_H) : fk_R := gG (fj_run d) 595 114 [(0, (4, 602)), (1, (0, x1)), (2, (0, x2))] [(0, s0)] h
theorem cut_595_157 : fj_cut 595 157 = some [0, 1, 2] := by decide +kernel
noncomputable def c_595_157 (d : Nat) (x1 x2 : Int) (h : fi_H) : fk_R := gG (fj_run d) 595 157 [(0, (4, 602)), (1, (0, x1)), (2, (0, x2))] [] h
theorem cut_595_158 : fj_cut 595 158 = some [0, 1, 2] := by decide +kernel
noncomputable def c_595_158 (d : Nat) (x1 x2 s0 : Int) (h : fi_H) : fk_R := gG (fj_run d) 595 158 [(0, (4, 602)), (1, (0, x1)), (2, (0, x2))] [(0, s0)] h
theorem cut_595_213 : fj_cut 595 213 = some [0, 1, 2] := by decide +kernel
noncomputable def c_595_213 (d : Nat) (x1 x2 : Int) (h : fi_H) : fk_R := gG (fj_run d) 595 213 [(0, (4, 602)), (1, (0, x1)), (2, (0, x2))] [] h
theorem cut_595_214 : fj_cut 595 214 = some [0, 1, 2] := by decide +kernel
noncomputable def c_595_214 (d : Nat) (x1 x2 s0 : Int) (h : fi_H) : fk_R := gG (fj_run d) 595 214 [(0, (4, 602)), (1, (0, x1)), (2, (0, x2))] [(0, s0)] h
theorem cut_595_215 : fj_cut 595 215 = some [0, 1, 2, 3] := by decide +kernel
noncomputable def c_595_215 (d : Nat) (x1 x2 x3 : Int) (h : fi_H) : fk_R := gG (fj_run d) 595 215 [(0, (4, 602)), (1, (0, x1)), (2, (0, x2)), (3, (0, x3))] [] h
theorem e_595_17 (d : Nat) (x1 x2 : Int) {h : fi_H} (H : Shp h) : c_595_17 d x1 x2 h =
  if x2 < h 390 602 0 then
    if 0 ≤ x2 ∧ x2 < 42 then
    if h 10 604 x2.toNat = 0 then
      if h 386 602 0 = h 10 605 x2.toNat then
        if h 385 602 0 = h 10 606 x2.toNat then
          c_595_87 d x1 x2 1 h
        else
          c_595_86 d x1 x2 h
      else
        c_595_86 d x1 x2 h
    else if h 10 604 x2.toNat = 1 then
      ca_ (fj_run d 596 h [(0, h 384 602 0)]) 0
        (fun v3 h2 =>
        if wI (v3 + (h2 10 605 x2.toNat)) = x1 then
          c_595_114 d x1 x2 1 h2
        else
          c_595_114 d x1 x2 0 h2)
        (fun q4 h2 => tx_ q4 h2)
    else if h 10 604 x2.toNat = 2 then
      if ir_ x1 7 = h 10 605 x2.toNat then
        if h 385 602 0 = h 10 606 x2.toNat then
          if h 386 602 0 < 8 then
            c_595_158 d x1 x2 1 h
          else
            c_595_157 d x1 x2 h
        else
          c_595_157 d x1 x2 h
      else
        c_595_157 d x1 x2 h
    else 
      if ir_ x1 7 = h 10 605 x2.toNat then
        if h 385 602 0 = h 10 606 x2.toNat then
          ca_ (fj_run d 516 h [(0, h 384 602 0), (0, h 385 602 0)]) 0
            (fun v6 h5 =>
            if wI (v6 - 7) < h 386 602 0 then
              c_595_214 d x1 x2 1 h5
            else
              c_595_213 d x1 x2 h5)
            (fun q7 h5 => tx_ q7 h5)
        else
          c_595_213 d x1 x2 h
      else
        c_595_213 d x1 x2 h
    else none
  else
    some (.inl (some (0, 1)), h) := by
  unfold c_595_17
  exact
    have D : fk_D 595 [(17, some [0, 1, 2], .iload_n 2, 1, 0, 0, 0), (18, none, .aload_n 0, 1, 0, 0, 0), (19, none, .getfield 463, 3, 390, 129, 10), (22, none, .if_icmp .ge 205, 3, 227, 0, 0), (25, none, .aload_n 0, 1, 0, 0, 0), (26, none, .getfield 16, 3, 387, 129, 12), (29, none, .iload_n 2, 1, 0, 0, 0), (30, none, .iaload, 1, 0, 0, 0), (31, none, .tableswitch 131 0 2 #[25, 60, 87], 25, 0, 0, 0)] := fq_of3 cd_595 ow_595 cl_595 rfl (pc := 17) (by decide +kernel)
    j_ildn (pc := 17) D rfl rfl rfl fun D =>
    j_aldn (pc := 18) D rfl rfl rfl fun D =>
    j_gf (pc := 19) (a := 602) D rfl rfl (by decide) rfl (s0_602 H) rfl fun D =>
    j_ige (pc := 22) D rfl (fun q D =>
      j_aldn (pc := 25) D rfl rfl rfl fun D =>
      j_gfc (pc := 26) (a := 602) D rfl rfl (by decide) rfl (s0_602 H) rfl (sf_387_602 H) fun D =>
      j_ildn (pc := 29) D rfl rfl rfl fun D =>
      j_al (pc := 30) (a := 604) (e := 10) D rfl rfl rfl (by decide) (s0_604 H) (s1_604 H) ⟨rfl, rfl, rfl⟩ rfl gn fun qb1 D =>
      have N : fk_ni (h 10 604 x2.toNat) [] := trivial
      j_tc (pc := 31) 0 (t := 56) D N rfl (by decide +kernel) (fun q =>
        have D : fk_D 595 [(56, none, .aload_n 0, 1, 0, 0, 0), (57, none, .getfield 429, 3, 386, 129, 10), (60, none, .aload_n 0, 1, 0, 0, 0), (61, none, .getfield 20, 3, 388, 129, 12), (64, none, .iload_n 2, 1, 0, 0, 0), (65, none, .iaload, 1, 0, 0, 0), (66, none, .if_icmp .ne 20, 3, 86, 0, 0), (69, none, .aload_n 0, 1, 0, 0, 0), (70, none, .getfield 426, 3, 385, 129, 10), (73, none, .aload_n 0, 1, 0, 0, 0), (74, none, .getfield 23, 3, 389, 129, 12), (77, none, .iload_n 2, 1, 0, 0, 0), (78, none, .iaload, 1, 0, 0, 0), (79, none, .if_icmp .ne 7, 3, 86, 0, 0), (82, none, .iconst 1, 1, 0, 1, 0), (83, none, .goto 4, 3, 87, 0, 0)] := fq_of2 cd_595 ow_595 cl_595 rfl (pc := 56) (by decide +kernel)
        j_aldn (pc := 56) D rfl rfl rfl fun D =>
        j_gf (pc := 57) (a := 602) D rfl rfl (by decide) rfl (s0_602 H) rfl fun D =>
        j_aldn (pc := 60) D rfl rfl rfl fun D =>
        j_gfc (pc := 61) (a := 602) D rfl rfl (by decide) rfl (s0_602 H) rfl (sf_388_602 H) fun D =>
        j_ildn (pc := 64) D rfl rfl rfl fun D =>
        j_al (pc := 65) (a := 605) (e := 10) D rfl rfl rfl (by decide) (s0_605 H) (s1_605 H) ⟨rfl, rfl, rfl⟩ rfl (gy qb1) fun q D =>
        j_ine (pc := 66) D rfl (fun q D =>
          j_aldn (pc := 69) D rfl rfl rfl fun D =>
          j_gf (pc := 70) (a := 602) D rfl rfl (by decide) rfl (s0_602 H) rfl fun D =>
          j_aldn (pc := 73) D rfl rfl rfl fun D =>
          j_gfc (pc := 74) (a := 602) D rfl rfl (by decide) rfl (s0_602 H) rfl (sf_389_602 H) fun D =>
          j_ildn (pc := 77) D rfl rfl rfl fun D =>
          j_al (pc := 78) (a := 606) (e := 10) D rfl rfl rfl (by decide) (s0_606 H) (s1_606 H) ⟨rfl, rfl, rfl⟩ rfl (gy qb1) fun q D =>
          j_ine (pc := 79) D rfl (fun q D =>
            j_ic (pc := 82) D rfl fun D =>
            j_goto (pc := 83) D rfl <|
            fk_jump cut_595_87 rfl rfl) (fun q =>
            fk_jump cut_595_86 rfl rfl)) (fun q =>
          fk_jump cut_595_86 rfl rfl)) (fun N =>
        j_tc 1 (t := 91) D N rfl (by decide +kernel) (fun q =>
          have D : fk_D 595 [(91, none, .aload_n 0, 1, 0, 0, 0), (92, none, .getfield 423, 3, 384, 129, 10), (95, none, .invokestatic 466, 3, 1, 596, 1), (98, none, .aload_n 0, 1, 0, 0, 0), (99, none, .getfield 20, 3, 388, 129, 12), (102, none, .iload_n 2, 1, 0, 0, 0), (103, none, .iaload, 1, 0, 0, 0), (104, none, .iadd, 1, 0, 0, 0), (105, none, .iload_n 1, 1, 0, 0, 0), (106, none, .if_icmp .ne 7, 3, 113, 0, 0), (109, none, .iconst 1, 1, 0, 1, 0), (110, none, .goto 4, 3, 114, 0, 0)] := fq_of2 cd_595 ow_595 cl_595 rfl (pc := 91) (by decide +kernel)
          j_aldn (pc := 91) D rfl rfl rfl fun D =>
          j_gf (pc := 92) (a := 602) D rfl rfl (by decide) rfl (s0_602 H) rfl fun D =>
          j_is (pc := 95) (m := 596) (a := [(0, h 384 602 0)]) (rest := []) D rfl rfl rfl rfl (fun v3 h2 e1 D =>
            have T := fj_run_ok _ _ _ _ _ _ H.1 e1
            have H := shp_st H T
            j_aldn (pc := 98) D rfl rfl rfl fun D =>
            j_gfc (pc := 99) (a := 602) D rfl rfl (by decide) rfl (s0_602 H) rfl (sf_388_602 H) fun D =>
            j_ildn (pc := 102) D rfl rfl rfl fun D =>
            j_al (pc := 103) (a := 605) (e := 10) D rfl rfl rfl (by decide) (s0_605 H) (s1_605 H) ⟨rfl, rfl, rfl⟩ rfl (gy qb1) fun q D =>
            j_iadd (pc := 104) D rfl fun D =>
            j_ildn (pc := 105) D rfl rfl rfl fun D =>
            j_ine (pc := 106) D rfl (fun q D =>
              j_ic (pc := 109) D rfl fun D =>
              j_goto (pc := 110) D rfl <|
              fk_jump cut_595_114 rfl rfl) (fun q =>
              have D : fk_D 595 [(113, none, .iconst 0, 1, 0, 0, 0)] := fq_of2 cd_595 ow_595 cl_595 rfl (pc := 113) (by decide +kernel)
              j_ic (pc := 113) D rfl fun D =>
              fk_jump cut_595_114 rfl rfl)) (fun q4 h2 e1 =>
            j_tx (hx_595 _))) (fun N =>
          j_tc 2 (t := 118) D N rfl (by decide +kernel) (fun q =>
            have D : fk_D 595 [(118, none, .iload_n 1, 1, 0, 0, 0), (119, none, .bipush 7, 2, 0, 7, 0), (121, none, .irem, 1, 0, 0, 0), (122, none, .aload_n 0, 1, 0, 0, 0), (123, none, .getfield 20, 3, 388, 129, 12), (126, none, .iload_n 2, 1, 0, 0, 0), (127, none, .iaload, 1, 0, 0, 0), (128, none, .if_icmp .ne 29, 3, 157, 0, 0), (131, none, .aload_n 0, 1, 0, 0, 0), (132, none, .getfield 426, 3, 385, 129, 10), (135, none, .aload_n 0, 1, 0, 0, 0), (136, none, .getfield 23, 3, 389, 129, 12), (139, none, .iload_n 2, 1, 0, 0, 0), (140, none, .iaload, 1, 0, 0, 0), (141, none, .if_icmp .ne 16, 3, 157, 0, 0), (144, none, .aload_n 0, 1, 0, 0, 0), (145, none, .getfield 429, 3, 386, 129, 10), (148, none, .bipush 8, 2, 0, 8, 0), (150, none, .if_icmp .ge 7, 3, 157, 0, 0), (153, none, .iconst 1, 1, 0, 1, 0)] := fq_of2 cd_595 ow_595 cl_595 rfl (pc := 118) (by decide +kernel)
            j_ildn (pc := 118) D rfl rfl rfl fun D =>
            j_bp (pc := 119) D rfl fun D =>
            j_iremk (pc := 121) D rfl (by decide) fun D =>
            j_aldn (pc := 122) D rfl rfl rfl fun D =>
            j_gfc (pc := 123) (a := 602) D rfl rfl (by decide) rfl (s0_602 H) rfl (sf_388_602 H) fun D =>
            j_ildn (pc := 126) D rfl rfl rfl fun D =>
            j_al (pc := 127) (a := 605) (e := 10) D rfl rfl rfl (by decide) (s0_605 H) (s1_605 H) ⟨rfl, rfl, rfl⟩ rfl (gy qb1) fun q D =>
            j_ine (pc := 128) D rfl (fun q D =>
              j_aldn (pc := 131) D rfl rfl rfl fun D =>
              j_gf (pc := 132) (a := 602) D rfl rfl (by decide) rfl (s0_602 H) rfl fun D =>
              j_aldn (pc := 135) D rfl rfl rfl fun D =>
              j_gfc (pc := 136) (a := 602) D rfl rfl (by decide) rfl (s0_602 H) rfl (sf_389_602 H) fun D =>
              j_ildn (pc := 139) D rfl rfl rfl fun D =>
              j_al (pc := 140) (a := 606) (e := 10) D rfl rfl rfl (by decide) (s0_606 H) (s1_606 H) ⟨rfl, rfl, rfl⟩ rfl (gy qb1) fun q D =>
              j_ine (pc := 141) D rfl (fun q D =>
                j_aldn (pc := 144) D rfl rfl rfl fun D =>
                j_gf (pc := 145) (a := 602) D rfl rfl (by decide) rfl (s0_602 H) rfl fun D =>
                j_bp (pc := 148) D rfl fun D =>
                j_ige (pc := 150) D rfl (fun q D =>
                  j_ic (pc := 153) D rfl fun D =>
                  have D : fk_D 595 [(154, none, .goto 4, 3, 158, 0, 0)] := fq_of2 cd_595 ow_595 cl_595 rfl (pc := 154) (by decide +kernel)
                  j_goto (pc := 154) D rfl <|
                  fk_jump cut_595_158 rfl rfl) (fun q =>
                  fk_jump cut_595_157 rfl rfl)) (fun q =>
                fk_jump cut_595_157 rfl rfl)) (fun q =>
              fk_jump cut_595_157 rfl rfl)) (fun N =>
            j_td (t := 162) D N rfl (by decide +kernel) (by decide +kernel) <|
            have D : fk_D 595 [(162, none, .iload_n 1, 1, 0, 0, 0), (163, none, .bipush 7, 2, 0, 7, 0), (165, none, .irem, 1, 0, 0, 0), (166, none, .aload_n 0, 1, 0, 0, 0), (167, none, .getfield 20, 3, 388, 129, 12), (170, none, .iload_n 2, 1, 0, 0, 0), (171, none, .iaload, 1, 0, 0, 0), (172, none, .if_icmp .ne 41, 3, 213, 0, 0), (175, none, .aload_n 0, 1, 0, 0, 0), (176, none, .getfield 426, 3, 385, 129, 10), (179, none, .aload_n 0, 1, 0, 0, 0), (180, none, .getfield 23, 3, 389, 129, 12), (183, none, .iload_n 2, 1, 0, 0, 0), (184, none, .iaload, 1, 0, 0, 0), (185, none, .if_icmp .ne 28, 3, 213, 0, 0), (188, none, .aload_n 0, 1, 0, 0, 0), (189, none, .getfield 429, 3, 386, 129, 10), (192, none, .aload_n 0, 1, 0, 0, 0), (193, none, .getfield 423, 3, 384, 129, 10), (196, none, .aload_n 0, 1, 0, 0, 0)] := fq_of2 cd_595 ow_595 cl_595 rfl (pc := 162) (by decide +kernel)
            j_ildn (pc := 162) D rfl rfl rfl fun D =>
            j_bp (pc := 163) D rfl fun D =>
            j_iremk (pc := 165) D rfl (by decide) fun D =>
            j_aldn (pc := 166) D rfl rfl rfl fun D =>
            j_gfc (pc := 167) (a := 602) D rfl rfl (by decide) rfl (s0_602 H) rfl (sf_388_602 H) fun D =>
            j_ildn (pc := 170) D rfl rfl rfl fun D =>
            j_al (pc := 171) (a := 605) (e := 10) D rfl rfl rfl (by decide) (s0_605 H) (s1_605 H) ⟨rfl, rfl, rfl⟩ rfl (gy qb1) fun q D =>
            j_ine (pc := 172) D rfl (fun q D =>
              j_aldn (pc := 175) D rfl rfl rfl fun D =>
              j_gf (pc := 176) (a := 602) D rfl rfl (by decide) rfl (s0_602 H) rfl fun D =>
              j_aldn (pc := 179) D rfl rfl rfl fun D =>
              j_gfc (pc := 180) (a := 602) D rfl rfl (by decide) rfl (s0_602 H) rfl (sf_389_602 H) fun D =>
              j_ildn (pc := 183) D rfl rfl rfl fun D =>
              j_al (pc := 184) (a := 606) (e := 10) D rfl rfl rfl (by decide) (s0_606 H) (s1_606 H) ⟨rfl, rfl, rfl⟩ rfl (gy qb1) fun q D =>
              j_ine (pc := 185) D rfl (fun q D =>
                j_aldn (pc := 188) D rfl rfl rfl fun D =>
                j_gf (pc := 189) (a := 602) D rfl rfl (by decide) rfl (s0_602 H) rfl fun D =>
                j_aldn (pc := 192) D rfl rfl rfl fun D =>
                j_gf (pc := 193) (a := 602) D rfl rfl (by decide) rfl (s0_602 H) rfl fun D =>
                j_aldn (pc := 196) D rfl rfl rfl fun D =>
                have D : fk_D 595 [(197, none, .getfield 426, 3, 385, 129, 10), (200, none, .invokestatic 419, 3, 2, 516, 1), (203, none, .bipush 7, 2, 0, 7, 0), (205, none, .isub, 1, 0, 0, 0), (206, none, .if_icmp .le 7, 3, 213, 0, 0), (209, none, .iconst 1, 1, 0, 1, 0), (210, none, .goto 4, 3, 214, 0, 0)] := fq_of2 cd_595 ow_595 cl_595 rfl (pc := 197) (by decide +kernel)
                j_gf (pc := 197) (a := 602) D rfl rfl (by decide) rfl (s0_602 H) rfl fun D =>
                j_is (pc := 200) (m := 516) (a := [(0, h 384 602 0), (0, h 385 602 0)]) (rest := [(0, h 386 602 0)]) D rfl rfl rfl rfl (fun v6 h5 e1 D =>
                  have T := fj_run_ok _ _ _ _ _ _ H.1 e1
                  have H := shp_st H T
                  j_bp (pc := 203) D rfl fun D =>
                  j_isub (pc := 205) D rfl fun D =>
                  j_ile (pc := 206) D rfl (fun q D =>
                    j_ic (pc := 209) D rfl fun D =>
                    j_goto (pc := 210) D rfl <|
                    fk_jump cut_595_214 rfl rfl) (fun q =>
                    fk_jump cut_595_213 rfl rfl)) (fun q7 h5 e1 =>
                  j_tx (hx_595 _))) (fun q =>
                fk_jump cut_595_213 rfl rfl)) (fun q =>
              fk_jump cut_595_213 rfl rfl))))) (fun q =>
      have D : fk_D 595 [(227, none, .iconst 1, 1, 0, 1, 0), (228, none, .ireturn, 1, 0, 0, 0)] := fq_of2 cd_595 ow_595 cl_595 rfl (pc := 227) (by decide +kernel)
      j_ic (pc := 227) D rfl fun D =>
      j_zret D rt_595 (gy (by decide)))
theorem e_595_86 (d : Nat) (x1 x2 : Int) {h : fi_H} (H : Shp h) : c_595_86 d x1 x2 h =
  c_595_87 d x1 x2 0 h := by
  unfold c_595_86
  exact
    have D : fk_D 595 [(86, some [0, 1, 2], .iconst 0, 1, 0, 0, 0)] := fq_of2 cd_595 ow_595 cl_595 rfl (pc := 86) (by decide +kernel)
    j_ic (pc := 86) D rfl fun D =>
    fk_jump cut_595_87 rfl rfl
theorem e_595_87 (d : Nat) (x1 x2 s0 : Int) {h : fi_H} (H : Shp h) : c_595_87 d x1 x2 s0 h =
  c_595_215 d x1 x2 s0 h := by
  unfold c_595_87
  exact
    have D : fk_D 595 [(87, some [0, 1, 2], .istore_n 3, 1, 0, 0, 0), (88, none, .goto 127, 3, 215, 0, 0)] := fq_of2 cd_595 ow_595 cl_595 rfl (pc := 87) (by decide +kernel)
    j_istn (pc := 87) (L' := [(3, (0, s0)), (0, (4, 602)), (1, (0, x1)), (2, (0, x2))]) D rfl nl_595 rfl rfl fun D =>
    j_goto (pc := 88) D rfl <|
    fk_jump cut_595_215 rfl rfl
theorem e_595_114 (d : Nat) (x1 x2 s0 : Int) {h : fi_H} (H : Shp h) : c_595_114 d x1 x2 s0 h =
  c_595_215 d x1 x2 s0 h := by
  unfold c_595_114
  exact
    have D : fk_D 595 [(114, some [0, 1, 2], .istore_n 3, 1, 0, 0, 0), (115, none, .goto 100, 3, 215, 0, 0)] := fq_of2 cd_595 ow_595 cl_595 rfl (pc := 114) (by decide +kernel)
    j_istn (pc := 114) (L' := [(3, (0, s0)), (0, (4, 602)), (1, (0, x1)), (2, (0, x2))]) D rfl nl_595 rfl rfl fun D =>
    j_goto (pc := 115) D rfl <|
    fk_jump cut_595_215 rfl rfl
theorem e_595_157 (d : Nat) (x1 x2 : Int) {h : fi_H} (H : Shp h) : c_595_157 d x1 x2 h =
  c_595_158 d x1 x2 0 h := by
  unfold c_595_157
  exact
    have D : fk_D 595 [(157, some [0, 1, 2], .iconst 0, 1, 0, 0, 0)] := fq_of2 cd_595 ow_595 cl_595 rfl (pc := 157) (by decide +kernel)
    j_ic (pc := 157) D rfl fun D =>
    fk_jump cut_595_158 rfl rfl
theorem e_595_158 (d : Nat) (x1 x2 s0 : Int) {h : fi_H} (H : Shp h) : c_595_158 d x1 x2 s0 h =
  c_595_215 d x1 x2 s0 h := by
  unfold c_595_158
  exact
    have D : fk_D 595 [(158, some [0, 1, 2], .istore_n 3, 1, 0, 0, 0), (159, none, .goto 56, 3, 215, 0, 0)] := fq_of2 cd_595 ow_595 cl_595 rfl (pc := 158) (by decide +kernel)
    j_istn (pc := 158) (L' := [(3, (0, s0)), (0, (4, 602)), (1, (0, x1)), (2, (0, x2))]) D rfl nl_595 rfl rfl fun D =>
    j_goto (pc := 159) D rfl <|
    fk_jump cut_595_215 rfl rfl
theorem e_595_213 (d : Nat) (x1 x2 : Int) {h : fi_H} (H : Shp h) : c_595_213 d x1 x2 h =
  c_595_214 d x1 x2 0 h := by
  unfold c_595_213
  exact
    have D : fk_D 595 [(213, some [0, 1, 2], .iconst 0, 1, 0, 0, 0)] := fq_of2 cd_595 ow_595 cl_595 rfl (pc := 213) (by decide +kernel)
    j_ic (pc := 213) D rfl fun D =>
    fk_jump cut_595_214 rfl rfl
theorem e_595_214 (d : Nat) (x1 x2 s0 : Int) {h : fi_H} (H : Shp h) : c_595_214 d x1 x2 s0 h =
  c_595_215 d x1 x2 s0 h := by
  unfold c_595_214
  exact
    have D : fk_D 595 [(214, some [0, 1, 2], .istore_n 3, 1, 0, 0, 0)] := fq_of2 cd_595 ow_595 cl_595 rfl (pc := 214) (by decide +kernel)
    j_istn (pc := 214) (L' := [(3, (0, s0)), (0, (4, 602)), (1, (0, x1)), (2, (0, x2))]) D rfl nl_595 rfl rfl fun D =>
    fk_jump cut_595_215 rfl rfl
theorem e_595_215 (d : Nat) (x1 x2 x3 : Int) {h : fi_H} (H : Shp h) : c_595_215 d x1 x2 x3 h =
  if x3 = 0 then
    c_595_17 d x1 (wI (x2 + 1)) h
  else
    some (.inl (some (0, 0)), h) := by
  unfold c_595_215
  exact
    have D : fk_D 595 [(215, some [0, 1, 2, 3], .iload_n 3, 1, 0, 0, 0), (216, none, .ifCond .eq 5, 3, 221, 0, 0), (219, none, .iconst 0, 1, 0, 0, 0), (220, none, .ireturn, 1, 0, 0, 0)] := fq_of2 cd_595 ow_595 cl_595 rfl (pc := 215) (by decide +kernel)
    j_ildn (pc := 215) D rfl rfl rfl fun D =>
    j_ifeq (pc := 216) D rfl (fun q =>
      have D : fk_D 595 [(221, none, .iinc 2 1, 3, 0, 1, 0), (224, none, .goto (-207), 3, 17, 0, 0)] := fq_of2 cd_595 ow_595 cl_595 rfl (pc := 221) (by decide +kernel)
      j_inc (pc := 221) (L' := [(2, (0, wI (x2 + 1))), (0, (4, 602)), (1, (0, x1)), (3, (0, x3))]) D rfl rfl rfl (by decide +kernel) rfl fun D =>
      j_goto (pc := 224) D rfl <|
      fk_jump cut_595_17 rfl rfl) (fun q D =>
      j_ic (pc := 219) D rfl fun D =>
      j_zret D rt_595 (gy (by decide)))
theorem m_595 (d : Nat) (x1 : Int) {h : fi_H} (H : Shp h) : fj_run (d + 1) 595 h [(4, 602), (0, x1)] =
  if 4 < ir_ x1 7 then
    some (.inl (some (0, 0)), h)
  else
    cv_ (fj_run d 593 h [(4, 602), (0, x1)])
      (fun h1 =>
      c_595_17 d x1 0 h1)
      (fun q3 h1 => tx_ q3 h1) := by
  rw [fj_run_eq d (by decide) h [(4, 602), (0, x1)] (Nat.le_of_ble_eq_true (by rw [nl_595]; rfl))]
  show gG (fj_run d) 595 0 [(0, (4, 602)), (1, (0, x1))] [] h = _
  exact
    have D : fk_D 595 [(0, none, .iload_n 1, 1, 0, 0, 0), (1, none, .bipush 7, 2, 0, 7, 0), (3, none, .irem, 1, 0, 0, 0), (4, none, .iconst 4, 1, 0, 4, 0), (5, none, .if_icmp .le 5, 3, 10, 0, 0), (8, none, .iconst 0, 1, 0, 0, 0), (9, none, .ireturn, 1, 0, 0, 0)] := fq_of2 cd_595 ow_595 cl_595 rfl (pc := 0) (by decide +kernel)
    j_ildn (pc := 0) D rfl rfl rfl fun D =>
    j_bp (pc := 1) D rfl fun D =>
    j_iremk (pc := 3) D rfl (by decide) fun D =>
    j_ic (pc := 4) D rfl fun D =>
    j_ile (pc := 5) D rfl (fun q D =>
      j_ic (pc := 8) D rfl fun D =>
      j_zret D rt_595 (gy (by decide))) (fun q =>
      have D : fk_D 595 [(10, none, .aload_n 0, 1, 0, 0, 0), (11, none, .iload_n 1, 1, 0, 0, 0), (12, none, .invokevirtual 438, 3, 1, 335, 0), (15, none, .iconst 0, 1, 0, 0, 0), (16, none, .istore_n 2, 1, 0, 0, 0)] := fq_of2 cd_595 ow_595 cl_595 rfl (pc := 10) (by decide +kernel)
      j_aldn (pc := 10) D rfl rfl rfl fun D =>
      j_ildn (pc := 11) D rfl rfl rfl fun D =>
      j_ivv (pc := 12) (m := 593) (dd := 335) (a := [(0, x1)]) (rest := []) D rfl rfl rfl rfl rfl (by decide) (s0_602 H) (by decide +kernel) (fun h1 e1 D =>
        have T := fj_run_ok _ _ _ _ _ _ H.1 e1
        have H := shp_st H T
        j_ic (pc := 15) D rfl fun D =>
        j_istn (pc := 16) (L' := [(2, (0, 0)), (0, (4, 602)), (1, (0, x1))]) D rfl nl_595 rfl rfl fun D =>
        fk_jump cut_595_17 rfl rfl) (fun q3 h1 e1 =>
        j_tx (hx_595 _)))
/-! 596 StatuteHouseModel.easter(I)I -/
theorem cd_596 : fi_code 596 = prog_69_method_13_code := rfl
theorem hx_596 : ∀ pc, fi_hat 596 pc = none := fun pc => by unfold fi_hat; rw [show fi_hh 596 = [] from rfl]; rfl
theorem rt_596 : fi_ret 596 = some .int := rfl
theorem nl_596 : fi_nl 596 = 7 := rfl
theorem ow_596 : fi_ow 596 = 29 := rfl
theorem cl_596 : fj_cutT.getD 596 [] = [(47, [0, 1, 2, 3, 4]), (104, [0, 6])] := rfl
theorem cut_596_47 : fj_cut 596 47 = some [0, 1, 2, 3, 4] := by decide +kernel
noncomputable def c_596_47 (d : Nat) (x0 x1 x2 x3 x4 : Int) (h : fi_H) : fk_R := gG (fj_run d) 596 47 [(0, (0, x0)), (1, (0, x1)), (2, (0, x2)), (3, (0, x3)), (4, (0, x4))] [] h
theorem cut_596_104 : fj_cut 596 104 = some [0, 6] := by decide +kernel
noncomputable def c_596_104 (d : Nat) (x0 x6 : Int) (h : fi_H) : fk_R := gG (fj_run d) 596 104 [(0, (0, x0)), (6, (0, x6))] [] h
theorem e_596_47 (d : Nat) (x0 x1 x2 x3 x4 : Int) {h : fi_H} (H : Shp h) : c_596_47 d x0 x1 x2 x3 x4 h =
  lt_ (ir_ (wI ((wI ((wI ((wI (32 + (wI (2 * (ir_ x2 4))))) + (wI (2 * (iq_ x3 4))))) - x4)) - (ir_ x3 4))) 7) fun y1 =>
  lt_ (wI ((wI ((wI (x4 + y1)) - (wI (7 * (iq_ (wI ((wI (x1 + (wI (11 * x4)))) + (wI (22 * y1)))) 451))))) + 114)) fun y2 =>
  c_596_104 d x0 y2 h := by
  unfold c_596_47
  exact
    have D : fk_D 596 [(47, some [0, 1, 2, 3, 4], .bipush 32, 2, 0, 32, 0), (49, none, .iconst 2, 1, 0, 2, 0), (50, none, .iload_n 2, 1, 0, 0, 0), (51, none, .iconst 4, 1, 0, 4, 0), (52, none, .irem, 1, 0, 0, 0), (53, none, .imul, 1, 0, 0, 0), (54, none, .iadd, 1, 0, 0, 0), (55, none, .iconst 2, 1, 0, 2, 0), (56, none, .iload_n 3, 1, 0, 0, 0), (57, none, .iconst 4, 1, 0, 4, 0), (58, none, .idiv, 1, 0, 0, 0), (59, none, .imul, 1, 0, 0, 0), (60, none, .iadd, 1, 0, 0, 0), (61, none, .iload 4, 2, 0, 0, 0), (63, none, .isub, 1, 0, 0, 0), (64, none, .iload_n 3, 1, 0, 0, 0), (65, none, .iconst 4, 1, 0, 4, 0), (66, none, .irem, 1, 0, 0, 0), (67, none, .isub, 1, 0, 0, 0), (68, none, .bipush 7, 2, 0, 7, 0)] := fq_of2 cd_596 ow_596 cl_596 rfl (pc := 47) (by decide +kernel)
    j_bp (pc := 47) D rfl fun D =>
    j_ic (pc := 49) D rfl fun D =>
    j_ildn (pc := 50) D rfl rfl rfl fun D =>
    j_ic (pc := 51) D rfl fun D =>
    j_iremk (pc := 52) D rfl (by decide) fun D =>
    j_imul (pc := 53) D rfl fun D =>
    j_iadd (pc := 54) D rfl fun D =>
    j_ic (pc := 55) D rfl fun D =>
    j_ildn (pc := 56) D rfl rfl rfl fun D =>
    j_ic (pc := 57) D rfl fun D =>
    j_idivk (pc := 58) D rfl (by decide) fun D =>
    j_imul (pc := 59) D rfl fun D =>
    j_iadd (pc := 60) D rfl fun D =>
    j_ild (pc := 61) D rfl rfl rfl fun D =>
    j_isub (pc := 63) D rfl fun D =>
    j_ildn (pc := 64) D rfl rfl rfl fun D =>
    j_ic (pc := 65) D rfl fun D =>
    j_iremk (pc := 66) D rfl (by decide) fun D =>
    j_isub (pc := 67) D rfl fun D =>
    j_bp (pc := 68) D rfl fun D =>
    have D : fk_D 596 [(70, none, .irem, 1, 0, 0, 0), (71, none, .istore 5, 2, 0, 0, 0), (73, none, .iload 4, 2, 0, 0, 0), (75, none, .iload 5, 2, 0, 0, 0), (77, none, .iadd, 1, 0, 0, 0), (78, none, .bipush 7, 2, 0, 7, 0), (80, none, .iload_n 1, 1, 0, 0, 0), (81, none, .bipush 11, 2, 0, 11, 0), (83, none, .iload 4, 2, 0, 0, 0), (85, none, .imul, 1, 0, 0, 0), (86, none, .iadd, 1, 0, 0, 0), (87, none, .bipush 22, 2, 0, 22, 0), (89, none, .iload 5, 2, 0, 0, 0), (91, none, .imul, 1, 0, 0, 0), (92, none, .iadd, 1, 0, 0, 0), (93, none, .sipush 451, 3, 0, 451, 0), (96, none, .idiv, 1, 0, 0, 0), (97, none, .imul, 1, 0, 0, 0), (98, none, .isub, 1, 0, 0, 0), (99, none, .bipush 114, 2, 0, 114, 0)] := fq_of2 cd_596 ow_596 cl_596 rfl (pc := 70) (by decide +kernel)
    j_iremk (pc := 70) D rfl (by decide) fun D =>
    j_stl (pc := 71) (L' := fun y1 => [(5, (0, y1)), (0, (0, x0)), (1, (0, x1)), (2, (0, x2)), (3, (0, x3)), (4, (0, x4))]) D rfl ⟨rfl, rfl, rfl, rfl⟩ nl_596 rfl (fun _ => rfl) fun y1 ey1 D =>
    j_ild (pc := 73) D rfl rfl rfl fun D =>
    j_ild (pc := 75) D rfl rfl rfl fun D =>
    j_iadd (pc := 77) D rfl fun D =>
    j_bp (pc := 78) D rfl fun D =>
    j_ildn (pc := 80) D rfl rfl rfl fun D =>
    j_bp (pc := 81) D rfl fun D =>
    j_ild (pc := 83) D rfl rfl rfl fun D =>
    j_imul (pc := 85) D rfl fun D =>
    j_iadd (pc := 86) D rfl fun D =>
    j_bp (pc := 87) D rfl fun D =>
    j_ild (pc := 89) D rfl rfl rfl fun D =>
    j_imul (pc := 91) D rfl fun D =>
    j_iadd (pc := 92) D rfl fun D =>
    j_sp (pc := 93) D rfl fun D =>
    j_idivk (pc := 96) D rfl (by decide) fun D =>
    j_imul (pc := 97) D rfl fun D =>
    j_isub (pc := 98) D rfl fun D =>
    j_bp (pc := 99) D rfl fun D =>
    have D : fk_D 596 [(101, none, .iadd, 1, 0, 0, 0), (102, none, .istore 6, 2, 0, 0, 0)] := fq_of2 cd_596 ow_596 cl_596 rfl (pc := 101) (by decide +kernel)
    j_iadd (pc := 101) D rfl fun D =>
    j_stl (pc := 102) (L' := fun y2 => [(6, (0, y2)), (5, (0, y1)), (0, (0, x0)), (1, (0, x1)), (2, (0, x2)), (3, (0, x3)), (4, (0, x4))]) D rfl ⟨rfl, rfl, rfl, rfl⟩ nl_596 rfl (fun _ => rfl) fun y2 ey2 D =>
    fk_jump cut_596_104 rfl rfl
theorem e_596_104 (d : Nat) (x0 x6 : Int) {h : fi_H} (H : Shp h) : c_596_104 d x0 x6 h =
  ca_ (fj_run d 518 h [(0, x0), (0, iq_ x6 31), (0, wI ((ir_ x6 31) + 1))]) 0
    (fun v2 h1 =>
    some (.inl (some (0, v2)), h1))
    (fun q3 h1 => tx_ q3 h1) := by
  unfold c_596_104
  exact
    have D : fk_D 596 [(104, some [0, 6], .iload_n 0, 1, 0, 0, 0), (105, none, .iload 6, 2, 0, 0, 0), (107, none, .bipush 31, 2, 0, 31, 0), (109, none, .idiv, 1, 0, 0, 0), (110, none, .iload 6, 2, 0, 0, 0), (112, none, .bipush 31, 2, 0, 31, 0), (114, none, .irem, 1, 0, 0, 0), (115, none, .iconst 1, 1, 0, 1, 0), (116, none, .iadd, 1, 0, 0, 0), (117, none, .invokestatic 449, 3, 3, 518, 1), (120, none, .ireturn, 1, 0, 0, 0)] := fq_of2 cd_596 ow_596 cl_596 rfl (pc := 104) (by decide +kernel)
    j_ildn (pc := 104) D rfl rfl rfl fun D =>
    j_ild (pc := 105) D rfl rfl rfl fun D =>
    j_bp (pc := 107) D rfl fun D =>
    j_idivk (pc := 109) D rfl (by decide) fun D =>
    j_ild (pc := 110) D rfl rfl rfl fun D =>
    j_bp (pc := 112) D rfl fun D =>
    j_iremk (pc := 114) D rfl (by decide) fun D =>
    j_ic (pc := 115) D rfl fun D =>
    j_iadd (pc := 116) D rfl fun D =>
    j_is (pc := 117) (m := 518) (a := [(0, x0), (0, iq_ x6 31), (0, wI ((ir_ x6 31) + 1))]) (rest := []) D rfl rfl rfl rfl (fun v2 h1 e1 D =>
      have T := fj_run_ok _ _ _ _ _ _ H.1 e1
      have H := shp_st H T
      j_iret D rt_596) (fun q3 h1 e1 =>
      j_tx (hx_596 _))
theorem m_596 (d : Nat) (x0 : Int) {h : fi_H} (H : Shp h) : fj_run (d + 1) 596 h [(0, x0)] =
  lt_ (ir_ (wI ((wI ((wI ((wI ((wI (19 * (ir_ x0 19))) + (iq_ x0 100))) - (iq_ (iq_ x0 100) 4))) - (iq_ (wI ((wI ((iq_ x0 100) - (iq_ (wI ((iq_ x0 100) + 8)) 25))) + 1)) 3))) + 15)) 30) fun y1 =>
  c_596_47 d x0 (ir_ x0 19) (iq_ x0 100) (ir_ x0 100) y1 h := by
  rw [fj_run_eq d (by decide) h [(0, x0)] (Nat.le_of_ble_eq_true (by rw [nl_596]; rfl))]
  show gG (fj_run d) 596 0 [(0, (0, x0))] [] h = _
  exact
    have D : fk_D 596 [(0, none, .iload_n 0, 1, 0, 0, 0), (1, none, .bipush 19, 2, 0, 19, 0), (3, none, .irem, 1, 0, 0, 0), (4, none, .istore_n 1, 1, 0, 0, 0), (5, none, .iload_n 0, 1, 0, 0, 0), (6, none, .bipush 100, 2, 0, 100, 0), (8, none, .idiv, 1, 0, 0, 0), (9, none, .istore_n 2, 1, 0, 0, 0), (10, none, .iload_n 0, 1, 0, 0, 0), (11, none, .bipush 100, 2, 0, 100, 0), (13, none, .irem, 1, 0, 0, 0), (14, none, .istore_n 3, 1, 0, 0, 0), (15, none, .bipush 19, 2, 0, 19, 0), (17, none, .iload_n 1, 1, 0, 0, 0), (18, none, .imul, 1, 0, 0, 0), (19, none, .iload_n 2, 1, 0, 0, 0), (20, none, .iadd, 1, 0, 0, 0), (21, none, .iload_n 2, 1, 0, 0, 0), (22, none, .iconst 4, 1, 0, 4, 0), (23, none, .idiv, 1, 0, 0, 0)] := fq_of2 cd_596 ow_596 cl_596 rfl (pc := 0) (by decide +kernel)
    j_ildn (pc := 0) D rfl rfl rfl fun D =>
    j_bp (pc := 1) D rfl fun D =>
    j_iremk (pc := 3) D rfl (by decide) fun D =>
    j_istn (pc := 4) (L' := [(1, (0, ir_ x0 19)), (0, (0, x0))]) D rfl nl_596 rfl rfl fun D =>
    j_ildn (pc := 5) D rfl rfl rfl fun D =>
    j_bp (pc := 6) D rfl fun D =>
    j_idivk (pc := 8) D rfl (by decide) fun D =>
    j_istn (pc := 9) (L' := [(2, (0, iq_ x0 100)), (1, (0, ir_ x0 19)), (0, (0, x0))]) D rfl nl_596 rfl rfl fun D =>
    j_ildn (pc := 10) D rfl rfl rfl fun D =>
    j_bp (pc := 11) D rfl fun D =>
    j_iremk (pc := 13) D rfl (by decide) fun D =>
    j_istn (pc := 14) (L' := [(3, (0, ir_ x0 100)), (2, (0, iq_ x0 100)), (1, (0, ir_ x0 19)), (0, (0, x0))]) D rfl nl_596 rfl rfl fun D =>
    j_bp (pc := 15) D rfl fun D =>
    j_ildn (pc := 17) D rfl rfl rfl fun D =>
    j_imul (pc := 18) D rfl fun D =>
    j_ildn (pc := 19) D rfl rfl rfl fun D =>
    j_iadd (pc := 20) D rfl fun D =>
    j_ildn (pc := 21) D rfl rfl rfl fun D =>
    j_ic (pc := 22) D rfl fun D =>
    j_idivk (pc := 23) D rfl (by decide) fun D =>
    have D : fk_D 596 [(24, none, .isub, 1, 0, 0, 0), (25, none, .iload_n 2, 1, 0, 0, 0), (26, none, .iload_n 2, 1, 0, 0, 0), (27, none, .bipush 8, 2, 0, 8, 0), (29, none, .iadd, 1, 0, 0, 0), (30, none, .bipush 25, 2, 0, 25, 0), (32, none, .idiv, 1, 0, 0, 0), (33, none, .isub, 1, 0, 0, 0), (34, none, .iconst 1, 1, 0, 1, 0), (35, none, .iadd, 1, 0, 0, 0), (36, none, .iconst 3, 1, 0, 3, 0), (37, none, .idiv, 1, 0, 0, 0), (38, none, .isub, 1, 0, 0, 0), (39, none, .bipush 15, 2, 0, 15, 0), (41, none, .iadd, 1, 0, 0, 0), (42, none, .bipush 30, 2, 0, 30, 0), (44, none, .irem, 1, 0, 0, 0), (45, none, .istore 4, 2, 0, 0, 0)] := fq_of2 cd_596 ow_596 cl_596 rfl (pc := 24) (by decide +kernel)
    j_isub (pc := 24) D rfl fun D =>
    j_ildn (pc := 25) D rfl rfl rfl fun D =>
    j_ildn (pc := 26) D rfl rfl rfl fun D =>
    j_bp (pc := 27) D rfl fun D =>
    j_iadd (pc := 29) D rfl fun D =>
    j_bp (pc := 30) D rfl fun D =>
    j_idivk (pc := 32) D rfl (by decide) fun D =>
    j_isub (pc := 33) D rfl fun D =>
    j_ic (pc := 34) D rfl fun D =>
    j_iadd (pc := 35) D rfl fun D =>
    j_ic (pc := 36) D rfl fun D =>
    j_idivk (pc := 37) D rfl (by decide) fun D =>
    j_isub (pc := 38) D rfl fun D =>
    j_bp (pc := 39) D rfl fun D =>
    j_iadd (pc := 41) D rfl fun D =>
    j_bp (pc := 42) D rfl fun D =>
    j_iremk (pc := 44) D rfl (by decide) fun D =>
    j_stl (pc := 45) (L' := fun y1 => [(4, (0, y1)), (3, (0, ir_ x0 100)), (2, (0, iq_ x0 100)), (1, (0, ir_ x0 19)), (0, (0, x0))]) D rfl ⟨rfl, rfl, rfl, rfl⟩ nl_596 rfl (fun _ => rfl) fun y1 ey1 D =>
    fk_jump cut_596_47 rfl rfl
/-! 597 StatuteHouseModel.dueOf(I)I -/
theorem cd_597 : fi_code 597 = prog_69_method_15_code := rfl
theorem hx_597 : ∀ pc, fi_hat 597 pc = none := fun pc => by unfold fi_hat; rw [show fi_hh 597 = [] from rfl]; rfl
theorem rt_597 : fi_ret 597 = some .int := rfl
theorem nl_597 : fi_nl 597 = 3 := rfl
theorem ow_597 : fi_ow 597 = 29 := rfl
theorem cl_597 : fj_cutT.getD 597 [] = [(2, [0, 2])] := rfl
theorem cut_597_2 : fj_cut 597 2 = some [0, 2] := by decide +kernel
noncomputable def c_597_2 (d : Nat) (x2 : Int) (h : fi_H) : fk_R := gG (fj_run d) 597 2 [(0, (4, 602)), (2, (0, x2))] [] h
theorem e_597_2 (d : Nat) (x2 : Int) {h : fi_H} (H : Shp h) : c_597_2 d x2 h =
  if 65535 < x2 then
    some (.inl (some (0, (-1))), h)
  else
    ca_ (fj_run d 595 h [(4, 602), (0, x2)]) 0
      (fun v2 h1 =>
      if v2 = 0 then
        c_597_2 d (wI (x2 + 1)) h1
      else
        some (.inl (some (0, x2)), h1))
      (fun q3 h1 => tx_ q3 h1) := by
  unfold c_597_2
  exact
    have D : fk_D 597 [(2, some [0, 2], .iload_n 2, 1, 0, 0, 0), (3, none, .ldc_w 469, 3, 0, 65535, 0), (6, none, .if_icmp .gt 19, 3, 25, 0, 0), (9, none, .aload_n 0, 1, 0, 0, 0), (10, none, .iload_n 2, 1, 0, 0, 0), (11, none, .invokevirtual 470, 3, 1, 338, 1), (14, none, .ifCond .eq 5, 3, 19, 0, 0), (17, none, .iload_n 2, 1, 0, 0, 0), (18, none, .ireturn, 1, 0, 0, 0)] := fq_of2 cd_597 ow_597 cl_597 rfl (pc := 2) (by decide +kernel)
    j_ildn (pc := 2) D rfl rfl rfl fun D =>
    j_ldcw (pc := 3) D rfl fun D =>
    j_igt (pc := 6) D rfl (fun q =>
      have D : fk_D 597 [(25, none, .iconst (-1), 1, 0, (-1), 0), (26, none, .ireturn, 1, 0, 0, 0)] := fq_of2 cd_597 ow_597 cl_597 rfl (pc := 25) (by decide +kernel)
      j_ic (pc := 25) D rfl fun D =>
      j_iret D rt_597) (fun q D =>
      j_aldn (pc := 9) D rfl rfl rfl fun D =>
      j_ildn (pc := 10) D rfl rfl rfl fun D =>
      j_iv (pc := 11) (m := 595) (dd := 338) (a := [(0, x2)]) (rest := []) D rfl rfl rfl rfl rfl (by decide) (s0_602 H) (by decide +kernel) (fun v2 h1 e1 D =>
        have T := fj_run_ok _ _ _ _ _ _ H.1 e1
        have H := shp_st H T
        j_ifeq (pc := 14) D rfl (fun q =>
          have D : fk_D 597 [(19, none, .iinc 2 1, 3, 0, 1, 0), (22, none, .goto (-20), 3, 2, 0, 0)] := fq_of2 cd_597 ow_597 cl_597 rfl (pc := 19) (by decide +kernel)
          j_inc (pc := 19) (L' := [(2, (0, wI (x2 + 1))), (0, (4, 602))]) D rfl rfl rfl (by decide +kernel) rfl fun D =>
          j_goto (pc := 22) D rfl <|
          fk_jump cut_597_2 rfl rfl) (fun q D =>
          j_ildn (pc := 17) D rfl rfl rfl fun D =>
          j_iret D rt_597)) (fun q3 h1 e1 =>
        j_tx (hx_597 _)))
theorem m_597 (d : Nat) (x1 : Int) {h : fi_H} (H : Shp h) : fj_run (d + 1) 597 h [(4, 602), (0, x1)] =
  c_597_2 d x1 h := by
  rw [fj_run_eq d (by decide) h [(4, 602), (0, x1)] (Nat.le_of_ble_eq_true (by rw [nl_597]; rfl))]
  show gG (fj_run d) 597 0 [(0, (4, 602)), (1, (0, x1))] [] h = _
  exact
    have D : fk_D 597 [(0, none, .iload_n 1, 1, 0, 0, 0), (1, none, .istore_n 2, 1, 0, 0, 0)] := fq_of2 cd_597 ow_597 cl_597 rfl (pc := 0) (by decide +kernel)
    j_ildn (pc := 0) D rfl rfl rfl fun D =>
    j_istn (pc := 1) (L' := [(2, (0, x1)), (0, (4, 602)), (1, (0, x1))]) D rfl nl_597 rfl rfl fun D =>
    fk_jump cut_597_2 rfl rfl
/-! 598 StatuteHouseModel.size(J)J -/
theorem cd_598 : fi_code 598 = prog_69_method_111_code := rfl
theorem hx_598 : ∀ pc, fi_hat 598 pc = none := fun pc => by unfold fi_hat; rw [show fi_hh 598 = [] from rfl]; rfl
theorem rt_598 : fi_ret 598 = some .long := rfl
theorem nl_598 : fi_nl 598 = 2 := rfl
theorem ow_598 : fi_ow 598 = 29 := rfl
theorem cl_598 : fj_cutT.getD 598 [] = [] := rfl
theorem m_598 (d : Nat) (x0 : Int) {h : fi_H} (H : Shp h) : fj_run (d + 1) 598 h [(1, x0)] =
  if lc_ x0 0 < 0 then
    some (.inl (some (1, wJ (-x0))), h)
  else
    some (.inl (some (1, x0)), h) := by
  rw [fj_run_eq d (by decide) h [(1, x0)] (Nat.le_of_ble_eq_true (by rw [nl_598]; rfl))]
  show gG (fj_run d) 598 0 [(0, (1, x0))] [] h = _
  exact
    have D : fk_D 598 [(0, none, .lload_n 0, 1, 0, 0, 0), (1, none, .lconst 0, 1, 0, 0, 0), (2, none, .lcmp, 1, 0, 0, 0), (3, none, .ifCond .ge 8, 3, 11, 0, 0), (6, none, .lload_n 0, 1, 0, 0, 0), (7, none, .lneg, 1, 0, 0, 0), (8, none, .goto 4, 3, 12, 0, 0)] := fq_of2 cd_598 ow_598 cl_598 rfl (pc := 0) (by decide +kernel)
    j_lldn (pc := 0) D rfl rfl rfl fun D =>
    j_c0 (pc := 1) (v := (1, 0)) D rfl rfl (by decide +kernel) fun D =>
    j_lcmp (pc := 2) D rfl fun D =>
    j_ifge (pc := 3) D rfl (fun q D =>
      j_lldn (pc := 6) D rfl rfl rfl fun D =>
      j_lneg (pc := 7) D rfl fun D =>
      j_goto (pc := 8) D rfl <|
      have D : fk_D 598 [(12, none, .lreturn, 1, 0, 0, 0)] := fq_of2 cd_598 ow_598 cl_598 rfl (pc := 12) (by decide +kernel)
      j_lret D rt_598) (fun q =>
      have D : fk_D 598 [(11, none, .lload_n 0, 1, 0, 0, 0), (12, none, .lreturn, 1, 0, 0, 0)] := fq_of2 cd_598 ow_598 cl_598 rfl (pc := 11) (by decide +kernel)
      j_lldn (pc := 11) D rfl rfl rfl fun D =>
      j_lret D rt_598)
/-! 599 StatuteHouseModel.whole(D)V -/
theorem cd_599 : fi_code 599 = prog_69_method_125_code := rfl
theorem hx_599 : ∀ pc, fi_hat 599 pc = none := fun pc => by unfold fi_hat; rw [show fi_hh 599 = [] from rfl]; rfl
theorem rt_599 : fi_ret 599 = none := rfl
theorem nl_599 : fi_nl 599 = 3 := rfl
theorem ow_599 : fi_ow 599 = 29 := rfl
theorem cl_599 : fj_cutT.getD 599 [] = [(16, [0, 1]), (22, [0, 1])] := rfl
theorem cut_599_16 : fj_cut 599 16 = some [0, 1] := by decide +kernel
noncomputable def c_599_16 (d : Nat) (x1 : Int) (h : fi_H) : fk_R := gG (fj_run d) 599 16 [(0, (4, 602)), (1, (3, x1))] [] h
theorem cut_599_22 : fj_cut 599 22 = some [0, 1] := by decide +kernel
noncomputable def c_599_22 (d : Nat) (x1 : Int) (h : fi_H) : fk_R := gG (fj_run d) 599 22 [(0, (4, 602)), (1, (3, x1))] [] h
theorem e_599_16 (d : Nat) (x1 : Int) {h : fi_H} (H : Shp h) : c_599_16 d x1 h =
  cv_ (fj_run d 577 h [(4, 602), (0, 8)])
    (fun h1 =>
    c_599_22 d x1 h1)
    (fun q3 h1 => tx_ q3 h1) := by
  unfold c_599_16
  exact
    have D : fk_D 599 [(16, some [0, 1], .aload_n 0, 1, 0, 0, 0), (17, none, .bipush 8, 2, 0, 8, 0), (19, none, .invokevirtual 854, 3, 1, 403, 0)] := fq_of2 cd_599 ow_599 cl_599 rfl (pc := 16) (by decide +kernel)
    j_aldn (pc := 16) D rfl rfl rfl fun D =>
    j_bp (pc := 17) D rfl fun D =>
    j_ivv (pc := 19) (m := 577) (dd := 403) (a := [(0, 8)]) (rest := []) D rfl rfl rfl rfl rfl (by decide) (s0_602 H) (by decide +kernel) (fun h1 e1 D =>
      have T := fj_run_ok _ _ _ _ _ _ H.1 e1
      have H := shp_st H T
      fk_jump cut_599_22 rfl rfl) (fun q3 h1 e1 =>
      j_tx (hx_599 _))
theorem e_599_22 (d : Nat) (x1 : Int) {h : fi_H} (H : Shp h) : c_599_22 d x1 h =
  cv_ (fj_run d 587 h [(4, 602), (1, d2l_ x1)])
    (fun h1 =>
    some (.inl none, h1))
    (fun q3 h1 => tx_ q3 h1) := by
  unfold c_599_22
  exact
    have D : fk_D 599 [(22, some [0, 1], .aload_n 0, 1, 0, 0, 0), (23, none, .dload_n 1, 1, 0, 0, 0), (24, none, .d2l, 1, 0, 0, 0), (25, none, .invokevirtual 994, 3, 1, 425, 0), (28, none, .return_, 1, 0, 0, 0)] := fq_of2 cd_599 ow_599 cl_599 rfl (pc := 22) (by decide +kernel)
    j_aldn (pc := 22) D rfl rfl rfl fun D =>
    j_dldn (pc := 23) D rfl rfl rfl fun D =>
    j_d2l (pc := 24) D rfl fun D =>
    j_ivv (pc := 25) (m := 587) (dd := 425) (a := [(1, d2l_ x1)]) (rest := []) D rfl rfl rfl rfl rfl (by decide) (s0_602 H) (by decide +kernel) (fun h1 e1 D =>
      have T := fj_run_ok _ _ _ _ _ _ H.1 e1
      have H := shp_st H T
      j_vret D rt_599) (fun q3 h1 e1 =>
      j_tx (hx_599 _))
theorem m_599 (d : Nat) (x1 : Int) {h : fi_H} (H : Shp h) : fj_run (d + 1) 599 h [(4, 602), (3, x1)] =
  if dl_ x1 4746794007248502784 < 0 then
    if 0 < dg_ x1 13970166044105375744 then
      c_599_22 d x1 h
    else
      c_599_16 d x1 h
  else
    c_599_16 d x1 h := by
  rw [fj_run_eq d (by decide) h [(4, 602), (3, x1)] (Nat.le_of_ble_eq_true (by rw [nl_599]; rfl))]
  show gG (fj_run d) 599 0 [(0, (4, 602)), (1, (3, x1))] [] h = _
  exact
    have D : fk_D 599 [(0, none, .dload_n 1, 1, 0, 0, 0), (1, none, .ldc2_w 1063, 3, 3, 4746794007248502784, 0), (4, none, .dcmp .l, 1, 0, 0, 0), (5, none, .ifCond .ge 11, 3, 16, 0, 0), (8, none, .dload_n 1, 1, 0, 0, 0), (9, none, .ldc2_w 1065, 3, 3, 13970166044105375744, 0), (12, none, .dcmp .g, 1, 0, 0, 0), (13, none, .ifCond .gt 9, 3, 22, 0, 0)] := fq_of2 cd_599 ow_599 cl_599 rfl (pc := 0) (by decide +kernel)
    j_dldn (pc := 0) D rfl rfl rfl fun D =>
    j_ldc2 (pc := 1) D rfl fun D =>
    j_dcmpl (pc := 4) D rfl fun D =>
    j_ifge (pc := 5) D rfl (fun q D =>
      j_dldn (pc := 8) D rfl rfl rfl fun D =>
      j_ldc2 (pc := 9) D rfl fun D =>
      j_dcmpg (pc := 12) D rfl fun D =>
      j_ifgt (pc := 13) D rfl (fun q =>
        fk_jump cut_599_22 rfl rfl) (fun q D =>
        fk_jump cut_599_16 rfl rfl)) (fun q =>
      fk_jump cut_599_16 rfl rfl)
/-! 600 StatuteHouseModel.fullMonths(II)I -/
theorem cd_600 : fi_code 600 = prog_69_method_12_code := rfl
theorem hx_600 : ∀ pc, fi_hat 600 pc = none := fun pc => by unfold fi_hat; rw [show fi_hh 600 = [] from rfl]; rfl
theorem rt_600 : fi_ret 600 = some .int := rfl
theorem nl_600 : fi_nl 600 = 5 := rfl
theorem ow_600 : fi_ow 600 = 29 := rfl
theorem cl_600 : fj_cutT.getD 600 [] = [] := rfl
theorem m_600 (d : Nat) (x1 x2 : Int) {h : fi_H} (H : Shp h) : fj_run (d + 1) 600 h [(4, 602), (0, x1), (0, x2)] =
  if x2 < x1 then
    ca_ (fj_run d 600 h [(4, 602), (0, x2), (0, x1)]) 0
      (fun v2 h1 =>
      some (.inl (some (0, wI (-v2))), h1))
      (fun q3 h1 => tx_ q3 h1)
  else
    cv_ (fj_run d 593 h [(4, 602), (0, x1)])
      (fun h4 =>
      lt_ (wI ((wI (12 * (h4 384 602 0))) + (h4 385 602 0))) fun y7 =>
      cv_ (fj_run d 593 h4 [(4, 602), (0, x2)])
        (fun h8 =>
        lt_ (wI ((wI ((wI (12 * (h8 384 602 0))) + (h8 385 602 0))) - y7)) fun y11 =>
        ca_ (fj_run d 601 h8 [(4, 602), (0, x1), (0, y11)]) 0
          (fun v13 h12 =>
          if x2 < v13 then
            some (.inl (some (0, wI (y11 - 1))), h12)
          else
            some (.inl (some (0, y11)), h12))
          (fun q14 h12 => tx_ q14 h12))
        (fun q10 h8 => tx_ q10 h8))
      (fun q6 h4 => tx_ q6 h4) := by
  rw [fj_run_eq d (by decide) h [(4, 602), (0, x1), (0, x2)] (Nat.le_of_ble_eq_true (by rw [nl_600]; rfl))]
  show gG (fj_run d) 600 0 [(0, (4, 602)), (1, (0, x1)), (2, (0, x2))] [] h = _
  exact
    have D : fk_D 600 [(0, none, .iload_n 1, 1, 0, 0, 0), (1, none, .iload_n 2, 1, 0, 0, 0), (2, none, .if_icmp .le 11, 3, 13, 0, 0), (5, none, .aload_n 0, 1, 0, 0, 0), (6, none, .iload_n 2, 1, 0, 0, 0), (7, none, .iload_n 1, 1, 0, 0, 0), (8, none, .invokevirtual 460, 3, 2, 337, 1), (11, none, .ineg, 1, 0, 0, 0), (12, none, .ireturn, 1, 0, 0, 0)] := fq_of2 cd_600 ow_600 cl_600 rfl (pc := 0) (by decide +kernel)
    j_ildn (pc := 0) D rfl rfl rfl fun D =>
    j_ildn (pc := 1) D rfl rfl rfl fun D =>
    j_ile (pc := 2) D rfl (fun q D =>
      j_aldn (pc := 5) D rfl rfl rfl fun D =>
      j_ildn (pc := 6) D rfl rfl rfl fun D =>
      j_ildn (pc := 7) D rfl rfl rfl fun D =>
      j_iv (pc := 8) (m := 600) (dd := 337) (a := [(0, x2), (0, x1)]) (rest := []) D rfl rfl rfl rfl rfl (by decide) (s0_602 H) (by decide +kernel) (fun v2 h1 e1 D =>
        have T := fj_run_ok _ _ _ _ _ _ H.1 e1
        have H := shp_st H T
        j_ineg (pc := 11) D rfl fun D =>
        j_iret D rt_600) (fun q3 h1 e1 =>
        j_tx (hx_600 _))) (fun q =>
      have D : fk_D 600 [(13, none, .aload_n 0, 1, 0, 0, 0), (14, none, .iload_n 1, 1, 0, 0, 0), (15, none, .invokevirtual 438, 3, 1, 335, 0), (18, none, .bipush 12, 2, 0, 12, 0), (20, none, .aload_n 0, 1, 0, 0, 0), (21, none, .getfield 423, 3, 384, 129, 10), (24, none, .imul, 1, 0, 0, 0), (25, none, .aload_n 0, 1, 0, 0, 0), (26, none, .getfield 426, 3, 385, 129, 10), (29, none, .iadd, 1, 0, 0, 0), (30, none, .istore_n 3, 1, 0, 0, 0), (31, none, .aload_n 0, 1, 0, 0, 0), (32, none, .iload_n 2, 1, 0, 0, 0), (33, none, .invokevirtual 438, 3, 1, 335, 0), (36, none, .bipush 12, 2, 0, 12, 0), (38, none, .aload_n 0, 1, 0, 0, 0), (39, none, .getfield 423, 3, 384, 129, 10), (42, none, .imul, 1, 0, 0, 0), (43, none, .aload_n 0, 1, 0, 0, 0), (44, none, .getfield 426, 3, 385, 129, 10)] := fq_of2 cd_600 ow_600 cl_600 rfl (pc := 13) (by decide +kernel)
      j_aldn (pc := 13) D rfl rfl rfl fun D =>
      j_ildn (pc := 14) D rfl rfl rfl fun D =>
      j_ivv (pc := 15) (m := 593) (dd := 335) (a := [(0, x1)]) (rest := []) D rfl rfl rfl rfl rfl (by decide) (s0_602 H) (by decide +kernel) (fun h4 e1 D =>
        have T := fj_run_ok _ _ _ _ _ _ H.1 e1
        have H := shp_st H T
        j_bp (pc := 18) D rfl fun D =>
        j_aldn (pc := 20) D rfl rfl rfl fun D =>
        j_gf (pc := 21) (a := 602) D rfl rfl (by decide) rfl (s0_602 H) rfl fun D =>
        j_imul (pc := 24) D rfl fun D =>
        j_aldn (pc := 25) D rfl rfl rfl fun D =>
        j_gf (pc := 26) (a := 602) D rfl rfl (by decide) rfl (s0_602 H) rfl fun D =>
        j_iadd (pc := 29) D rfl fun D =>
        j_stl (pc := 30) (L' := fun y7 => [(3, (0, y7)), (0, (4, 602)), (1, (0, x1)), (2, (0, x2))]) D rfl ⟨rfl, rfl, rfl, rfl⟩ nl_600 rfl (fun _ => rfl) fun y7 ey7 D =>
        j_aldn (pc := 31) D rfl rfl rfl fun D =>
        j_ildn (pc := 32) D rfl rfl rfl fun D =>
        j_ivv (pc := 33) (m := 593) (dd := 335) (a := [(0, x2)]) (rest := []) D rfl rfl rfl rfl rfl (by decide) (s0_602 H) (by decide +kernel) (fun h8 e1 D =>
          have T := fj_run_ok _ _ _ _ _ _ H.1 e1
          have H := shp_st H T
          j_bp (pc := 36) D rfl fun D =>
          j_aldn (pc := 38) D rfl rfl rfl fun D =>
          j_gf (pc := 39) (a := 602) D rfl rfl (by decide) rfl (s0_602 H) rfl fun D =>
          j_imul (pc := 42) D rfl fun D =>
          j_aldn (pc := 43) D rfl rfl rfl fun D =>
          j_gf (pc := 44) (a := 602) D rfl rfl (by decide) rfl (s0_602 H) rfl fun D =>
          have D : fk_D 600 [(47, none, .iadd, 1, 0, 0, 0), (48, none, .iload_n 3, 1, 0, 0, 0), (49, none, .isub, 1, 0, 0, 0), (50, none, .istore 4, 2, 0, 0, 0), (52, none, .aload_n 0, 1, 0, 0, 0), (53, none, .iload_n 1, 1, 0, 0, 0), (54, none, .iload 4, 2, 0, 0, 0), (56, none, .invokevirtual 453, 3, 2, 336, 1), (59, none, .iload_n 2, 1, 0, 0, 0), (60, none, .if_icmp .le 10, 3, 70, 0, 0), (63, none, .iload 4, 2, 0, 0, 0), (65, none, .iconst 1, 1, 0, 1, 0), (66, none, .isub, 1, 0, 0, 0), (67, none, .goto 5, 3, 72, 0, 0)] := fq_of2 cd_600 ow_600 cl_600 rfl (pc := 47) (by decide +kernel)
          j_iadd (pc := 47) D rfl fun D =>
          j_ildn (pc := 48) D rfl rfl rfl fun D =>
          j_isub (pc := 49) D rfl fun D =>
          j_stl (pc := 50) (L' := fun y11 => [(4, (0, y11)), (3, (0, y7)), (0, (4, 602)), (1, (0, x1)), (2, (0, x2))]) D rfl ⟨rfl, rfl, rfl, rfl⟩ nl_600 rfl (fun _ => rfl) fun y11 ey11 D =>
          j_aldn (pc := 52) D rfl rfl rfl fun D =>
          j_ildn (pc := 53) D rfl rfl rfl fun D =>
          j_ild (pc := 54) D rfl rfl rfl fun D =>
          j_iv (pc := 56) (m := 601) (dd := 336) (a := [(0, x1), (0, y11)]) (rest := []) D rfl rfl rfl rfl rfl (by decide) (s0_602 H) (by decide +kernel) (fun v13 h12 e1 D =>
            have T := fj_run_ok _ _ _ _ _ _ H.1 e1
            have H := shp_st H T
            j_ildn (pc := 59) D rfl rfl rfl fun D =>
            j_ile (pc := 60) D rfl (fun q D =>
              j_ild (pc := 63) D rfl rfl rfl fun D =>
              j_ic (pc := 65) D rfl fun D =>
              j_isub (pc := 66) D rfl fun D =>
              j_goto (pc := 67) D rfl <|
              have D : fk_D 600 [(72, none, .ireturn, 1, 0, 0, 0)] := fq_of2 cd_600 ow_600 cl_600 rfl (pc := 72) (by decide +kernel)
              j_iret D rt_600) (fun q =>
              have D : fk_D 600 [(70, none, .iload 4, 2, 0, 0, 0), (72, none, .ireturn, 1, 0, 0, 0)] := fq_of2 cd_600 ow_600 cl_600 rfl (pc := 70) (by decide +kernel)
              j_ild (pc := 70) D rfl rfl rfl fun D =>
              j_iret D rt_600)) (fun q14 h12 e1 =>
            j_tx (hx_600 _))) (fun q10 h8 e1 =>
          j_tx (hx_600 _))) (fun q6 h4 e1 =>
        j_tx (hx_600 _)))
/-! 601 StatuteHouseModel.moved(II)I -/
theorem cd_601 : fi_code 601 = prog_69_method_10_code := rfl
theorem hx_601 : ∀ pc, fi_hat 601 pc = none := fun pc => by unfold fi_hat; rw [show fi_hh 601 = [] from rfl]; rfl
theorem rt_601 : fi_ret 601 = some .int := rfl
theorem nl_601 : fi_nl 601 = 7 := rfl
theorem ow_601 : fi_ow 601 = 29 := rfl
theorem cl_601 : fj_cutT.getD 601 [] = [(83, [4, 5])] := rfl
theorem cut_601_83 : fj_cut 601 83 = some [4, 5] := by decide +kernel
noncomputable def c_601_83 (d : Nat) (x4 x5 s0 : Int) (h : fi_H) : fk_R := gG (fj_run d) 601 83 [(4, (0, x4)), (5, (0, x5))] [(0, s0)] h
theorem e_601_83 (d : Nat) (x4 x5 s0 : Int) {h : fi_H} (H : Shp h) : c_601_83 d x4 x5 s0 h =
  ca_ (fj_run d 518 h [(0, x4), (0, x5), (0, s0)]) 0
    (fun v2 h1 =>
    some (.inl (some (0, v2)), h1))
    (fun q3 h1 => tx_ q3 h1) := by
  unfold c_601_83
  exact
    have D : fk_D 601 [(83, some [4, 5], .istore 6, 2, 0, 0, 0), (85, none, .iload 4, 2, 0, 0, 0), (87, none, .iload 5, 2, 0, 0, 0), (89, none, .iload 6, 2, 0, 0, 0), (91, none, .invokestatic 449, 3, 3, 518, 1), (94, none, .ireturn, 1, 0, 0, 0)] := fq_of2 cd_601 ow_601 cl_601 rfl (pc := 83) (by decide +kernel)
    j_ist (pc := 83) (L' := [(6, (0, s0)), (4, (0, x4)), (5, (0, x5))]) D rfl nl_601 rfl rfl fun D =>
    j_ild (pc := 85) D rfl rfl rfl fun D =>
    j_ild (pc := 87) D rfl rfl rfl fun D =>
    j_ild (pc := 89) D rfl rfl rfl fun D =>
    j_is (pc := 91) (m := 518) (a := [(0, x4), (0, x5), (0, s0)]) (rest := []) D rfl rfl rfl rfl (fun v2 h1 e1 D =>
      have T := fj_run_ok _ _ _ _ _ _ H.1 e1
      have H := shp_st H T
      j_iret D rt_601) (fun q3 h1 e1 =>
      j_tx (hx_601 _))
theorem m_601 (d : Nat) (x1 x2 : Int) {h : fi_H} (H : Shp h) : fj_run (d + 1) 601 h [(4, 602), (0, x1), (0, x2)] =
  cv_ (fj_run d 593 h [(4, 602), (0, x1)])
    (fun h1 =>
    lt_ (wI ((wI ((wI ((wI (12 * (h1 384 602 0))) + (h1 385 602 0))) - 1)) + x2)) fun y4 =>
    ca_ (fj_run d 508 h1 [(1, wI (iq_ y4 12)), (1, 1800), (1, 2200)]) 0
      (fun v6 h5 =>
      if v6 = 0 then
        some (.inl (some (0, (-2147483648))), h5)
      else
        ca_ (fj_run d 516 h5 [(0, iq_ y4 12), (0, wI ((ir_ y4 12) + 1))]) 0
          (fun v9 h8 =>
          if h5 386 602 0 < v9 then
            c_601_83 d (iq_ y4 12) (wI ((ir_ y4 12) + 1)) (h8 386 602 0) h8
          else
            ca_ (fj_run d 516 h8 [(0, iq_ y4 12), (0, wI ((ir_ y4 12) + 1))]) 0
              (fun v12 h11 =>
              c_601_83 d (iq_ y4 12) (wI ((ir_ y4 12) + 1)) v12 h11)
              (fun q13 h11 => tx_ q13 h11))
          (fun q10 h8 => tx_ q10 h8))
      (fun q7 h5 => tx_ q7 h5))
    (fun q3 h1 => tx_ q3 h1) := by
  rw [fj_run_eq d (by decide) h [(4, 602), (0, x1), (0, x2)] (Nat.le_of_ble_eq_true (by rw [nl_601]; rfl))]
  show gG (fj_run d) 601 0 [(0, (4, 602)), (1, (0, x1)), (2, (0, x2))] [] h = _
  exact
    have D : fk_D 601 [(0, none, .aload_n 0, 1, 0, 0, 0), (1, none, .iload_n 1, 1, 0, 0, 0), (2, none, .invokevirtual 438, 3, 1, 335, 0), (5, none, .bipush 12, 2, 0, 12, 0), (7, none, .aload_n 0, 1, 0, 0, 0), (8, none, .getfield 423, 3, 384, 129, 10), (11, none, .imul, 1, 0, 0, 0), (12, none, .aload_n 0, 1, 0, 0, 0), (13, none, .getfield 426, 3, 385, 129, 10), (16, none, .iadd, 1, 0, 0, 0), (17, none, .iconst 1, 1, 0, 1, 0), (18, none, .isub, 1, 0, 0, 0), (19, none, .iload_n 2, 1, 0, 0, 0), (20, none, .iadd, 1, 0, 0, 0), (21, none, .istore_n 3, 1, 0, 0, 0), (22, none, .iload_n 3, 1, 0, 0, 0), (23, none, .bipush 12, 2, 0, 12, 0), (25, none, .idiv, 1, 0, 0, 0), (26, none, .istore 4, 2, 0, 0, 0), (28, none, .iload_n 3, 1, 0, 0, 0)] := fq_of2 cd_601 ow_601 cl_601 rfl (pc := 0) (by decide +kernel)
    j_aldn (pc := 0) D rfl rfl rfl fun D =>
    j_ildn (pc := 1) D rfl rfl rfl fun D =>
    j_ivv (pc := 2) (m := 593) (dd := 335) (a := [(0, x1)]) (rest := []) D rfl rfl rfl rfl rfl (by decide) (s0_602 H) (by decide +kernel) (fun h1 e1 D =>
      have T := fj_run_ok _ _ _ _ _ _ H.1 e1
      have H := shp_st H T
      j_bp (pc := 5) D rfl fun D =>
      j_aldn (pc := 7) D rfl rfl rfl fun D =>
      j_gf (pc := 8) (a := 602) D rfl rfl (by decide) rfl (s0_602 H) rfl fun D =>
      j_imul (pc := 11) D rfl fun D =>
      j_aldn (pc := 12) D rfl rfl rfl fun D =>
      j_gf (pc := 13) (a := 602) D rfl rfl (by decide) rfl (s0_602 H) rfl fun D =>
      j_iadd (pc := 16) D rfl fun D =>
      j_ic (pc := 17) D rfl fun D =>
      j_isub (pc := 18) D rfl fun D =>
      j_ildn (pc := 19) D rfl rfl rfl fun D =>
      j_iadd (pc := 20) D rfl fun D =>
      j_stl (pc := 21) (L' := fun y4 => [(3, (0, y4)), (0, (4, 602)), (1, (0, x1)), (2, (0, x2))]) D rfl ⟨rfl, rfl, rfl, rfl⟩ nl_601 rfl (fun _ => rfl) fun y4 ey4 D =>
      j_ildn (pc := 22) D rfl rfl rfl fun D =>
      j_bp (pc := 23) D rfl fun D =>
      j_idivk (pc := 25) D rfl (by decide) fun D =>
      j_ist (pc := 26) (L' := [(4, (0, iq_ y4 12)), (3, (0, y4)), (0, (4, 602)), (1, (0, x1)), (2, (0, x2))]) D rfl nl_601 rfl rfl fun D =>
      j_ildn (pc := 28) D rfl rfl rfl fun D =>
      have D : fk_D 601 [(29, none, .bipush 12, 2, 0, 12, 0), (31, none, .irem, 1, 0, 0, 0), (32, none, .iconst 1, 1, 0, 1, 0), (33, none, .iadd, 1, 0, 0, 0), (34, none, .istore 5, 2, 0, 0, 0), (36, none, .iload 4, 2, 0, 0, 0), (38, none, .i2l, 1, 0, 0, 0), (39, none, .ldc2_w 442, 3, 1, 1800, 0), (42, none, .ldc2_w 444, 3, 1, 2200, 0), (45, none, .invokestatic 434, 3, 3, 508, 1), (48, none, .ifCond .ne 7, 3, 55, 0, 0), (51, none, .ldc_w 448, 3, 0, (-2147483648), 0), (54, none, .ireturn, 1, 0, 0, 0)] := fq_of2 cd_601 ow_601 cl_601 rfl (pc := 29) (by decide +kernel)
      j_bp (pc := 29) D rfl fun D =>
      j_iremk (pc := 31) D rfl (by decide) fun D =>
      j_ic (pc := 32) D rfl fun D =>
      j_iadd (pc := 33) D rfl fun D =>
      j_ist (pc := 34) (L' := [(5, (0, wI ((ir_ y4 12) + 1))), (4, (0, iq_ y4 12)), (3, (0, y4)), (0, (4, 602)), (1, (0, x1)), (2, (0, x2))]) D rfl nl_601 rfl rfl fun D =>
      j_ild (pc := 36) D rfl rfl rfl fun D =>
      j_i2l (pc := 38) D rfl fun D =>
      j_ldc2 (pc := 39) D rfl fun D =>
      j_ldc2 (pc := 42) D rfl fun D =>
      j_is (pc := 45) (m := 508) (a := [(1, wI (iq_ y4 12)), (1, 1800), (1, 2200)]) (rest := []) D rfl rfl rfl rfl (fun v6 h5 e1 D =>
        have T := fj_run_ok _ _ _ _ _ _ H.1 e1
        have H := shp_st H T
        j_ifne (pc := 48) D rfl (fun q D =>
          j_ldcw (pc := 51) D rfl fun D =>
          j_iret D rt_601) (fun q =>
          have D : fk_D 601 [(55, none, .aload_n 0, 1, 0, 0, 0), (56, none, .getfield 429, 3, 386, 129, 10), (59, none, .iload 4, 2, 0, 0, 0), (61, none, .iload 5, 2, 0, 0, 0), (63, none, .invokestatic 419, 3, 2, 516, 1), (66, none, .if_icmp .ge 10, 3, 76, 0, 0), (69, none, .aload_n 0, 1, 0, 0, 0), (70, none, .getfield 429, 3, 386, 129, 10), (73, none, .goto 10, 3, 83, 0, 0)] := fq_of2 cd_601 ow_601 cl_601 rfl (pc := 55) (by decide +kernel)
          j_aldn (pc := 55) D rfl rfl rfl fun D =>
          j_gf (pc := 56) (a := 602) D rfl rfl (by decide) rfl (s0_602 H) rfl fun D =>
          j_ild (pc := 59) D rfl rfl rfl fun D =>
          j_ild (pc := 61) D rfl rfl rfl fun D =>
          j_is (pc := 63) (m := 516) (a := [(0, iq_ y4 12), (0, wI ((ir_ y4 12) + 1))]) (rest := [(0, h5 386 602 0)]) D rfl rfl rfl rfl (fun v9 h8 e1 D =>
            have T := fj_run_ok _ _ _ _ _ _ H.1 e1
            have H := shp_st H T
            j_ige (pc := 66) D rfl (fun q D =>
              j_aldn (pc := 69) D rfl rfl rfl fun D =>
              j_gf (pc := 70) (a := 602) D rfl rfl (by decide) rfl (s0_602 H) rfl fun D =>
              j_goto (pc := 73) D rfl <|
              fk_jump cut_601_83 rfl rfl) (fun q =>
              have D : fk_D 601 [(76, none, .iload 4, 2, 0, 0, 0), (78, none, .iload 5, 2, 0, 0, 0), (80, none, .invokestatic 419, 3, 2, 516, 1)] := fq_of2 cd_601 ow_601 cl_601 rfl (pc := 76) (by decide +kernel)
              j_ild (pc := 76) D rfl rfl rfl fun D =>
              j_ild (pc := 78) D rfl rfl rfl fun D =>
              j_is (pc := 80) (m := 516) (a := [(0, iq_ y4 12), (0, wI ((ir_ y4 12) + 1))]) (rest := []) D rfl rfl rfl rfl (fun v12 h11 e1 D =>
                have T := fj_run_ok _ _ _ _ _ _ H.1 e1
                have H := shp_st H T
                fk_jump cut_601_83 rfl rfl) (fun q13 h11 e1 =>
                j_tx (hx_601 _)))) (fun q10 h8 e1 =>
            j_tx (hx_601 _)))) (fun q7 h5 e1 =>
        j_tx (hx_601 _))) (fun q3 h1 e1 =>
      j_tx (hx_601 _))
