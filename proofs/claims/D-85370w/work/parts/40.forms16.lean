/-! forms of methods 466..481, printed by gen/forms.py -/
set_option maxRecDepth 100000
/-! 466 StatuteHouse.decision(II)I -/
theorem cd_466 : fi_code 466 = prog_1_method_112_code := rfl
theorem hx_466 : ∀ pc, fi_hat 466 pc = none := fun pc => by unfold fi_hat; rw [show fi_hh 466 = [] from rfl]; rfl
theorem rt_466 : fi_ret 466 = some .int := rfl
theorem nl_466 : fi_nl 466 = 4 := rfl
theorem ow_466 : fi_ow 466 = 0 := rfl
theorem cl_466 : fj_cutT.getD 466 [] = [] := rfl
theorem m_466 (d : Nat) (x1 x2 : Int) {h : fi_H} (H : Shp h) : fj_run (d + 1) 466 h [(4, 303), (0, x1), (0, x2)] =
  ca_ (fj_run d 462 h [(4, 303), (0, x1)]) 0
    (fun v2 h1 =>
    if v2 = 0 then
      some (.inl (some (0, (-1))), h1)
    else
      if 0 ≤ x1 ∧ x1 < 30 then
      if x2 = 0 then
        if h1 0 (h1 12 453 x1.toNat).toNat 0 = 104 then
        some (.inl (some (0, h1 375 (h1 12 453 x1.toNat).toNat 0)), h1)
        else none
      else if x2 = 1 then
        if h1 0 (h1 12 453 x1.toNat).toNat 0 = 104 then
        some (.inl (some (0, h1 376 (h1 12 453 x1.toNat).toNat 0)), h1)
        else none
      else if x2 = 2 then
        if h1 0 (h1 12 453 x1.toNat).toNat 0 = 104 then
        some (.inl (some (0, h1 377 (h1 12 453 x1.toNat).toNat 0)), h1)
        else none
      else if x2 = 3 then
        if h1 0 (h1 12 453 x1.toNat).toNat 0 = 104 then
        if fk_isA (h1 0 (h1 381 (h1 12 453 x1.toNat).toNat 0).toNat 0) = true then
        some (.inl (some (0, h1 1 (h1 381 (h1 12 453 x1.toNat).toNat 0).toNat 0)), h1)
        else none
        else none
      else if x2 = 4 then
        if h1 0 (h1 12 453 x1.toNat).toNat 0 = 104 then
        some (.inl (some (0, h1 380 (h1 12 453 x1.toNat).toNat 0)), h1)
        else none
      else if x2 = 5 then
        if h1 0 (h1 12 453 x1.toNat).toNat 0 = 104 then
        some (.inl (some (0, h1 378 (h1 12 453 x1.toNat).toNat 0)), h1)
        else none
      else if x2 = 6 then
        if h1 0 (h1 12 453 x1.toNat).toNat 0 = 104 then
        some (.inl (some (0, h1 379 (h1 12 453 x1.toNat).toNat 0)), h1)
        else none
      else 
        some (.inl (some (0, (-1))), h1)
      else none)
    (fun q3 h1 => tx_ q3 h1) := by
  rw [fj_run_eq d (by decide) h [(4, 303), (0, x1), (0, x2)] (Nat.le_of_ble_eq_true (by rw [nl_466]; rfl))]
  show gG (fj_run d) 466 0 [(0, (4, 303)), (1, (0, x1)), (2, (0, x2))] [] h = _
  exact
    have D : fk_D 466 [(0, none, .aload_n 0, 1, 0, 0, 0), (1, none, .iload_n 1, 1, 0, 0, 0), (2, none, .invokevirtual 1071, 3, 1, 195, 1), (5, none, .ifCond .ne 5, 3, 10, 0, 0), (8, none, .iconst (-1), 1, 0, (-1), 0), (9, none, .ireturn, 1, 0, 0, 0)] := fq_of2 cd_466 ow_466 cl_466 rfl (pc := 0) (by decide +kernel)
    j_aldn (pc := 0) D rfl rfl rfl fun D =>
    j_ildn (pc := 1) D rfl rfl rfl fun D =>
    j_iv (pc := 2) (m := 462) (dd := 195) (a := [(0, x1)]) (rest := []) D rfl rfl rfl rfl rfl (by decide) (s0_303 H) (by decide +kernel) (fun v2 h1 e1 D =>
      have T := fj_run_ok _ _ _ _ _ _ H.1 e1
      have H := shp_st H T
      j_ifne (pc := 5) D rfl (fun q D =>
        j_ic (pc := 8) D rfl fun D =>
        j_iret D rt_466) (fun q =>
        have D : fk_D 466 [(10, none, .aload_n 0, 1, 0, 0, 0), (11, none, .getfield 703, 3, 288, 100, 12), (14, none, .iload_n 1, 1, 0, 0, 0), (15, none, .aaload, 1, 0, 0, 0), (16, none, .astore_n 3, 1, 0, 0, 0), (17, none, .iload_n 2, 1, 0, 0, 0), (18, none, .tableswitch 78 0 6 #[42, 47, 52, 57, 63, 68, 73], 42, 0, 0, 0)] := fq_of3 cd_466 ow_466 cl_466 rfl (pc := 10) (by decide +kernel)
        j_aldn (pc := 10) D rfl rfl rfl fun D =>
        j_gfc (pc := 11) (a := 303) D rfl rfl (by decide) rfl (s0_303 H) rfl (sf_288_303 H) fun D =>
        j_ildn (pc := 14) D rfl rfl rfl fun D =>
        j_al (pc := 15) (a := 453) (e := 12) D rfl rfl rfl (by decide) (s0_453 H) (s1_453 H) ⟨rfl, rfl, rfl⟩ rfl gn fun qb4 D =>
        j_astn (pc := 16) (L' := [(3, (4, h1 12 453 x1.toNat)), (0, (4, 303)), (1, (0, x1)), (2, (0, x2))]) D rfl nl_466 rfl rfl fun D =>
        j_ildn (pc := 17) D rfl rfl rfl fun D =>
        have N : fk_ni (x2) [] := trivial
        j_tc (pc := 18) 0 (t := 60) D N rfl (by decide +kernel) (fun q =>
          have D : fk_D 466 [(60, none, .aload_n 3, 1, 0, 0, 0), (61, none, .getfield 1022, 3, 375, (-104), 10), (64, none, .ireturn, 1, 0, 0, 0)] := fq_of2 cd_466 ow_466 cl_466 rfl (pc := 60) (by decide +kernel)
          j_aldn (pc := 60) D rfl rfl rfl fun D =>
          j_gfo (pc := 61) H.2.1 D rfl rfl rfl rfl fun kc5 D =>
          j_iret D rt_466) (fun N =>
          j_tc 1 (t := 65) D N rfl (by decide +kernel) (fun q =>
            have D : fk_D 466 [(65, none, .aload_n 3, 1, 0, 0, 0), (66, none, .getfield 1076, 3, 376, (-104), 10), (69, none, .ireturn, 1, 0, 0, 0)] := fq_of2 cd_466 ow_466 cl_466 rfl (pc := 65) (by decide +kernel)
            j_aldn (pc := 65) D rfl rfl rfl fun D =>
            j_gfo (pc := 66) H.2.1 D rfl rfl rfl rfl fun kc6 D =>
            j_iret D rt_466) (fun N =>
            j_tc 2 (t := 70) D N rfl (by decide +kernel) (fun q =>
              have D : fk_D 466 [(70, none, .aload_n 3, 1, 0, 0, 0), (71, none, .getfield 1074, 3, 377, (-104), 10), (74, none, .ireturn, 1, 0, 0, 0)] := fq_of2 cd_466 ow_466 cl_466 rfl (pc := 70) (by decide +kernel)
              j_aldn (pc := 70) D rfl rfl rfl fun D =>
              j_gfo (pc := 71) H.2.1 D rfl rfl rfl rfl fun kc7 D =>
              j_iret D rt_466) (fun N =>
              j_tc 3 (t := 75) D N rfl (by decide +kernel) (fun q =>
                have D : fk_D 466 [(75, none, .aload_n 3, 1, 0, 0, 0), (76, none, .getfield 1065, 3, 381, (-104), 12), (79, none, .arraylength, 1, 0, 0, 0), (80, none, .ireturn, 1, 0, 0, 0)] := fq_of2 cd_466 ow_466 cl_466 rfl (pc := 75) (by decide +kernel)
                j_aldn (pc := 75) D rfl rfl rfl fun D =>
                j_gfo (pc := 76) H.2.1 D rfl rfl rfl rfl fun kc8 D =>
                j_lenu (pc := 79) H.2.1 D rfl fun q D =>
                j_iret D rt_466) (fun N =>
                j_tc 4 (t := 81) D N rfl (by decide +kernel) (fun q =>
                  have D : fk_D 466 [(81, none, .aload_n 3, 1, 0, 0, 0), (82, none, .getfield 917, 3, 380, (-104), 10), (85, none, .ireturn, 1, 0, 0, 0)] := fq_of2 cd_466 ow_466 cl_466 rfl (pc := 81) (by decide +kernel)
                  j_aldn (pc := 81) D rfl rfl rfl fun D =>
                  j_gfo (pc := 82) H.2.1 D rfl rfl rfl rfl fun kc9 D =>
                  j_iret D rt_466) (fun N =>
                  j_tc 5 (t := 86) D N rfl (by decide +kernel) (fun q =>
                    have D : fk_D 466 [(86, none, .aload_n 3, 1, 0, 0, 0), (87, none, .getfield 920, 3, 378, (-104), 10), (90, none, .ireturn, 1, 0, 0, 0)] := fq_of2 cd_466 ow_466 cl_466 rfl (pc := 86) (by decide +kernel)
                    j_aldn (pc := 86) D rfl rfl rfl fun D =>
                    j_gfo (pc := 87) H.2.1 D rfl rfl rfl rfl fun kc10 D =>
                    j_iret D rt_466) (fun N =>
                    j_tc 6 (t := 91) D N rfl (by decide +kernel) (fun q =>
                      have D : fk_D 466 [(91, none, .aload_n 3, 1, 0, 0, 0), (92, none, .getfield 1084, 3, 379, (-104), 10), (95, none, .ireturn, 1, 0, 0, 0)] := fq_of2 cd_466 ow_466 cl_466 rfl (pc := 91) (by decide +kernel)
                      j_aldn (pc := 91) D rfl rfl rfl fun D =>
                      j_gfo (pc := 92) H.2.1 D rfl rfl rfl rfl fun kc11 D =>
                      j_iret D rt_466) (fun N =>
                      j_td (t := 96) D N rfl (by decide +kernel) (by decide +kernel) <|
                      have D : fk_D 466 [(96, none, .iconst (-1), 1, 0, (-1), 0), (97, none, .ireturn, 1, 0, 0, 0)] := fq_of2 cd_466 ow_466 cl_466 rfl (pc := 96) (by decide +kernel)
                      j_ic (pc := 96) D rfl fun D =>
                      j_iret D rt_466))))))))) (fun q3 h1 e1 =>
      j_tx (hx_466 _))
/-! 467 StatuteHouse.amount(II)J -/
theorem cd_467 : fi_code 467 = prog_1_method_113_code := rfl
theorem hx_467 : ∀ pc, fi_hat 467 pc = none := fun pc => by unfold fi_hat; rw [show fi_hh 467 = [] from rfl]; rfl
theorem rt_467 : fi_ret 467 = some .long := rfl
theorem nl_467 : fi_nl 467 = 3 := rfl
theorem ow_467 : fi_ow 467 = 0 := rfl
theorem cl_467 : fj_cutT.getD 467 [] = [] := rfl
theorem m_467 (d : Nat) (x1 x2 : Int) {h : fi_H} (H : Shp h) : fj_run (d + 1) 467 h [(4, 303), (0, x1), (0, x2)] =
  ca_ (fj_run d 462 h [(4, 303), (0, x1)]) 0
    (fun v2 h1 =>
    if v2 = 0 then
      some (.inl (some (1, (-9223372036854775808))), h1)
    else
      if 0 ≤ x1 ∧ x1 < 30 then
      if h1 0 (h1 12 453 x1.toNat).toNat 0 = 104 then
      if fk_isA (h1 0 (h1 381 (h1 12 453 x1.toNat).toNat 0).toNat 0) = true then
      ca_ (fj_run d 3 h1 [(1, wI x2), (1, 0), (1, wJ ((wI (h1 1 (h1 381 (h1 12 453 x1.toNat).toNat 0).toNat 0)) - 1))]) 0
        (fun v7 h6 =>
        if v7 = 0 then
          some (.inl (some (1, (-9223372036854775808))), h6)
        else
          if h6 0 (h6 12 453 x1.toNat).toNat 0 = 104 then
          if h6 0 (h6 381 (h6 12 453 x1.toNat).toNat 0).toNat 0 = 11 ∧ 0 ≤ x2 ∧ x2 < h6 1 (h6 381 (h6 12 453 x1.toNat).toNat 0).toNat 0 then
          some (.inl (some (1, h6 11 (h6 381 (h6 12 453 x1.toNat).toNat 0).toNat x2.toNat)), h6)
          else none
          else none)
        (fun q8 h6 => tx_ q8 h6)
      else none
      else none
      else none)
    (fun q3 h1 => tx_ q3 h1) := by
  rw [fj_run_eq d (by decide) h [(4, 303), (0, x1), (0, x2)] (Nat.le_of_ble_eq_true (by rw [nl_467]; rfl))]
  show gG (fj_run d) 467 0 [(0, (4, 303)), (1, (0, x1)), (2, (0, x2))] [] h = _
  exact
    have D : fk_D 467 [(0, none, .aload_n 0, 1, 0, 0, 0), (1, none, .iload_n 1, 1, 0, 0, 0), (2, none, .invokevirtual 1071, 3, 1, 195, 1), (5, none, .ifCond .eq 39, 3, 44, 0, 0), (8, none, .iload_n 2, 1, 0, 0, 0), (9, none, .i2l, 1, 0, 0, 0), (10, none, .lconst 0, 1, 0, 0, 0), (11, none, .aload_n 0, 1, 0, 0, 0), (12, none, .getfield 703, 3, 288, 100, 12), (15, none, .iload_n 1, 1, 0, 0, 0), (16, none, .aaload, 1, 0, 0, 0), (17, none, .getfield 1065, 3, 381, (-104), 12), (20, none, .arraylength, 1, 0, 0, 0), (21, none, .i2l, 1, 0, 0, 0), (22, none, .lconst 1, 1, 0, 0, 0), (23, none, .lsub, 1, 0, 0, 0), (24, none, .invokestatic 46, 3, 3, 3, 1), (27, none, .ifCond .eq 17, 3, 44, 0, 0), (30, none, .aload_n 0, 1, 0, 0, 0), (31, none, .getfield 703, 3, 288, 100, 12)] := fq_of2 cd_467 ow_467 cl_467 rfl (pc := 0) (by decide +kernel)
    j_aldn (pc := 0) D rfl rfl rfl fun D =>
    j_ildn (pc := 1) D rfl rfl rfl fun D =>
    j_iv (pc := 2) (m := 462) (dd := 195) (a := [(0, x1)]) (rest := []) D rfl rfl rfl rfl rfl (by decide) (s0_303 H) (by decide +kernel) (fun v2 h1 e1 D =>
      have T := fj_run_ok _ _ _ _ _ _ H.1 e1
      have H := shp_st H T
      j_ifeq (pc := 5) D rfl (fun q =>
        have D : fk_D 467 [(44, none, .ldc2_w 1087, 3, 1, (-9223372036854775808), 0), (47, none, .lreturn, 1, 0, 0, 0)] := fq_of2 cd_467 ow_467 cl_467 rfl (pc := 44) (by decide +kernel)
        j_ldc2 (pc := 44) D rfl fun D =>
        j_lret D rt_467) (fun q D =>
        j_ildn (pc := 8) D rfl rfl rfl fun D =>
        j_i2l (pc := 9) D rfl fun D =>
        j_c0 (pc := 10) (v := (1, 0)) D rfl rfl (by decide +kernel) fun D =>
        j_aldn (pc := 11) D rfl rfl rfl fun D =>
        j_gfc (pc := 12) (a := 303) D rfl rfl (by decide) rfl (s0_303 H) rfl (sf_288_303 H) fun D =>
        j_ildn (pc := 15) D rfl rfl rfl fun D =>
        j_al (pc := 16) (a := 453) (e := 12) D rfl rfl rfl (by decide) (s0_453 H) (s1_453 H) ⟨rfl, rfl, rfl⟩ rfl gn fun qb4 D =>
        j_gfo (pc := 17) H.2.1 D rfl rfl rfl rfl fun kc5 D =>
        j_lenu (pc := 20) H.2.1 D rfl fun q D =>
        j_i2l (pc := 21) D rfl fun D =>
        j_c0 (pc := 22) (v := (1, 1)) D rfl rfl (by decide +kernel) fun D =>
        j_lsub (pc := 23) D rfl fun D =>
        j_is (pc := 24) (m := 3) (a := [(1, wI x2), (1, 0), (1, wJ ((wI (h1 1 (h1 381 (h1 12 453 x1.toNat).toNat 0).toNat 0)) - 1))]) (rest := []) D rfl rfl rfl rfl (fun v7 h6 e1 D =>
          have T := fj_run_ok _ _ _ _ _ _ H.1 e1
          have H := shp_st H T
          j_ifeq (pc := 27) D rfl (fun q =>
            have D : fk_D 467 [(44, none, .ldc2_w 1087, 3, 1, (-9223372036854775808), 0), (47, none, .lreturn, 1, 0, 0, 0)] := fq_of2 cd_467 ow_467 cl_467 rfl (pc := 44) (by decide +kernel)
            j_ldc2 (pc := 44) D rfl fun D =>
            j_lret D rt_467) (fun q D =>
            j_aldn (pc := 30) D rfl rfl rfl fun D =>
            j_gfc (pc := 31) (a := 303) D rfl rfl (by decide) rfl (s0_303 H) rfl (sf_288_303 H) fun D =>
            have D : fk_D 467 [(34, none, .iload_n 1, 1, 0, 0, 0), (35, none, .aaload, 1, 0, 0, 0), (36, none, .getfield 1065, 3, 381, (-104), 12), (39, none, .iload_n 2, 1, 0, 0, 0), (40, none, .laload, 1, 0, 0, 0), (41, none, .goto 6, 3, 47, 0, 0)] := fq_of2 cd_467 ow_467 cl_467 rfl (pc := 34) (by decide +kernel)
            j_ildn (pc := 34) D rfl rfl rfl fun D =>
            j_al (pc := 35) (a := 453) (e := 12) D rfl rfl rfl (by decide) (s0_453 H) (s1_453 H) ⟨rfl, rfl, rfl⟩ rfl (gy qb4) fun q D =>
            j_gfo (pc := 36) H.2.1 D rfl rfl rfl rfl fun kc9 D =>
            j_ildn (pc := 39) D rfl rfl rfl fun D =>
            j_alp (pc := 40) (e := 11) H.2.1 D rfl rfl ⟨rfl, rfl, rfl⟩ rfl fun q q2 D =>
            j_goto (pc := 41) D rfl <|
            have D : fk_D 467 [(47, none, .lreturn, 1, 0, 0, 0)] := fq_of2 cd_467 ow_467 cl_467 rfl (pc := 47) (by decide +kernel)
            j_lret D rt_467)) (fun q8 h6 e1 =>
          j_tx (hx_467 _)))) (fun q3 h1 e1 =>
      j_tx (hx_467 _))
/-! 468 StatuteHouse.booking(II)J -/
theorem cd_468 : fi_code 468 = prog_1_method_114_code := rfl
theorem hx_468 : ∀ pc, fi_hat 468 pc = none := fun pc => by unfold fi_hat; rw [show fi_hh 468 = [] from rfl]; rfl
theorem rt_468 : fi_ret 468 = some .long := rfl
theorem nl_468 : fi_nl 468 = 3 := rfl
theorem ow_468 : fi_ow 468 = 0 := rfl
theorem cl_468 : fj_cutT.getD 468 [] = [(76, [0, 1]), (84, [0, 1]), (92, [0, 1]), (100, [0, 1]), (107, [0, 1]), (115, [0, 1]), (123, [0, 1]), (130, [0, 1]), (138, [0, 1]), (146, [0, 1]), (161, [])] := rfl
theorem cut_468_76 : fj_cut 468 76 = some [0, 1] := by decide +kernel
noncomputable def c_468_76 (d : Nat) (x1 : Int) (h : fi_H) : fk_R := gG (fj_run d) 468 76 [(0, (4, 303)), (1, (0, x1))] [] h
theorem cut_468_84 : fj_cut 468 84 = some [0, 1] := by decide +kernel
noncomputable def c_468_84 (d : Nat) (x1 : Int) (h : fi_H) : fk_R := gG (fj_run d) 468 84 [(0, (4, 303)), (1, (0, x1))] [] h
theorem cut_468_92 : fj_cut 468 92 = some [0, 1] := by decide +kernel
noncomputable def c_468_92 (d : Nat) (x1 : Int) (h : fi_H) : fk_R := gG (fj_run d) 468 92 [(0, (4, 303)), (1, (0, x1))] [] h
theorem cut_468_100 : fj_cut 468 100 = some [0, 1] := by decide +kernel
noncomputable def c_468_100 (d : Nat) (x1 : Int) (h : fi_H) : fk_R := gG (fj_run d) 468 100 [(0, (4, 303)), (1, (0, x1))] [] h
theorem cut_468_107 : fj_cut 468 107 = some [0, 1] := by decide +kernel
noncomputable def c_468_107 (d : Nat) (x1 : Int) (h : fi_H) : fk_R := gG (fj_run d) 468 107 [(0, (4, 303)), (1, (0, x1))] [] h
theorem cut_468_115 : fj_cut 468 115 = some [0, 1] := by decide +kernel
noncomputable def c_468_115 (d : Nat) (x1 : Int) (h : fi_H) : fk_R := gG (fj_run d) 468 115 [(0, (4, 303)), (1, (0, x1))] [] h
theorem cut_468_123 : fj_cut 468 123 = some [0, 1] := by decide +kernel
noncomputable def c_468_123 (d : Nat) (x1 : Int) (h : fi_H) : fk_R := gG (fj_run d) 468 123 [(0, (4, 303)), (1, (0, x1))] [] h
theorem cut_468_130 : fj_cut 468 130 = some [0, 1] := by decide +kernel
noncomputable def c_468_130 (d : Nat) (x1 : Int) (h : fi_H) : fk_R := gG (fj_run d) 468 130 [(0, (4, 303)), (1, (0, x1))] [] h
theorem cut_468_138 : fj_cut 468 138 = some [0, 1] := by decide +kernel
noncomputable def c_468_138 (d : Nat) (x1 : Int) (h : fi_H) : fk_R := gG (fj_run d) 468 138 [(0, (4, 303)), (1, (0, x1))] [] h
theorem cut_468_146 : fj_cut 468 146 = some [0, 1] := by decide +kernel
noncomputable def c_468_146 (d : Nat) (x1 : Int) (h : fi_H) : fk_R := gG (fj_run d) 468 146 [(0, (4, 303)), (1, (0, x1))] [] h
theorem cut_468_161 : fj_cut 468 161 = some [] := by decide +kernel
noncomputable def c_468_161 (d : Nat) (h : fi_H) : fk_R := gG (fj_run d) 468 161 [] [] h
theorem e_468_76 (d : Nat) (x1 : Int) {h : fi_H} (H : Shp h) : c_468_76 d x1 h =
  if 0 ≤ x1 ∧ x1 < 400 then
  some (.inl (some (1, wI (h 8 454 x1.toNat))), h)
  else none := by
  unfold c_468_76
  exact
    have D : fk_D 468 [(76, some [0, 1], .aload_n 0, 1, 0, 0, 0), (77, none, .getfield 716, 3, 294, 100, 12), (80, none, .iload_n 1, 1, 0, 0, 0), (81, none, .baload, 1, 0, 0, 0), (82, none, .i2l, 1, 0, 0, 0), (83, none, .lreturn, 1, 0, 0, 0)] := fq_of2 cd_468 ow_468 cl_468 rfl (pc := 76) (by decide +kernel)
    j_aldn (pc := 76) D rfl rfl rfl fun D =>
    j_gfc (pc := 77) (a := 303) D rfl rfl (by decide) rfl (s0_303 H) rfl (sf_294_303 H) fun D =>
    j_ildn (pc := 80) D rfl rfl rfl fun D =>
    j_al (pc := 81) (a := 454) (e := 8) D rfl rfl rfl (by decide) (s0_454 H) (s1_454 H) ⟨rfl, rfl, rfl⟩ rfl gn fun qb1 D =>
    j_i2l (pc := 82) D rfl fun D =>
    j_lret D rt_468
theorem e_468_84 (d : Nat) (x1 : Int) {h : fi_H} (H : Shp h) : c_468_84 d x1 h =
  if 0 ≤ x1 ∧ x1 < 400 then
  some (.inl (some (1, wI (h 8 455 x1.toNat))), h)
  else none := by
  unfold c_468_84
  exact
    have D : fk_D 468 [(84, some [0, 1], .aload_n 0, 1, 0, 0, 0), (85, none, .getfield 719, 3, 295, 100, 12), (88, none, .iload_n 1, 1, 0, 0, 0), (89, none, .baload, 1, 0, 0, 0), (90, none, .i2l, 1, 0, 0, 0), (91, none, .lreturn, 1, 0, 0, 0)] := fq_of2 cd_468 ow_468 cl_468 rfl (pc := 84) (by decide +kernel)
    j_aldn (pc := 84) D rfl rfl rfl fun D =>
    j_gfc (pc := 85) (a := 303) D rfl rfl (by decide) rfl (s0_303 H) rfl (sf_295_303 H) fun D =>
    j_ildn (pc := 88) D rfl rfl rfl fun D =>
    j_al (pc := 89) (a := 455) (e := 8) D rfl rfl rfl (by decide) (s0_455 H) (s1_455 H) ⟨rfl, rfl, rfl⟩ rfl gn fun qb1 D =>
    j_i2l (pc := 90) D rfl fun D =>
    j_lret D rt_468
theorem e_468_92 (d : Nat) (x1 : Int) {h : fi_H} (H : Shp h) : c_468_92 d x1 h =
  if 0 ≤ x1 ∧ x1 < 400 then
  some (.inl (some (1, wI (h 8 456 x1.toNat))), h)
  else none := by
  unfold c_468_92
  exact
    have D : fk_D 468 [(92, some [0, 1], .aload_n 0, 1, 0, 0, 0), (93, none, .getfield 722, 3, 296, 100, 12), (96, none, .iload_n 1, 1, 0, 0, 0), (97, none, .baload, 1, 0, 0, 0), (98, none, .i2l, 1, 0, 0, 0), (99, none, .lreturn, 1, 0, 0, 0)] := fq_of2 cd_468 ow_468 cl_468 rfl (pc := 92) (by decide +kernel)
    j_aldn (pc := 92) D rfl rfl rfl fun D =>
    j_gfc (pc := 93) (a := 303) D rfl rfl (by decide) rfl (s0_303 H) rfl (sf_296_303 H) fun D =>
    j_ildn (pc := 96) D rfl rfl rfl fun D =>
    j_al (pc := 97) (a := 456) (e := 8) D rfl rfl rfl (by decide) (s0_456 H) (s1_456 H) ⟨rfl, rfl, rfl⟩ rfl gn fun qb1 D =>
    j_i2l (pc := 98) D rfl fun D =>
    j_lret D rt_468
theorem e_468_100 (d : Nat) (x1 : Int) {h : fi_H} (H : Shp h) : c_468_100 d x1 h =
  if 0 ≤ x1 ∧ x1 < 400 then
  some (.inl (some (1, h 11 458 x1.toNat)), h)
  else none := by
  unfold c_468_100
  exact
    have D : fk_D 468 [(100, some [0, 1], .aload_n 0, 1, 0, 0, 0), (101, none, .getfield 728, 3, 298, 100, 12), (104, none, .iload_n 1, 1, 0, 0, 0), (105, none, .laload, 1, 0, 0, 0), (106, none, .lreturn, 1, 0, 0, 0)] := fq_of2 cd_468 ow_468 cl_468 rfl (pc := 100) (by decide +kernel)
    j_aldn (pc := 100) D rfl rfl rfl fun D =>
    j_gfc (pc := 101) (a := 303) D rfl rfl (by decide) rfl (s0_303 H) rfl (sf_298_303 H) fun D =>
    j_ildn (pc := 104) D rfl rfl rfl fun D =>
    j_al (pc := 105) (a := 458) (e := 11) D rfl rfl rfl (by decide) (s0_458 H) (s1_458 H) ⟨rfl, rfl, rfl⟩ rfl gn fun qb1 D =>
    j_lret D rt_468
theorem e_468_107 (d : Nat) (x1 : Int) {h : fi_H} (H : Shp h) : c_468_107 d x1 h =
  if 0 ≤ x1 ∧ x1 < 400 then
  some (.inl (some (1, wI (h 5 459 x1.toNat))), h)
  else none := by
  unfold c_468_107
  exact
    have D : fk_D 468 [(107, some [0, 1], .aload_n 0, 1, 0, 0, 0), (108, none, .getfield 731, 3, 299, 100, 12), (111, none, .iload_n 1, 1, 0, 0, 0), (112, none, .caload, 1, 0, 0, 0), (113, none, .i2l, 1, 0, 0, 0), (114, none, .lreturn, 1, 0, 0, 0)] := fq_of2 cd_468 ow_468 cl_468 rfl (pc := 107) (by decide +kernel)
    j_aldn (pc := 107) D rfl rfl rfl fun D =>
    j_gfc (pc := 108) (a := 303) D rfl rfl (by decide) rfl (s0_303 H) rfl (sf_299_303 H) fun D =>
    j_ildn (pc := 111) D rfl rfl rfl fun D =>
    j_al (pc := 112) (a := 459) (e := 5) D rfl rfl rfl (by decide) (s0_459 H) (s1_459 H) ⟨rfl, rfl, rfl⟩ rfl gn fun qb1 D =>
    j_i2l (pc := 113) D rfl fun D =>
    j_lret D rt_468
theorem e_468_115 (d : Nat) (x1 : Int) {h : fi_H} (H : Shp h) : c_468_115 d x1 h =
  if 0 ≤ x1 ∧ x1 < 400 then
  some (.inl (some (1, wI (h 8 457 x1.toNat))), h)
  else none := by
  unfold c_468_115
  exact
    have D : fk_D 468 [(115, some [0, 1], .aload_n 0, 1, 0, 0, 0), (116, none, .getfield 725, 3, 297, 100, 12), (119, none, .iload_n 1, 1, 0, 0, 0), (120, none, .baload, 1, 0, 0, 0), (121, none, .i2l, 1, 0, 0, 0), (122, none, .lreturn, 1, 0, 0, 0)] := fq_of2 cd_468 ow_468 cl_468 rfl (pc := 115) (by decide +kernel)
    j_aldn (pc := 115) D rfl rfl rfl fun D =>
    j_gfc (pc := 116) (a := 303) D rfl rfl (by decide) rfl (s0_303 H) rfl (sf_297_303 H) fun D =>
    j_ildn (pc := 119) D rfl rfl rfl fun D =>
    j_al (pc := 120) (a := 457) (e := 8) D rfl rfl rfl (by decide) (s0_457 H) (s1_457 H) ⟨rfl, rfl, rfl⟩ rfl gn fun qb1 D =>
    j_i2l (pc := 121) D rfl fun D =>
    j_lret D rt_468
theorem e_468_123 (d : Nat) (x1 : Int) {h : fi_H} (H : Shp h) : c_468_123 d x1 h =
  if 0 ≤ x1 ∧ x1 < 400 then
  some (.inl (some (1, h 11 465 x1.toNat)), h)
  else none := by
  unfold c_468_123
  exact
    have D : fk_D 468 [(123, some [0, 1], .aload_n 0, 1, 0, 0, 0), (124, none, .getfield 749, 3, 305, 100, 12), (127, none, .iload_n 1, 1, 0, 0, 0), (128, none, .laload, 1, 0, 0, 0), (129, none, .lreturn, 1, 0, 0, 0)] := fq_of2 cd_468 ow_468 cl_468 rfl (pc := 123) (by decide +kernel)
    j_aldn (pc := 123) D rfl rfl rfl fun D =>
    j_gfc (pc := 124) (a := 303) D rfl rfl (by decide) rfl (s0_303 H) rfl (sf_305_303 H) fun D =>
    j_ildn (pc := 127) D rfl rfl rfl fun D =>
    j_al (pc := 128) (a := 465) (e := 11) D rfl rfl rfl (by decide) (s0_465 H) (s1_465 H) ⟨rfl, rfl, rfl⟩ rfl gn fun qb1 D =>
    j_lret D rt_468
theorem e_468_130 (d : Nat) (x1 : Int) {h : fi_H} (H : Shp h) : c_468_130 d x1 h =
  if 0 ≤ x1 ∧ x1 < 400 then
  some (.inl (some (1, wI (h 8 467 x1.toNat))), h)
  else none := by
  unfold c_468_130
  exact
    have D : fk_D 468 [(130, some [0, 1], .aload_n 0, 1, 0, 0, 0), (131, none, .getfield 755, 3, 307, 100, 12), (134, none, .iload_n 1, 1, 0, 0, 0), (135, none, .baload, 1, 0, 0, 0), (136, none, .i2l, 1, 0, 0, 0), (137, none, .lreturn, 1, 0, 0, 0)] := fq_of2 cd_468 ow_468 cl_468 rfl (pc := 130) (by decide +kernel)
    j_aldn (pc := 130) D rfl rfl rfl fun D =>
    j_gfc (pc := 131) (a := 303) D rfl rfl (by decide) rfl (s0_303 H) rfl (sf_307_303 H) fun D =>
    j_ildn (pc := 134) D rfl rfl rfl fun D =>
    j_al (pc := 135) (a := 467) (e := 8) D rfl rfl rfl (by decide) (s0_467 H) (s1_467 H) ⟨rfl, rfl, rfl⟩ rfl gn fun qb1 D =>
    j_i2l (pc := 136) D rfl fun D =>
    j_lret D rt_468
theorem e_468_138 (d : Nat) (x1 : Int) {h : fi_H} (H : Shp h) : c_468_138 d x1 h =
  if 0 ≤ x1 ∧ x1 < 400 then
  some (.inl (some (1, wI (h 10 468 x1.toNat))), h)
  else none := by
  unfold c_468_138
  exact
    have D : fk_D 468 [(138, some [0, 1], .aload_n 0, 1, 0, 0, 0), (139, none, .getfield 758, 3, 308, 100, 12), (142, none, .iload_n 1, 1, 0, 0, 0), (143, none, .iaload, 1, 0, 0, 0), (144, none, .i2l, 1, 0, 0, 0), (145, none, .lreturn, 1, 0, 0, 0)] := fq_of2 cd_468 ow_468 cl_468 rfl (pc := 138) (by decide +kernel)
    j_aldn (pc := 138) D rfl rfl rfl fun D =>
    j_gfc (pc := 139) (a := 303) D rfl rfl (by decide) rfl (s0_303 H) rfl (sf_308_303 H) fun D =>
    j_ildn (pc := 142) D rfl rfl rfl fun D =>
    j_al (pc := 143) (a := 468) (e := 10) D rfl rfl rfl (by decide) (s0_468 H) (s1_468 H) ⟨rfl, rfl, rfl⟩ rfl gn fun qb1 D =>
    j_i2l (pc := 144) D rfl fun D =>
    j_lret D rt_468
theorem e_468_146 (d : Nat) (x1 : Int) {h : fi_H} (H : Shp h) : c_468_146 d x1 h =
  if 0 ≤ x1 ∧ x1 < 400 then
  if h 4 469 x1.toNat = 0 then
    some (.inl (some (1, 0)), h)
  else
    some (.inl (some (1, 1)), h)
  else none := by
  unfold c_468_146
  exact
    have D : fk_D 468 [(146, some [0, 1], .aload_n 0, 1, 0, 0, 0), (147, none, .getfield 761, 3, 309, 100, 12), (150, none, .iload_n 1, 1, 0, 0, 0), (151, none, .baload, 1, 0, 0, 0), (152, none, .ifCond .eq 7, 3, 159, 0, 0), (155, none, .lconst 1, 1, 0, 0, 0), (156, none, .goto 4, 3, 160, 0, 0)] := fq_of2 cd_468 ow_468 cl_468 rfl (pc := 146) (by decide +kernel)
    j_aldn (pc := 146) D rfl rfl rfl fun D =>
    j_gfc (pc := 147) (a := 303) D rfl rfl (by decide) rfl (s0_303 H) rfl (sf_309_303 H) fun D =>
    j_ildn (pc := 150) D rfl rfl rfl fun D =>
    j_al (pc := 151) (a := 469) (e := 4) D rfl rfl rfl (by decide) (s0_469 H) (s1_469 H) ⟨rfl, rfl, rfl⟩ rfl gn fun qb1 D =>
    j_ifeq (pc := 152) D rfl (fun q =>
      have D : fk_D 468 [(159, none, .lconst 0, 1, 0, 0, 0), (160, none, .lreturn, 1, 0, 0, 0)] := fq_of2 cd_468 ow_468 cl_468 rfl (pc := 159) (by decide +kernel)
      j_c0 (pc := 159) (v := (1, 0)) D rfl rfl (by decide +kernel) fun D =>
      j_lret D rt_468) (fun q D =>
      j_c0 (pc := 155) (v := (1, 1)) D rfl rfl (by decide +kernel) fun D =>
      j_goto (pc := 156) D rfl <|
      have D : fk_D 468 [(160, none, .lreturn, 1, 0, 0, 0)] := fq_of2 cd_468 ow_468 cl_468 rfl (pc := 160) (by decide +kernel)
      j_lret D rt_468)
theorem e_468_161 (d : Nat) {h : fi_H} (H : Shp h) : c_468_161 d h =
  some (.inl (some (1, (-9223372036854775808))), h) := by
  unfold c_468_161
  exact
    have D : fk_D 468 [(161, some [], .ldc2_w 1087, 3, 1, (-9223372036854775808), 0), (164, none, .lreturn, 1, 0, 0, 0)] := fq_of2 cd_468 ow_468 cl_468 rfl (pc := 161) (by decide +kernel)
    j_ldc2 (pc := 161) D rfl fun D =>
    j_lret D rt_468
theorem m_468 (d : Nat) (x1 x2 : Int) {h : fi_H} (H : Shp h) : fj_run (d + 1) 468 h [(4, 303), (0, x1), (0, x2)] =
  ca_ (fj_run d 3 h [(1, wI x1), (1, 0), (1, wJ ((wI (h 290 303 0)) - 1))]) 0
    (fun v2 h1 =>
    if v2 = 0 then
      some (.inl (some (1, (-9223372036854775808))), h1)
    else
      if x2 = 0 then
        c_468_76 d x1 h1
      else if x2 = 1 then
        c_468_84 d x1 h1
      else if x2 = 2 then
        c_468_92 d x1 h1
      else if x2 = 3 then
        c_468_100 d x1 h1
      else if x2 = 4 then
        c_468_107 d x1 h1
      else if x2 = 5 then
        c_468_115 d x1 h1
      else if x2 = 6 then
        c_468_123 d x1 h1
      else if x2 = 7 then
        c_468_130 d x1 h1
      else if x2 = 8 then
        c_468_138 d x1 h1
      else if x2 = 9 then
        c_468_146 d x1 h1
      else 
        c_468_161 d h1)
    (fun q3 h1 => tx_ q3 h1) := by
  rw [fj_run_eq d (by decide) h [(4, 303), (0, x1), (0, x2)] (Nat.le_of_ble_eq_true (by rw [nl_468]; rfl))]
  show gG (fj_run d) 468 0 [(0, (4, 303)), (1, (0, x1)), (2, (0, x2))] [] h = _
  exact
    have D : fk_D 468 [(0, none, .iload_n 1, 1, 0, 0, 0), (1, none, .i2l, 1, 0, 0, 0), (2, none, .lconst 0, 1, 0, 0, 0), (3, none, .aload_n 0, 1, 0, 0, 0), (4, none, .getfield 923, 3, 290, 100, 10), (7, none, .i2l, 1, 0, 0, 0), (8, none, .lconst 1, 1, 0, 0, 0), (9, none, .lsub, 1, 0, 0, 0), (10, none, .invokestatic 46, 3, 3, 3, 1), (13, none, .ifCond .ne 7, 3, 20, 0, 0), (16, none, .ldc2_w 1087, 3, 1, (-9223372036854775808), 0), (19, none, .lreturn, 1, 0, 0, 0)] := fq_of2 cd_468 ow_468 cl_468 rfl (pc := 0) (by decide +kernel)
    j_ildn (pc := 0) D rfl rfl rfl fun D =>
    j_i2l (pc := 1) D rfl fun D =>
    j_c0 (pc := 2) (v := (1, 0)) D rfl rfl (by decide +kernel) fun D =>
    j_aldn (pc := 3) D rfl rfl rfl fun D =>
    j_gf (pc := 4) (a := 303) D rfl rfl (by decide) rfl (s0_303 H) rfl fun D =>
    j_i2l (pc := 7) D rfl fun D =>
    j_c0 (pc := 8) (v := (1, 1)) D rfl rfl (by decide +kernel) fun D =>
    j_lsub (pc := 9) D rfl fun D =>
    j_is (pc := 10) (m := 3) (a := [(1, wI x1), (1, 0), (1, wJ ((wI (h 290 303 0)) - 1))]) (rest := []) D rfl rfl rfl rfl (fun v2 h1 e1 D =>
      have T := fj_run_ok _ _ _ _ _ _ H.1 e1
      have H := shp_st H T
      j_ifne (pc := 13) D rfl (fun q D =>
        j_ldc2 (pc := 16) D rfl fun D =>
        j_lret D rt_468) (fun q =>
        have D : fk_D 468 [(20, none, .iload_n 2, 1, 0, 0, 0), (21, none, .tableswitch 140 0 9 #[55, 63, 71, 79, 86, 94, 102, 109, 117, 125], 55, 0, 0, 0)] := fq_of3 cd_468 ow_468 cl_468 rfl (pc := 20) (by decide +kernel)
        j_ildn (pc := 20) D rfl rfl rfl fun D =>
        have N : fk_ni (x2) [] := trivial
        j_tc (pc := 21) 0 (t := 76) D N rfl (by decide +kernel) (fun q =>
          fk_jump cut_468_76 rfl rfl) (fun N =>
          j_tc 1 (t := 84) D N rfl (by decide +kernel) (fun q =>
            fk_jump cut_468_84 rfl rfl) (fun N =>
            j_tc 2 (t := 92) D N rfl (by decide +kernel) (fun q =>
              fk_jump cut_468_92 rfl rfl) (fun N =>
              j_tc 3 (t := 100) D N rfl (by decide +kernel) (fun q =>
                fk_jump cut_468_100 rfl rfl) (fun N =>
                j_tc 4 (t := 107) D N rfl (by decide +kernel) (fun q =>
                  fk_jump cut_468_107 rfl rfl) (fun N =>
                  j_tc 5 (t := 115) D N rfl (by decide +kernel) (fun q =>
                    fk_jump cut_468_115 rfl rfl) (fun N =>
                    j_tc 6 (t := 123) D N rfl (by decide +kernel) (fun q =>
                      fk_jump cut_468_123 rfl rfl) (fun N =>
                      j_tc 7 (t := 130) D N rfl (by decide +kernel) (fun q =>
                        fk_jump cut_468_130 rfl rfl) (fun N =>
                        j_tc 8 (t := 138) D N rfl (by decide +kernel) (fun q =>
                          fk_jump cut_468_138 rfl rfl) (fun N =>
                          j_tc 9 (t := 146) D N rfl (by decide +kernel) (fun q =>
                            fk_jump cut_468_146 rfl rfl) (fun N =>
                            j_td (t := 161) D N rfl (by decide +kernel) (by decide +kernel) <|
                            fk_jump cut_468_161 rfl rfl)))))))))))) (fun q3 h1 e1 =>
      j_tx (hx_468 _))
/-! 469 StatuteHouse.account(II)J -/
theorem cd_469 : fi_code 469 = prog_1_method_115_code := rfl
theorem hx_469 : ∀ pc, fi_hat 469 pc = none := fun pc => by unfold fi_hat; rw [show fi_hh 469 = [] from rfl]; rfl
theorem rt_469 : fi_ret 469 = some .long := rfl
theorem nl_469 : fi_nl 469 = 6 := rfl
theorem ow_469 : fi_ow 469 = 0 := rfl
theorem cl_469 : fj_cutT.getD 469 [] = [(17, [0, 1, 2, 3, 5]), (59, [0, 1, 2, 5]), (60, [0, 1, 2, 5])] := rfl
theorem cut_469_17 : fj_cut 469 17 = some [0, 1, 2, 3, 5] := by decide +kernel
noncomputable def c_469_17 (d : Nat) (x1 x2 x3 x5 : Int) (h : fi_H) : fk_R := gG (fj_run d) 469 17 [(0, (4, 303)), (1, (0, x1)), (2, (0, x2)), (3, (1, x3)), (5, (0, x5))] [] h
theorem cut_469_59 : fj_cut 469 59 = some [0, 1, 2, 5] := by decide +kernel
noncomputable def c_469_59 (d : Nat) (x1 x2 x5 s0 : Int) (h : fi_H) : fk_R := gG (fj_run d) 469 59 [(0, (4, 303)), (1, (0, x1)), (2, (0, x2)), (5, (0, x5))] [(1, s0)] h
theorem cut_469_60 : fj_cut 469 60 = some [0, 1, 2, 5] := by decide +kernel
noncomputable def c_469_60 (d : Nat) (x1 x2 x5 s0 s1 : Int) (h : fi_H) : fk_R := gG (fj_run d) 469 60 [(0, (4, 303)), (1, (0, x1)), (2, (0, x2)), (5, (0, x5))] [(1, s1), (1, s0)] h
theorem e_469_17 (d : Nat) (x1 x2 x3 x5 : Int) {h : fi_H} (H : Shp h) : c_469_17 d x1 x2 x3 x5 h =
  if x5 < h 290 303 0 then
    if 0 ≤ x5 ∧ x5 < 400 then
    if h 8 454 x5.toNat = x1 then
      if x2 < h 5 459 x5.toNat then
        c_469_59 d x1 x2 x5 x3 h
      else
        c_469_60 d x1 x2 x5 x3 (h 11 458 x5.toNat) h
    else
      c_469_59 d x1 x2 x5 x3 h
    else none
  else
    some (.inl (some (1, x3)), h) := by
  unfold c_469_17
  exact
    have D : fk_D 469 [(17, some [0, 1, 2, 3, 5], .iload 5, 2, 0, 0, 0), (19, none, .aload_n 0, 1, 0, 0, 0), (20, none, .getfield 923, 3, 290, 100, 10), (23, none, .if_icmp .ge 45, 3, 68, 0, 0), (26, none, .lload_n 3, 1, 0, 0, 0), (27, none, .aload_n 0, 1, 0, 0, 0), (28, none, .getfield 716, 3, 294, 100, 12), (31, none, .iload 5, 2, 0, 0, 0), (33, none, .baload, 1, 0, 0, 0), (34, none, .iload_n 1, 1, 0, 0, 0), (35, none, .if_icmp .ne 24, 3, 59, 0, 0), (38, none, .aload_n 0, 1, 0, 0, 0), (39, none, .getfield 731, 3, 299, 100, 12), (42, none, .iload 5, 2, 0, 0, 0), (44, none, .caload, 1, 0, 0, 0), (45, none, .iload_n 2, 1, 0, 0, 0), (46, none, .if_icmp .gt 13, 3, 59, 0, 0), (49, none, .aload_n 0, 1, 0, 0, 0), (50, none, .getfield 728, 3, 298, 100, 12), (53, none, .iload 5, 2, 0, 0, 0)] := fq_of2 cd_469 ow_469 cl_469 rfl (pc := 17) (by decide +kernel)
    j_ild (pc := 17) D rfl rfl rfl fun D =>
    j_aldn (pc := 19) D rfl rfl rfl fun D =>
    j_gf (pc := 20) (a := 303) D rfl rfl (by decide) rfl (s0_303 H) rfl fun D =>
    j_ige (pc := 23) D rfl (fun q D =>
      j_lldn (pc := 26) D rfl rfl rfl fun D =>
      j_aldn (pc := 27) D rfl rfl rfl fun D =>
      j_gfc (pc := 28) (a := 303) D rfl rfl (by decide) rfl (s0_303 H) rfl (sf_294_303 H) fun D =>
      j_ild (pc := 31) D rfl rfl rfl fun D =>
      j_al (pc := 33) (a := 454) (e := 8) D rfl rfl rfl (by decide) (s0_454 H) (s1_454 H) ⟨rfl, rfl, rfl⟩ rfl gn fun qb1 D =>
      j_ildn (pc := 34) D rfl rfl rfl fun D =>
      j_ine (pc := 35) D rfl (fun q D =>
        j_aldn (pc := 38) D rfl rfl rfl fun D =>
        j_gfc (pc := 39) (a := 303) D rfl rfl (by decide) rfl (s0_303 H) rfl (sf_299_303 H) fun D =>
        j_ild (pc := 42) D rfl rfl rfl fun D =>
        j_al (pc := 44) (a := 459) (e := 5) D rfl rfl rfl (by decide) (s0_459 H) (s1_459 H) ⟨rfl, rfl, rfl⟩ rfl (gy qb1) fun q D =>
        j_ildn (pc := 45) D rfl rfl rfl fun D =>
        j_igt (pc := 46) D rfl (fun q =>
          fk_jump cut_469_59 rfl rfl) (fun q D =>
          j_aldn (pc := 49) D rfl rfl rfl fun D =>
          j_gfc (pc := 50) (a := 303) D rfl rfl (by decide) rfl (s0_303 H) rfl (sf_298_303 H) fun D =>
          j_ild (pc := 53) D rfl rfl rfl fun D =>
          have D : fk_D 469 [(55, none, .laload, 1, 0, 0, 0), (56, none, .goto 4, 3, 60, 0, 0)] := fq_of2 cd_469 ow_469 cl_469 rfl (pc := 55) (by decide +kernel)
          j_al (pc := 55) (a := 458) (e := 11) D rfl rfl rfl (by decide) (s0_458 H) (s1_458 H) ⟨rfl, rfl, rfl⟩ rfl (gy qb1) fun q D =>
          j_goto (pc := 56) D rfl <|
          fk_jump cut_469_60 rfl rfl)) (fun q =>
        fk_jump cut_469_59 rfl rfl)) (fun q =>
      have D : fk_D 469 [(68, none, .lload_n 3, 1, 0, 0, 0), (69, none, .lreturn, 1, 0, 0, 0)] := fq_of2 cd_469 ow_469 cl_469 rfl (pc := 68) (by decide +kernel)
      j_lldn (pc := 68) D rfl rfl rfl fun D =>
      j_lret D rt_469)
theorem e_469_59 (d : Nat) (x1 x2 x5 s0 : Int) {h : fi_H} (H : Shp h) : c_469_59 d x1 x2 x5 s0 h =
  c_469_60 d x1 x2 x5 s0 0 h := by
  unfold c_469_59
  exact
    have D : fk_D 469 [(59, some [0, 1, 2, 5], .lconst 0, 1, 0, 0, 0)] := fq_of2 cd_469 ow_469 cl_469 rfl (pc := 59) (by decide +kernel)
    j_c0 (pc := 59) (v := (1, 0)) D rfl rfl (by decide +kernel) fun D =>
    fk_jump cut_469_60 rfl rfl
theorem e_469_60 (d : Nat) (x1 x2 x5 s0 s1 : Int) {h : fi_H} (H : Shp h) : c_469_60 d x1 x2 x5 s0 s1 h =
  c_469_17 d x1 x2 (wJ (s0 + s1)) (wI (x5 + 1)) h := by
  unfold c_469_60
  exact
    have D : fk_D 469 [(60, some [0, 1, 2, 5], .ladd, 1, 0, 0, 0), (61, none, .lstore_n 3, 1, 0, 0, 0), (62, none, .iinc 5 1, 3, 0, 1, 0), (65, none, .goto (-48), 3, 17, 0, 0)] := fq_of2 cd_469 ow_469 cl_469 rfl (pc := 60) (by decide +kernel)
    j_ladd (pc := 60) D rfl fun D =>
    j_lstn (pc := 61) (L' := [(3, (1, wJ (s0 + s1))), (0, (4, 303)), (1, (0, x1)), (2, (0, x2)), (5, (0, x5))]) D rfl nl_469 rfl rfl fun D =>
    j_inc (pc := 62) (L' := [(5, (0, wI (x5 + 1))), (3, (1, wJ (s0 + s1))), (0, (4, 303)), (1, (0, x1)), (2, (0, x2))]) D rfl rfl rfl (by decide +kernel) rfl fun D =>
    j_goto (pc := 65) D rfl <|
    fk_jump cut_469_17 rfl rfl
theorem m_469 (d : Nat) (x1 x2 : Int) {h : fi_H} (H : Shp h) : fj_run (d + 1) 469 h [(4, 303), (0, x1), (0, x2)] =
  ca_ (fj_run d 303 h [(4, 303), (0, x1)]) 0
    (fun v2 h1 =>
    if v2 = 0 then
      some (.inl (some (1, (-9223372036854775808))), h1)
    else
      c_469_17 d x1 x2 0 0 h1)
    (fun q3 h1 => tx_ q3 h1) := by
  rw [fj_run_eq d (by decide) h [(4, 303), (0, x1), (0, x2)] (Nat.le_of_ble_eq_true (by rw [nl_469]; rfl))]
  show gG (fj_run d) 469 0 [(0, (4, 303)), (1, (0, x1)), (2, (0, x2))] [] h = _
  exact
    have D : fk_D 469 [(0, none, .aload_n 0, 1, 0, 0, 0), (1, none, .iload_n 1, 1, 0, 0, 0), (2, none, .invokevirtual 870, 3, 1, 167, 1), (5, none, .ifCond .ne 7, 3, 12, 0, 0), (8, none, .ldc2_w 1087, 3, 1, (-9223372036854775808), 0), (11, none, .lreturn, 1, 0, 0, 0)] := fq_of2 cd_469 ow_469 cl_469 rfl (pc := 0) (by decide +kernel)
    j_aldn (pc := 0) D rfl rfl rfl fun D =>
    j_ildn (pc := 1) D rfl rfl rfl fun D =>
    j_iv (pc := 2) (m := 303) (dd := 167) (a := [(0, x1)]) (rest := []) D rfl rfl rfl rfl rfl (by decide) (s0_303 H) (by decide +kernel) (fun v2 h1 e1 D =>
      have T := fj_run_ok _ _ _ _ _ _ H.1 e1
      have H := shp_st H T
      j_ifne (pc := 5) D rfl (fun q D =>
        j_ldc2 (pc := 8) D rfl fun D =>
        j_lret D rt_469) (fun q =>
        have D : fk_D 469 [(12, none, .lconst 0, 1, 0, 0, 0), (13, none, .lstore_n 3, 1, 0, 0, 0), (14, none, .iconst 0, 1, 0, 0, 0), (15, none, .istore 5, 2, 0, 0, 0)] := fq_of2 cd_469 ow_469 cl_469 rfl (pc := 12) (by decide +kernel)
        j_c0 (pc := 12) (v := (1, 0)) D rfl rfl (by decide +kernel) fun D =>
        j_lstn (pc := 13) (L' := [(3, (1, 0)), (0, (4, 303)), (1, (0, x1)), (2, (0, x2))]) D rfl nl_469 rfl rfl fun D =>
        j_ic (pc := 14) D rfl fun D =>
        j_ist (pc := 15) (L' := [(5, (0, 0)), (3, (1, 0)), (0, (4, 303)), (1, (0, x1)), (2, (0, x2))]) D rfl nl_469 rfl rfl fun D =>
        fk_jump cut_469_17 rfl rfl)) (fun q3 h1 e1 =>
      j_tx (hx_469 _))
/-! 470 StatuteHouse.fork(I)I -/
theorem cd_470 : fi_code 470 = prog_1_method_117_code := rfl
theorem hx_470 : ∀ pc, fi_hat 470 pc = none := fun pc => by unfold fi_hat; rw [show fi_hh 470 = [] from rfl]; rfl
theorem rt_470 : fi_ret 470 = some .int := rfl
theorem nl_470 : fi_nl 470 = 2 := rfl
theorem ow_470 : fi_ow 470 = 0 := rfl
theorem cl_470 : fj_cutT.getD 470 [] = [] := rfl
theorem m_470 (d : Nat) (x1 : Int) {h : fi_H} (H : Shp h) : fj_run (d + 1) 470 h [(4, 303), (0, x1)] =
  ca_ (fj_run d 471 h [(0, x1)]) 0
    (fun v2 h1 =>
    if v2 = 0 then
      some (.inl (some (0, (-2))), h1)
    else
      if 0 ≤ x1 ∧ x1 < 4 then
      dv_ (fi_vt 198 (h1 0 (h1 12 354 x1.toNat).toNat 0)) fun m8 => cv_ (fj_run d m8 h1 [(4, h1 12 354 x1.toNat), (4, h1 12 354 0)])
        (fun h5 =>
        lt_ (fi_upd h5 233 303 0 (wI ((h5 233 303 0) + 1))) fun h9 =>
        if h9 0 (h9 12 354 x1.toNat).toNat 0 = 110 then
        some (.inl (some (0, h9 190 (h9 12 354 x1.toNat).toNat 0)), h9)
        else none)
        (fun q7 h5 => tx_ q7 h5)
      else none)
    (fun q3 h1 => tx_ q3 h1) := by
  rw [fj_run_eq d (by decide) h [(4, 303), (0, x1)] (Nat.le_of_ble_eq_true (by rw [nl_470]; rfl))]
  show gG (fj_run d) 470 0 [(0, (4, 303)), (1, (0, x1))] [] h = _
  exact
    have D : fk_D 470 [(0, none, .iload_n 1, 1, 0, 0, 0), (1, none, .invokestatic 1089, 3, 1, 471, 1), (4, none, .ifCond .ne 6, 3, 10, 0, 0), (7, none, .bipush (-2), 2, 0, (-2), 0), (9, none, .ireturn, 1, 0, 0, 0)] := fq_of2 cd_470 ow_470 cl_470 rfl (pc := 0) (by decide +kernel)
    j_ildn (pc := 0) D rfl rfl rfl fun D =>
    j_is (pc := 1) (m := 471) (a := [(0, x1)]) (rest := []) D rfl rfl rfl rfl (fun v2 h1 e1 D =>
      have T := fj_run_ok _ _ _ _ _ _ H.1 e1
      have H := shp_st H T
      j_ifne (pc := 4) D rfl (fun q D =>
        j_bp (pc := 7) D rfl fun D =>
        j_iret D rt_470) (fun q =>
        have D : fk_D 470 [(10, none, .aload_n 0, 1, 0, 0, 0), (11, none, .getfield 529, 3, 227, 100, 12), (14, none, .iload_n 1, 1, 0, 0, 0), (15, none, .aaload, 1, 0, 0, 0), (16, none, .aload_n 0, 1, 0, 0, 0), (17, none, .getfield 529, 3, 227, 100, 12), (20, none, .iconst 0, 1, 0, 0, 0), (21, none, .aaload, 1, 0, 0, 0), (22, none, .invokevirtual 1092, 3, 1, 198, 0), (25, none, .aload_n 0, 1, 0, 0, 0), (26, none, .dup, 1, 0, 0, 0), (27, none, .getfield 867, 3, 233, 100, 10), (30, none, .iconst 1, 1, 0, 1, 0), (31, none, .iadd, 1, 0, 0, 0), (32, none, .putfield 867, 3, 233, 100, 10), (35, none, .aload_n 0, 1, 0, 0, 0), (36, none, .getfield 529, 3, 227, 100, 12), (39, none, .iload_n 1, 1, 0, 0, 0), (40, none, .aaload, 1, 0, 0, 0), (41, none, .getfield 1095, 3, 190, (-110), 10)] := fq_of2 cd_470 ow_470 cl_470 rfl (pc := 10) (by decide +kernel)
        j_aldn (pc := 10) D rfl rfl rfl fun D =>
        j_gfc (pc := 11) (a := 303) D rfl rfl (by decide) rfl (s0_303 H) rfl (sf_227_303 H) fun D =>
        j_ildn (pc := 14) D rfl rfl rfl fun D =>
        j_al (pc := 15) (a := 354) (e := 12) D rfl rfl rfl (by decide) (s0_354 H) (s1_354 H) ⟨rfl, rfl, rfl⟩ rfl gn fun qb4 D =>
        j_aldn (pc := 16) D rfl rfl rfl fun D =>
        j_gfc (pc := 17) (a := 303) D rfl rfl (by decide) rfl (s0_303 H) rfl (sf_227_303 H) fun D =>
        j_ic (pc := 20) D rfl fun D =>
        j_al (pc := 21) (a := 354) (e := 12) D rfl rfl rfl (by decide) (s0_354 H) (s1_354 H) ⟨rfl, rfl, rfl⟩ rfl (gy (by decide)) fun q D =>
        j_ivuv (pc := 22) (dd := 198) (a := [(4, h1 12 354 0)]) (rest := []) H.2.1 D rfl rfl rfl rfl rfl (fun m8 h5 e1 D =>
          have T := fj_run_ok _ _ _ _ _ _ H.1 e1
          have H := shp_st H T
          j_aldn (pc := 25) D rfl rfl rfl fun D =>
          j_sh (pc := 26) D rfl rfl rfl fun D =>
          j_gf (pc := 27) (a := 303) D rfl rfl (by decide) rfl (s0_303 H) rfl fun D =>
          j_ic (pc := 30) D rfl fun D =>
          j_iadd (pc := 31) D rfl fun D =>
          j_pf (pc := 32) (a := 303) D rfl rfl rfl (s0_303 H) rfl rfl (gy (by decide)) (gy rfl) fun h9 eh9 S D =>
          have T := fj_hs_ok H.1 S
          have H := shp_st H T
          j_aldn (pc := 35) D rfl rfl rfl fun D =>
          j_gfc (pc := 36) (a := 303) D rfl rfl (by decide) rfl (s0_303 H) rfl (sf_227_303 H) fun D =>
          j_ildn (pc := 39) D rfl rfl rfl fun D =>
          j_al (pc := 40) (a := 354) (e := 12) D rfl rfl rfl (by decide) (s0_354 H) (s1_354 H) ⟨rfl, rfl, rfl⟩ rfl (gy qb4) fun q D =>
          j_gfo (pc := 41) H.2.1 D rfl rfl rfl rfl fun kc10 D =>
          have D : fk_D 470 [(44, none, .ireturn, 1, 0, 0, 0)] := fq_of2 cd_470 ow_470 cl_470 rfl (pc := 44) (by decide +kernel)
          j_iret D rt_470) (fun m8 q7 h5 e1 =>
          j_tx (hx_470 _)))) (fun q3 h1 e1 =>
      j_tx (hx_470 _))
/-! 471 StatuteHouse.isDraft(I)Z -/
theorem cd_471 : fi_code 471 = prog_1_method_116_code := rfl
theorem hx_471 : ∀ pc, fi_hat 471 pc = none := fun pc => by unfold fi_hat; rw [show fi_hh 471 = [] from rfl]; rfl
theorem rt_471 : fi_ret 471 = some .boolean := rfl
theorem nl_471 : fi_nl 471 = 1 := rfl
theorem ow_471 : fi_ow 471 = 0 := rfl
theorem cl_471 : fj_cutT.getD 471 [] = [] := rfl
theorem m_471 (d : Nat) (x0 : Int) {h : fi_H} (H : Shp h) : fj_run (d + 1) 471 h [(0, x0)] =
  if 0 < x0 then
    if x0 < 4 then
      some (.inl (some (0, 1)), h)
    else
      some (.inl (some (0, 0)), h)
  else
    some (.inl (some (0, 0)), h) := by
  rw [fj_run_eq d (by decide) h [(0, x0)] (Nat.le_of_ble_eq_true (by rw [nl_471]; rfl))]
  show gG (fj_run d) 471 0 [(0, (0, x0))] [] h = _
  exact
    have D : fk_D 471 [(0, none, .iload_n 0, 1, 0, 0, 0), (1, none, .ifCond .le 12, 3, 13, 0, 0), (4, none, .iload_n 0, 1, 0, 0, 0), (5, none, .iconst 4, 1, 0, 4, 0), (6, none, .if_icmp .ge 7, 3, 13, 0, 0), (9, none, .iconst 1, 1, 0, 1, 0), (10, none, .goto 4, 3, 14, 0, 0)] := fq_of2 cd_471 ow_471 cl_471 rfl (pc := 0) (by decide +kernel)
    j_ildn (pc := 0) D rfl rfl rfl fun D =>
    j_ifle (pc := 1) D rfl (fun q D =>
      j_ildn (pc := 4) D rfl rfl rfl fun D =>
      j_ic (pc := 5) D rfl fun D =>
      j_ige (pc := 6) D rfl (fun q D =>
        j_ic (pc := 9) D rfl fun D =>
        j_goto (pc := 10) D rfl <|
        have D : fk_D 471 [(14, none, .ireturn, 1, 0, 0, 0)] := fq_of2 cd_471 ow_471 cl_471 rfl (pc := 14) (by decide +kernel)
        j_zret D rt_471 (gy (by decide))) (fun q =>
        have D : fk_D 471 [(13, none, .iconst 0, 1, 0, 0, 0), (14, none, .ireturn, 1, 0, 0, 0)] := fq_of2 cd_471 ow_471 cl_471 rfl (pc := 13) (by decide +kernel)
        j_ic (pc := 13) D rfl fun D =>
        j_zret D rt_471 (gy (by decide)))) (fun q =>
      have D : fk_D 471 [(13, none, .iconst 0, 1, 0, 0, 0), (14, none, .ireturn, 1, 0, 0, 0)] := fq_of2 cd_471 ow_471 cl_471 rfl (pc := 13) (by decide +kernel)
      j_ic (pc := 13) D rfl fun D =>
      j_zret D rt_471 (gy (by decide)))
/-! 472 StatuteHouse$Law.become(LStatuteHouse$Law;)V -/
theorem cd_472 : fi_code 472 = prog_40_method_4_code := rfl
theorem hx_472 : ∀ pc, fi_hat 472 pc = none := fun pc => by unfold fi_hat; rw [show fi_hh 472 = [] from rfl]; rfl
theorem rt_472 : fi_ret 472 = none := rfl
theorem nl_472 : fi_nl 472 = 3 := rfl
theorem ow_472 : fi_ow 472 = 10 := rfl
theorem cl_472 : fj_cutT.getD 472 [] = [(2, [0, 1, 2]), (68, [])] := rfl
theorem cut_472_2 : fj_cut 472 2 = some [0, 1, 2] := by decide +kernel
noncomputable def c_472_2 (d : Nat) (x0 x1 x2 : Int) (h : fi_H) : fk_R := gG (fj_run d) 472 2 [(0, (4, x0)), (1, (4, x1)), (2, (0, x2))] [] h
theorem cut_472_68 : fj_cut 472 68 = some [] := by decide +kernel
noncomputable def c_472_68 (d : Nat) (h : fi_H) : fk_R := gG (fj_run d) 472 68 [] [] h
theorem e_472_2 (d : Nat) (x0 x1 x2 : Int) {h : fi_H} (H : Shp h) (hk : h 0 x0.toNat 0 = 110) : c_472_2 d x0 x1 x2 h =
  if h 0 x1.toNat 0 = 110 then
  if x2 < h 190 x1.toNat 0 then
    if (20 ≤ h 0 (h 187 x1.toNat 0).toNat 0 ∧ h 0 (h 187 x1.toNat 0).toNat 0 < 30) ∧ 0 ≤ x2 ∧ x2 < h 1 (h 187 x1.toNat 0).toNat 0 then
    if 302 < h 187 x0.toNat 0 ∧ (20 ≤ h 0 (h 187 x0.toNat 0).toNat 0 ∧ h 0 (h 187 x0.toNat 0).toNat 0 < 30) then
    if 0 ≤ x2 ∧ x2 < h 1 (h 187 x0.toNat 0).toNat 0 then
    if h 0 (h 187 x0.toNat 0).toNat 0 ≠ 28 ∧ (h 12 (h 187 x1.toNat 0).toNat x2.toNat = 0 ∨ (fi_sup (h 0 (h 12 (h 187 x1.toNat 0).toNat x2.toNat).toNat 0)).contains (fi_comp (h 0 (h 187 x0.toNat 0).toNat 0)) = true) then
    lt_ (fi_upd h 12 (h 187 x0.toNat 0).toNat x2.toNat (h 12 (h 187 x1.toNat 0).toNat x2.toNat)) fun h2 =>
    if h2 0 (h2 188 x1.toNat 0).toNat 0 = 5 ∧ 0 ≤ x2 ∧ x2 < h2 1 (h2 188 x1.toNat 0).toNat 0 then
    if 302 < h2 188 x0.toNat 0 ∧ h2 0 (h2 188 x0.toNat 0).toNat 0 = 5 then
    if 0 ≤ x2 ∧ x2 < h2 1 (h2 188 x0.toNat 0).toNat 0 then
    if fi_rg 5 (h2 5 (h2 188 x1.toNat 0).toNat x2.toNat) = true then
    lt_ (fi_upd h2 5 (h2 188 x0.toNat 0).toNat x2.toNat (h2 5 (h2 188 x1.toNat 0).toNat x2.toNat)) fun h3 =>
    if h3 0 (h3 189 x1.toNat 0).toNat 0 = 9 ∧ 0 ≤ x2 ∧ x2 < h3 1 (h3 189 x1.toNat 0).toNat 0 then
    if 302 < h3 189 x0.toNat 0 ∧ h3 0 (h3 189 x0.toNat 0).toNat 0 = 9 then
    if 0 ≤ x2 ∧ x2 < h3 1 (h3 189 x0.toNat 0).toNat 0 then
    if fi_rg 9 (h3 9 (h3 189 x1.toNat 0).toNat x2.toNat) = true then
    lt_ (fi_upd h3 9 (h3 189 x0.toNat 0).toNat x2.toNat (h3 9 (h3 189 x1.toNat 0).toNat x2.toNat)) fun h4 =>
    c_472_2 d x0 x1 (wI (x2 + 1)) h4
    else none
    else none
    else none
    else none
    else none
    else none
    else none
    else none
    else none
    else none
    else none
    else none
  else
    if 302 < x0 then
    lt_ (fi_upd h 190 x0.toNat 0 (h 190 x1.toNat 0)) fun h5 =>
    if 302 < x0 then
    lt_ (fi_upd h5 191 x0.toNat 0 (h5 190 x0.toNat 0)) fun h6 =>
    c_472_68 d h6
    else none
    else none
  else none := by
  unfold c_472_2
  exact
    have D : fk_D 472 [(2, some [0, 1, 2], .iload_n 2, 1, 0, 0, 0), (3, none, .aload_n 1, 1, 0, 0, 0), (4, none, .getfield 25, 3, 190, (-110), 10), (7, none, .if_icmp .ge 45, 3, 52, 0, 0), (10, none, .aload_n 0, 1, 0, 0, 0), (11, none, .getfield 11, 3, 187, 110, 12), (14, none, .iload_n 2, 1, 0, 0, 0), (15, none, .aload_n 1, 1, 0, 0, 0), (16, none, .getfield 11, 3, 187, 110, 12), (19, none, .iload_n 2, 1, 0, 0, 0), (20, none, .aaload, 1, 0, 0, 0), (21, none, .aastore, 1, 0, 0, 0), (22, none, .aload_n 0, 1, 0, 0, 0), (23, none, .getfield 17, 3, 188, 110, 12), (26, none, .iload_n 2, 1, 0, 0, 0), (27, none, .aload_n 1, 1, 0, 0, 0), (28, none, .getfield 17, 3, 188, 110, 12), (31, none, .iload_n 2, 1, 0, 0, 0), (32, none, .caload, 1, 0, 0, 0), (33, none, .castore, 1, 0, 0, 0)] := fq_of2 cd_472 ow_472 cl_472 rfl (pc := 2) (by decide +kernel)
    j_ildn (pc := 2) D rfl rfl rfl fun D =>
    j_aldn (pc := 3) D rfl rfl rfl fun D =>
    j_gfo (pc := 4) H.2.1 D rfl rfl rfl rfl fun kc1 D =>
    j_ige (pc := 7) D rfl (fun q D =>
      j_aldn (pc := 10) D rfl rfl rfl fun D =>
      j_gf (pc := 11) (a := x0.toNat) D rfl rfl (nz_cls H.2.1 hk (by decide)) rfl hk rfl fun D =>
      j_ildn (pc := 14) D rfl rfl rfl fun D =>
      j_aldn (pc := 15) D rfl rfl rfl fun D =>
      j_gf (pc := 16) (a := x1.toNat) D rfl rfl (nz_cls H.2.1 kc1 (by decide)) rfl kc1 rfl fun D =>
      j_ildn (pc := 19) D rfl rfl rfl fun D =>
      j_alr (pc := 20) H.2.1 D rfl rfl fun q q2 D =>
      j_asur (pc := 21) D rfl rfl gn gn gn fun h2 eh2 S q q2 D =>
      have T := fj_hs_ok H.1 S
      have hk := cls_st H.1 T.2 hk (by decide)
      have kc1 := cls_st H.1 T.2 kc1 (by decide)
      have H := shp_st H T
      j_aldn (pc := 22) D rfl rfl rfl fun D =>
      j_gf (pc := 23) (a := x0.toNat) D rfl rfl (nz_cls H.2.1 hk (by decide)) rfl hk rfl fun D =>
      j_ildn (pc := 26) D rfl rfl rfl fun D =>
      j_aldn (pc := 27) D rfl rfl rfl fun D =>
      j_gf (pc := 28) (a := x1.toNat) D rfl rfl (nz_cls H.2.1 kc1 (by decide)) rfl kc1 rfl fun D =>
      j_ildn (pc := 31) D rfl rfl rfl fun D =>
      j_alp (pc := 32) (e := 5) H.2.1 D rfl rfl ⟨rfl, rfl, rfl⟩ rfl fun q q2 D =>
      j_asu (pc := 33) (e := 5) D rfl rfl ⟨rfl, rfl, rfl⟩ rfl gn gn gn fun h3 eh3 S q q2 D =>
      have T := fj_hs_ok H.1 S
      have hk := cls_st H.1 T.2 hk (by decide)
      have kc1 := cls_st H.1 T.2 kc1 (by decide)
      have H := shp_st H T
      have D : fk_D 472 [(34, none, .aload_n 0, 1, 0, 0, 0), (35, none, .getfield 21, 3, 189, 110, 12), (38, none, .iload_n 2, 1, 0, 0, 0), (39, none, .aload_n 1, 1, 0, 0, 0), (40, none, .getfield 21, 3, 189, 110, 12), (43, none, .iload_n 2, 1, 0, 0, 0), (44, none, .saload, 1, 0, 0, 0), (45, none, .sastore, 1, 0, 0, 0), (46, none, .iinc 2 1, 3, 0, 1, 0), (49, none, .goto (-47), 3, 2, 0, 0)] := fq_of2 cd_472 ow_472 cl_472 rfl (pc := 34) (by decide +kernel)
      j_aldn (pc := 34) D rfl rfl rfl fun D =>
      j_gf (pc := 35) (a := x0.toNat) D rfl rfl (nz_cls H.2.1 hk (by decide)) rfl hk rfl fun D =>
      j_ildn (pc := 38) D rfl rfl rfl fun D =>
      j_aldn (pc := 39) D rfl rfl rfl fun D =>
      j_gf (pc := 40) (a := x1.toNat) D rfl rfl (nz_cls H.2.1 kc1 (by decide)) rfl kc1 rfl fun D =>
      j_ildn (pc := 43) D rfl rfl rfl fun D =>
      j_alp (pc := 44) (e := 9) H.2.1 D rfl rfl ⟨rfl, rfl, rfl⟩ rfl fun q q2 D =>
      j_asu (pc := 45) (e := 9) D rfl rfl ⟨rfl, rfl, rfl⟩ rfl gn gn gn fun h4 eh4 S q q2 D =>
      have T := fj_hs_ok H.1 S
      have hk := cls_st H.1 T.2 hk (by decide)
      have kc1 := cls_st H.1 T.2 kc1 (by decide)
      have H := shp_st H T
      j_inc (pc := 46) (L' := [(2, (0, wI (x2 + 1))), (0, (4, x0)), (1, (4, x1))]) D rfl rfl rfl (by decide +kernel) rfl fun D =>
      j_goto (pc := 49) D rfl <|
      fk_jump cut_472_2 rfl rfl) (fun q =>
      have D : fk_D 472 [(52, none, .aload_n 0, 1, 0, 0, 0), (53, none, .aload_n 1, 1, 0, 0, 0), (54, none, .getfield 25, 3, 190, 110, 10), (57, none, .putfield 25, 3, 190, 110, 10), (60, none, .aload_n 0, 1, 0, 0, 0), (61, none, .aload_n 0, 1, 0, 0, 0), (62, none, .getfield 25, 3, 190, 110, 10), (65, none, .putfield 39, 3, 191, 110, 10)] := fq_of2 cd_472 ow_472 cl_472 rfl (pc := 52) (by decide +kernel)
      j_aldn (pc := 52) D rfl rfl rfl fun D =>
      j_aldn (pc := 53) D rfl rfl rfl fun D =>
      j_gf (pc := 54) (a := x1.toNat) D rfl rfl (nz_cls H.2.1 kc1 (by decide)) rfl kc1 rfl fun D =>
      j_pf (pc := 57) (a := x0.toNat) D rfl rfl rfl hk rfl rfl gn (gy rfl) fun h5 eh5 S D =>
      have T := fj_hs_ok H.1 S
      have hk := cls_st H.1 T.2 hk (by decide)
      have kc1 := cls_st H.1 T.2 kc1 (by decide)
      have H := shp_st H T
      j_aldn (pc := 60) D rfl rfl rfl fun D =>
      j_aldn (pc := 61) D rfl rfl rfl fun D =>
      j_gf (pc := 62) (a := x0.toNat) D rfl rfl (nz_cls H.2.1 hk (by decide)) rfl hk rfl fun D =>
      j_pf (pc := 65) (a := x0.toNat) D rfl rfl rfl hk rfl rfl gn (gy rfl) fun h6 eh6 S D =>
      have T := fj_hs_ok H.1 S
      have hk := cls_st H.1 T.2 hk (by decide)
      have kc1 := cls_st H.1 T.2 kc1 (by decide)
      have H := shp_st H T
      fk_jump cut_472_68 rfl rfl)
theorem e_472_68 (d : Nat) {h : fi_H} (H : Shp h) : c_472_68 d h =
  some (.inl none, h) := by
  unfold c_472_68
  exact
    have D : fk_D 472 [(68, some [], .return_, 1, 0, 0, 0)] := fq_of2 cd_472 ow_472 cl_472 rfl (pc := 68) (by decide +kernel)
    j_vret D rt_472
theorem m_472 (d : Nat) (x0 x1 : Int) {h : fi_H} (H : Shp h) (hk : h 0 x0.toNat 0 = 110) : fj_run (d + 1) 472 h [(4, x0), (4, x1)] =
  c_472_2 d x0 x1 0 h := by
  rw [fj_run_eq d (by decide) h [(4, x0), (4, x1)] (Nat.le_of_ble_eq_true (by rw [nl_472]; rfl))]
  show gG (fj_run d) 472 0 [(0, (4, x0)), (1, (4, x1))] [] h = _
  exact
    have D : fk_D 472 [(0, none, .iconst 0, 1, 0, 0, 0), (1, none, .istore_n 2, 1, 0, 0, 0)] := fq_of2 cd_472 ow_472 cl_472 rfl (pc := 0) (by decide +kernel)
    j_ic (pc := 0) D rfl fun D =>
    j_istn (pc := 1) (L' := [(2, (0, 0)), (0, (4, x0)), (1, (4, x1))]) D rfl nl_472 rfl rfl fun D =>
    fk_jump cut_472_2 rfl rfl
/-! 473 StatuteHouse.adopt(I)I -/
theorem cd_473 : fi_code 473 = prog_1_method_118_code := rfl
theorem hx_473 : ∀ pc, fi_hat 473 pc = none := fun pc => by unfold fi_hat; rw [show fi_hh 473 = [] from rfl]; rfl
theorem rt_473 : fi_ret 473 = some .int := rfl
theorem nl_473 : fi_nl 473 = 5 := rfl
theorem ow_473 : fi_ow 473 = 0 := rfl
theorem cl_473 : fj_cutT.getD 473 [] = [(53, [0, 2, 3, 4])] := rfl
theorem cut_473_53 : fj_cut 473 53 = some [0, 2, 3, 4] := by decide +kernel
noncomputable def c_473_53 (d : Nat) (x2 x3 x4 : Int) (h : fi_H) : fk_R := gG (fj_run d) 473 53 [(0, (4, 303)), (2, (4, x2)), (3, (0, x3)), (4, (0, x4))] [] h
theorem e_473_53 (d : Nat) (x2 x3 x4 : Int) {h : fi_H} (H : Shp h) : c_473_53 d x2 x3 x4 h =
  if h 0 x2.toNat 0 = 110 then
  if x4 < h 190 x2.toNat 0 then
    if (20 ≤ h 0 (h 187 x2.toNat 0).toNat 0 ∧ h 0 (h 187 x2.toNat 0).toNat 0 < 30) ∧ 0 ≤ x4 ∧ x4 < h 1 (h 187 x2.toNat 0).toNat 0 then
    dv_ (fi_vt 166 (h 0 (h 12 354 0).toNat 0)) fun m5 => cv_ (fj_run d m5 h [(4, h 12 354 0), (4, h 12 (h 187 x2.toNat 0).toNat x4.toNat), (0, h 239 303 0)])
      (fun h2 =>
      c_473_53 d x2 x3 (wI (x4 + 1)) h2)
      (fun q4 h2 => tx_ q4 h2)
    else none
  else
    if 302 < x2 then
    lt_ (fi_upd h 191 x2.toNat 0 (h 190 x2.toNat 0)) fun h6 =>
    lt_ (fi_upd h6 233 303 0 (wI ((h6 233 303 0) + 1))) fun h7 =>
    some (.inl (some (0, x3)), h7)
    else none
  else none := by
  unfold c_473_53
  exact
    have D : fk_D 473 [(53, some [0, 2, 3, 4], .iload 4, 2, 0, 0, 0), (55, none, .aload_n 2, 1, 0, 0, 0), (56, none, .getfield 1095, 3, 190, (-110), 10), (59, none, .if_icmp .ge 29, 3, 88, 0, 0), (62, none, .aload_n 0, 1, 0, 0, 0), (63, none, .getfield 529, 3, 227, 100, 12), (66, none, .iconst 0, 1, 0, 0, 0), (67, none, .aaload, 1, 0, 0, 0), (68, none, .aload_n 2, 1, 0, 0, 0), (69, none, .getfield 1099, 3, 187, 110, 12), (72, none, .iload 4, 2, 0, 0, 0), (74, none, .aaload, 1, 0, 0, 0), (75, none, .aload_n 0, 1, 0, 0, 0), (76, none, .getfield 615, 3, 239, 100, 10), (79, none, .invokevirtual 843, 3, 2, 166, 0), (82, none, .iinc 4 1, 3, 0, 1, 0), (85, none, .goto (-32), 3, 53, 0, 0)] := fq_of2 cd_473 ow_473 cl_473 rfl (pc := 53) (by decide +kernel)
    j_ild (pc := 53) D rfl rfl rfl fun D =>
    j_aldn (pc := 55) D rfl rfl rfl fun D =>
    j_gfo (pc := 56) H.2.1 D rfl rfl rfl rfl fun kc1 D =>
    j_ige (pc := 59) D rfl (fun q D =>
      j_aldn (pc := 62) D rfl rfl rfl fun D =>
      j_gfc (pc := 63) (a := 303) D rfl rfl (by decide) rfl (s0_303 H) rfl (sf_227_303 H) fun D =>
      j_ic (pc := 66) D rfl fun D =>
      j_al (pc := 67) (a := 354) (e := 12) D rfl rfl rfl (by decide) (s0_354 H) (s1_354 H) ⟨rfl, rfl, rfl⟩ rfl (gy (by decide)) fun q D =>
      j_aldn (pc := 68) D rfl rfl rfl fun D =>
      j_gf (pc := 69) (a := x2.toNat) D rfl rfl (nz_cls H.2.1 kc1 (by decide)) rfl kc1 rfl fun D =>
      j_ild (pc := 72) D rfl rfl rfl fun D =>
      j_alr (pc := 74) H.2.1 D rfl rfl fun q q2 D =>
      j_aldn (pc := 75) D rfl rfl rfl fun D =>
      j_gf (pc := 76) (a := 303) D rfl rfl (by decide) rfl (s0_303 H) rfl fun D =>
      j_ivuv (pc := 79) (dd := 166) (a := [(4, h 12 (h 187 x2.toNat 0).toNat x4.toNat), (0, h 239 303 0)]) (rest := []) H.2.1 D rfl rfl rfl rfl rfl (fun m5 h2 e1 D =>
        have T := fj_run_ok _ _ _ _ _ _ H.1 e1
        have kc1 := cls_st H.1 T.2 kc1 (by decide)
        have H := shp_st H T
        j_inc (pc := 82) (L' := [(4, (0, wI (x4 + 1))), (0, (4, 303)), (2, (4, x2)), (3, (0, x3))]) D rfl rfl rfl (by decide +kernel) rfl fun D =>
        j_goto (pc := 85) D rfl <|
        fk_jump cut_473_53 rfl rfl) (fun m5 q4 h2 e1 =>
        j_tx (hx_473 _))) (fun q =>
      have D : fk_D 473 [(88, none, .aload_n 2, 1, 0, 0, 0), (89, none, .aload_n 2, 1, 0, 0, 0), (90, none, .getfield 1095, 3, 190, 110, 10), (93, none, .putfield 1096, 3, 191, 110, 10), (96, none, .aload_n 0, 1, 0, 0, 0), (97, none, .dup, 1, 0, 0, 0), (98, none, .getfield 867, 3, 233, 100, 10), (101, none, .iconst 1, 1, 0, 1, 0), (102, none, .iadd, 1, 0, 0, 0), (103, none, .putfield 867, 3, 233, 100, 10), (106, none, .iload_n 3, 1, 0, 0, 0), (107, none, .ireturn, 1, 0, 0, 0)] := fq_of2 cd_473 ow_473 cl_473 rfl (pc := 88) (by decide +kernel)
      j_aldn (pc := 88) D rfl rfl rfl fun D =>
      j_aldn (pc := 89) D rfl rfl rfl fun D =>
      j_gf (pc := 90) (a := x2.toNat) D rfl rfl (nz_cls H.2.1 kc1 (by decide)) rfl kc1 rfl fun D =>
      j_pf (pc := 93) (a := x2.toNat) D rfl rfl rfl kc1 rfl rfl gn (gy rfl) fun h6 eh6 S D =>
      have T := fj_hs_ok H.1 S
      have kc1 := cls_st H.1 T.2 kc1 (by decide)
      have H := shp_st H T
      j_aldn (pc := 96) D rfl rfl rfl fun D =>
      j_sh (pc := 97) D rfl rfl rfl fun D =>
      j_gf (pc := 98) (a := 303) D rfl rfl (by decide) rfl (s0_303 H) rfl fun D =>
      j_ic (pc := 101) D rfl fun D =>
      j_iadd (pc := 102) D rfl fun D =>
      j_pf (pc := 103) (a := 303) D rfl rfl rfl (s0_303 H) rfl rfl (gy (by decide)) (gy rfl) fun h7 eh7 S D =>
      have T := fj_hs_ok H.1 S
      have kc1 := cls_st H.1 T.2 kc1 (by decide)
      have H := shp_st H T
      j_ildn (pc := 106) D rfl rfl rfl fun D =>
      j_iret D rt_473)
theorem m_473 (d : Nat) (x1 : Int) {h : fi_H} (H : Shp h) : fj_run (d + 1) 473 h [(4, 303), (0, x1)] =
  ca_ (fj_run d 471 h [(0, x1)]) 0
    (fun v2 h1 =>
    if v2 = 0 then
      some (.inl (some (0, (-2))), h1)
    else
      if 0 ≤ x1 ∧ x1 < 4 then
      if h1 0 (h1 12 354 x1.toNat).toNat 0 = 110 then
      lt_ (wI ((h1 190 (h1 12 354 x1.toNat).toNat 0) - (h1 191 (h1 12 354 x1.toNat).toNat 0))) fun y6 =>
      if h1 0 (h1 12 354 0).toNat 0 = 110 then
      if 200 < wI ((h1 190 (h1 12 354 0).toNat 0) + y6) then
        some (.inl (some (0, (-4))), h1)
      else
        c_473_53 d (h1 12 354 x1.toNat) y6 (h1 191 (h1 12 354 x1.toNat).toNat 0) h1
      else none
      else none
      else none)
    (fun q3 h1 => tx_ q3 h1) := by
  rw [fj_run_eq d (by decide) h [(4, 303), (0, x1)] (Nat.le_of_ble_eq_true (by rw [nl_473]; rfl))]
  show gG (fj_run d) 473 0 [(0, (4, 303)), (1, (0, x1))] [] h = _
  exact
    have D : fk_D 473 [(0, none, .iload_n 1, 1, 0, 0, 0), (1, none, .invokestatic 1089, 3, 1, 471, 1), (4, none, .ifCond .ne 6, 3, 10, 0, 0), (7, none, .bipush (-2), 2, 0, (-2), 0), (9, none, .ireturn, 1, 0, 0, 0)] := fq_of2 cd_473 ow_473 cl_473 rfl (pc := 0) (by decide +kernel)
    j_ildn (pc := 0) D rfl rfl rfl fun D =>
    j_is (pc := 1) (m := 471) (a := [(0, x1)]) (rest := []) D rfl rfl rfl rfl (fun v2 h1 e1 D =>
      have T := fj_run_ok _ _ _ _ _ _ H.1 e1
      have H := shp_st H T
      j_ifne (pc := 4) D rfl (fun q D =>
        j_bp (pc := 7) D rfl fun D =>
        j_iret D rt_473) (fun q =>
        have D : fk_D 473 [(10, none, .aload_n 0, 1, 0, 0, 0), (11, none, .getfield 529, 3, 227, 100, 12), (14, none, .iload_n 1, 1, 0, 0, 0), (15, none, .aaload, 1, 0, 0, 0), (16, none, .astore_n 2, 1, 0, 0, 0), (17, none, .aload_n 2, 1, 0, 0, 0), (18, none, .getfield 1095, 3, 190, (-110), 10), (21, none, .aload_n 2, 1, 0, 0, 0), (22, none, .getfield 1096, 3, 191, 110, 10), (25, none, .isub, 1, 0, 0, 0), (26, none, .istore_n 3, 1, 0, 0, 0), (27, none, .aload_n 0, 1, 0, 0, 0), (28, none, .getfield 529, 3, 227, 100, 12), (31, none, .iconst 0, 1, 0, 0, 0), (32, none, .aaload, 1, 0, 0, 0), (33, none, .getfield 1095, 3, 190, (-110), 10), (36, none, .iload_n 3, 1, 0, 0, 0), (37, none, .iadd, 1, 0, 0, 0), (38, none, .sipush 200, 3, 0, 200, 0), (41, none, .if_icmp .le 6, 3, 47, 0, 0)] := fq_of2 cd_473 ow_473 cl_473 rfl (pc := 10) (by decide +kernel)
        j_aldn (pc := 10) D rfl rfl rfl fun D =>
        j_gfc (pc := 11) (a := 303) D rfl rfl (by decide) rfl (s0_303 H) rfl (sf_227_303 H) fun D =>
        j_ildn (pc := 14) D rfl rfl rfl fun D =>
        j_al (pc := 15) (a := 354) (e := 12) D rfl rfl rfl (by decide) (s0_354 H) (s1_354 H) ⟨rfl, rfl, rfl⟩ rfl gn fun qb4 D =>
        j_astn (pc := 16) (L' := [(2, (4, h1 12 354 x1.toNat)), (0, (4, 303)), (1, (0, x1))]) D rfl nl_473 rfl rfl fun D =>
        j_aldn (pc := 17) D rfl rfl rfl fun D =>
        j_gfo (pc := 18) H.2.1 D rfl rfl rfl rfl fun kc5 D =>
        j_aldn (pc := 21) D rfl rfl rfl fun D =>
        j_gf (pc := 22) (a := (h1 12 354 x1.toNat).toNat) D rfl rfl (nz_cls H.2.1 kc5 (by decide)) rfl kc5 rfl fun D =>
        j_isub (pc := 25) D rfl fun D =>
        j_stl (pc := 26) (L' := fun y6 => [(3, (0, y6)), (2, (4, h1 12 354 x1.toNat)), (0, (4, 303)), (1, (0, x1))]) D rfl ⟨rfl, rfl, rfl, rfl⟩ nl_473 rfl (fun _ => rfl) fun y6 ey6 D =>
        j_aldn (pc := 27) D rfl rfl rfl fun D =>
        j_gfc (pc := 28) (a := 303) D rfl rfl (by decide) rfl (s0_303 H) rfl (sf_227_303 H) fun D =>
        j_ic (pc := 31) D rfl fun D =>
        j_al (pc := 32) (a := 354) (e := 12) D rfl rfl rfl (by decide) (s0_354 H) (s1_354 H) ⟨rfl, rfl, rfl⟩ rfl (gy (by decide)) fun q D =>
        j_gfo (pc := 33) H.2.1 D rfl rfl rfl rfl fun kc7 D =>
        j_ildn (pc := 36) D rfl rfl rfl fun D =>
        j_iadd (pc := 37) D rfl fun D =>
        j_sp (pc := 38) D rfl fun D =>
        j_ile (pc := 41) D rfl (fun q D =>
          have D : fk_D 473 [(44, none, .bipush (-4), 2, 0, (-4), 0), (46, none, .ireturn, 1, 0, 0, 0)] := fq_of2 cd_473 ow_473 cl_473 rfl (pc := 44) (by decide +kernel)
          j_bp (pc := 44) D rfl fun D =>
          j_iret D rt_473) (fun q =>
          have D : fk_D 473 [(47, none, .aload_n 2, 1, 0, 0, 0), (48, none, .getfield 1096, 3, 191, 110, 10), (51, none, .istore 4, 2, 0, 0, 0)] := fq_of2 cd_473 ow_473 cl_473 rfl (pc := 47) (by decide +kernel)
          j_aldn (pc := 47) D rfl rfl rfl fun D =>
          j_gf (pc := 48) (a := (h1 12 354 x1.toNat).toNat) D rfl rfl (nz_cls H.2.1 kc5 (by decide)) rfl kc5 rfl fun D =>
          j_ist (pc := 51) (L' := [(4, (0, h1 191 (h1 12 354 x1.toNat).toNat 0)), (3, (0, y6)), (2, (4, h1 12 354 x1.toNat)), (0, (4, 303)), (1, (0, x1))]) D rfl nl_473 rfl rfl fun D =>
          fk_jump cut_473_53 rfl rfl))) (fun q3 h1 e1 =>
      j_tx (hx_473 _))
/-! 474 StatuteHouse.measure(IIII)I -/
theorem cd_474 : fi_code 474 = prog_1_method_119_code := rfl
theorem hx_474 : ∀ pc, fi_hat 474 pc = none := fun pc => by unfold fi_hat; rw [show fi_hh 474 = [] from rfl]; rfl
theorem rt_474 : fi_ret 474 = some .int := rfl
theorem nl_474 : fi_nl 474 = 15 := rfl
theorem ow_474 : fi_ow 474 = 0 := rfl
theorem cl_474 : fj_cutT.getD 474 [] = [(29, [0, 1, 2, 3, 4]), (53, [0, 1, 2, 3, 4, 5]), (86, [0, 1, 2, 3, 4, 5, 6, 8, 10]), (113, [0, 1, 2, 3, 4, 5, 6, 8, 10]), (133, [0, 1, 2, 3, 4, 5, 6, 8, 10, 11]), (163, [0, 1, 2, 3, 4, 5, 6, 8, 10, 12]), (165, [0, 1, 2, 3, 4, 5, 6, 8, 10, 11, 12]), (187, [0, 1, 2, 3, 4, 5, 6, 8, 10, 12, 14]), (229, [0, 1, 2, 3, 4, 5, 6, 8, 10, 12, 14]), (282, [0, 1, 2, 3, 4, 5, 6, 8, 10, 12]), (303, [0, 1, 2, 3, 4, 5, 6, 8, 10])] := rfl
theorem cut_474_29 : fj_cut 474 29 = some [0, 1, 2, 3, 4] := by decide +kernel
noncomputable def c_474_29 (d : Nat) (x1 x2 x3 x4 : Int) (h : fi_H) : fk_R := gG (fj_run d) 474 29 [(0, (4, 303)), (1, (0, x1)), (2, (0, x2)), (3, (0, x3)), (4, (0, x4))] [] h
theorem cut_474_53 : fj_cut 474 53 = some [0, 1, 2, 3, 4, 5] := by decide +kernel
noncomputable def c_474_53 (d : Nat) (x1 x2 x3 x4 x5 : Int) (h : fi_H) : fk_R := gG (fj_run d) 474 53 [(0, (4, 303)), (1, (0, x1)), (2, (0, x2)), (3, (0, x3)), (4, (0, x4)), (5, (0, x5))] [] h
theorem cut_474_86 : fj_cut 474 86 = some [0, 1, 2, 3, 4, 5, 6, 8, 10] := by decide +kernel
noncomputable def c_474_86 (d : Nat) (x1 x2 x3 x4 x5 x6 x8 x10 : Int) (h : fi_H) : fk_R := gG (fj_run d) 474 86 [(0, (4, 303)), (1, (0, x1)), (2, (0, x2)), (3, (0, x3)), (4, (0, x4)), (5, (0, x5)), (6, (3, x6)), (8, (3, x8)), (10, (0, x10))] [] h
theorem cut_474_113 : fj_cut 474 113 = some [0, 1, 2, 3, 4, 5, 6, 8, 10] := by decide +kernel
noncomputable def c_474_113 (d : Nat) (x1 x2 x3 x4 x5 x6 x8 x10 s0 : Int) (h : fi_H) : fk_R := gG (fj_run d) 474 113 [(0, (4, 303)), (1, (0, x1)), (2, (0, x2)), (3, (0, x3)), (4, (0, x4)), (5, (0, x5)), (6, (3, x6)), (8, (3, x8)), (10, (0, x10))] [(0, s0)] h
theorem cut_474_133 : fj_cut 474 133 = some [0, 1, 2, 3, 4, 5, 6, 8, 10, 11] := by decide +kernel
noncomputable def c_474_133 (d : Nat) (x1 x2 x3 x4 x5 x6 x8 x10 x11 s0 : Int) (h : fi_H) : fk_R := gG (fj_run d) 474 133 [(0, (4, 303)), (1, (0, x1)), (2, (0, x2)), (3, (0, x3)), (4, (0, x4)), (5, (0, x5)), (6, (3, x6)), (8, (3, x8)), (10, (0, x10)), (11, (0, x11))] [(1, s0)] h
theorem cut_474_163 : fj_cut 474 163 = some [0, 1, 2, 3, 4, 5, 6, 8, 10, 12] := by decide +kernel
noncomputable def c_474_163 (d : Nat) (x1 x2 x3 x4 x5 x6 x8 x10 x12 s0 : Int) (h : fi_H) : fk_R := gG (fj_run d) 474 163 [(0, (4, 303)), (1, (0, x1)), (2, (0, x2)), (3, (0, x3)), (4, (0, x4)), (5, (0, x5)), (6, (3, x6)), (8, (3, x8)), (10, (0, x10)), (12, (1, x12))] [(0, s0)] h
theorem cut_474_165 : fj_cut 474 165 = some [0, 1, 2, 3, 4, 5, 6, 8, 10, 11, 12] := by decide +kernel
noncomputable def c_474_165 (d : Nat) (x1 x2 x3 x4 x5 x6 x8 x10 x11 x12 : Int) (h : fi_H) : fk_R := gG (fj_run d) 474 165 [(0, (4, 303)), (1, (0, x1)), (2, (0, x2)), (3, (0, x3)), (4, (0, x4)), (5, (0, x5)), (6, (3, x6)), (8, (3, x8)), (10, (0, x10)), (11, (0, x11)), (12, (1, x12))] [] h
theorem cut_474_187 : fj_cut 474 187 = some [0, 1, 2, 3, 4, 5, 6, 8, 10, 12, 14] := by decide +kernel
noncomputable def c_474_187 (d : Nat) (x1 x2 x3 x4 x5 x6 x8 x10 x12 x14 : Int) (h : fi_H) : fk_R := gG (fj_run d) 474 187 [(0, (4, 303)), (1, (0, x1)), (2, (0, x2)), (3, (0, x3)), (4, (0, x4)), (5, (0, x5)), (6, (3, x6)), (8, (3, x8)), (10, (0, x10)), (12, (1, x12)), (14, (0, x14))] [] h
theorem cut_474_229 : fj_cut 474 229 = some [0, 1, 2, 3, 4, 5, 6, 8, 10, 12, 14] := by decide +kernel
noncomputable def c_474_229 (d : Nat) (x1 x2 x3 x4 x5 x6 x8 x10 x12 x14 : Int) (h : fi_H) : fk_R := gG (fj_run d) 474 229 [(0, (4, 303)), (1, (0, x1)), (2, (0, x2)), (3, (0, x3)), (4, (0, x4)), (5, (0, x5)), (6, (3, x6)), (8, (3, x8)), (10, (0, x10)), (12, (1, x12)), (14, (0, x14))] [] h
theorem cut_474_282 : fj_cut 474 282 = some [0, 1, 2, 3, 4, 5, 6, 8, 10, 12] := by decide +kernel
noncomputable def c_474_282 (d : Nat) (x1 x2 x3 x4 x5 x6 x8 x10 x12 : Int) (h : fi_H) : fk_R := gG (fj_run d) 474 282 [(0, (4, 303)), (1, (0, x1)), (2, (0, x2)), (3, (0, x3)), (4, (0, x4)), (5, (0, x5)), (6, (3, x6)), (8, (3, x8)), (10, (0, x10)), (12, (1, x12))] [] h
theorem cut_474_303 : fj_cut 474 303 = some [0, 1, 2, 3, 4, 5, 6, 8, 10] := by decide +kernel
noncomputable def c_474_303 (d : Nat) (x1 x2 x3 x4 x5 x6 x8 x10 : Int) (h : fi_H) : fk_R := gG (fj_run d) 474 303 [(0, (4, 303)), (1, (0, x1)), (2, (0, x2)), (3, (0, x3)), (4, (0, x4)), (5, (0, x5)), (6, (3, x6)), (8, (3, x8)), (10, (0, x10))] [] h
theorem e_474_29 (d : Nat) (x1 x2 x3 x4 : Int) {h : fi_H} (H : Shp h) : c_474_29 d x1 x2 x3 x4 h =
  ca_ (fj_run d 2 h [(4, 303), (0, x4)]) 0
    (fun v2 h1 =>
    if v2 = 0 then
      some (.inl (some (0, (-2))), h1)
    else
      cv_ (fj_run d 307 h1 [(4, 303), (0, h1 239 303 0), (0, 1)])
        (fun h4 =>
        c_474_53 d x1 x2 x3 x4 0 h4)
        (fun q6 h4 => tx_ q6 h4))
    (fun q3 h1 => tx_ q3 h1) := by
  unfold c_474_29
  exact
    have D : fk_D 474 [(29, some [0, 1, 2, 3, 4], .aload_n 0, 1, 0, 0, 0), (30, none, .iload 4, 2, 0, 0, 0), (32, none, .invokevirtual 121, 3, 1, 113, 1), (35, none, .ifCond .ne 6, 3, 41, 0, 0), (38, none, .bipush (-2), 2, 0, (-2), 0), (40, none, .ireturn, 1, 0, 0, 0)] := fq_of2 cd_474 ow_474 cl_474 rfl (pc := 29) (by decide +kernel)
    j_aldn (pc := 29) D rfl rfl rfl fun D =>
    j_ild (pc := 30) D rfl rfl rfl fun D =>
    j_iv (pc := 32) (m := 2) (dd := 113) (a := [(0, x4)]) (rest := []) D rfl rfl rfl rfl rfl (by decide) (s0_303 H) (by decide +kernel) (fun v2 h1 e1 D =>
      have T := fj_run_ok _ _ _ _ _ _ H.1 e1
      have H := shp_st H T
      j_ifne (pc := 35) D rfl (fun q D =>
        j_bp (pc := 38) D rfl fun D =>
        j_iret D rt_474) (fun q =>
        have D : fk_D 474 [(41, none, .aload_n 0, 1, 0, 0, 0), (42, none, .aload_n 0, 1, 0, 0, 0), (43, none, .getfield 615, 3, 239, 100, 10), (46, none, .iconst 1, 1, 0, 1, 0), (47, none, .invokevirtual 881, 3, 2, 170, 0), (50, none, .iconst 0, 1, 0, 0, 0), (51, none, .istore 5, 2, 0, 0, 0)] := fq_of2 cd_474 ow_474 cl_474 rfl (pc := 41) (by decide +kernel)
        j_aldn (pc := 41) D rfl rfl rfl fun D =>
        j_aldn (pc := 42) D rfl rfl rfl fun D =>
        j_gf (pc := 43) (a := 303) D rfl rfl (by decide) rfl (s0_303 H) rfl fun D =>
        j_ic (pc := 46) D rfl fun D =>
        j_ivv (pc := 47) (m := 307) (dd := 170) (a := [(0, h1 239 303 0), (0, 1)]) (rest := []) D rfl rfl rfl rfl rfl (by decide) (s0_303 H) (by decide +kernel) (fun h4 e1 D =>
          have T := fj_run_ok _ _ _ _ _ _ H.1 e1
          have H := shp_st H T
          j_ic (pc := 50) D rfl fun D =>
          j_ist (pc := 51) (L' := [(5, (0, 0)), (0, (4, 303)), (1, (0, x1)), (2, (0, x2)), (3, (0, x3)), (4, (0, x4))]) D rfl nl_474 rfl rfl fun D =>
          fk_jump cut_474_53 rfl rfl) (fun q6 h4 e1 =>
          j_tx (hx_474 _)))) (fun q3 h1 e1 =>
      j_tx (hx_474 _))
theorem e_474_53 (d : Nat) (x1 x2 x3 x4 x5 : Int) {h : fi_H} (H : Shp h) : c_474_53 d x1 x2 x3 x4 x5 h =
  if x5 < 12 then
    if 0 ≤ x5 ∧ x5 < 12 then
    lt_ (fi_upd h 11 471 x5.toNat 0) fun h1 =>
    c_474_53 d x1 x2 x3 x4 (wI (x5 + 1)) h1
    else none
  else
    c_474_86 d x1 x2 x3 x4 0 0 0 1 h := by
  unfold c_474_53
  exact
    have D : fk_D 474 [(53, some [0, 1, 2, 3, 4, 5], .iload 5, 2, 0, 0, 0), (55, none, .bipush 12, 2, 0, 12, 0), (57, none, .if_icmp .ge 17, 3, 74, 0, 0), (60, none, .aload_n 0, 1, 0, 0, 0), (61, none, .getfield 773, 3, 313, 100, 12), (64, none, .iload 5, 2, 0, 0, 0), (66, none, .lconst 0, 1, 0, 0, 0), (67, none, .lastore, 1, 0, 0, 0), (68, none, .iinc 5 1, 3, 0, 1, 0), (71, none, .goto (-18), 3, 53, 0, 0)] := fq_of2 cd_474 ow_474 cl_474 rfl (pc := 53) (by decide +kernel)
    j_ild (pc := 53) D rfl rfl rfl fun D =>
    j_bp (pc := 55) D rfl fun D =>
    j_ige (pc := 57) D rfl (fun q D =>
      j_aldn (pc := 60) D rfl rfl rfl fun D =>
      j_gfc (pc := 61) (a := 303) D rfl rfl (by decide) rfl (s0_303 H) rfl (sf_313_303 H) fun D =>
      j_ild (pc := 64) D rfl rfl rfl fun D =>
      j_c0 (pc := 66) (v := (1, 0)) D rfl rfl (by decide +kernel) fun D =>
      j_as (pc := 67) (a := 471) (e := 11) D rfl ⟨rfl, rfl⟩ rfl (by decide) (s0_471 H) (s1_471 H) ⟨rfl, rfl, rfl⟩ rfl gn (gy rfl) fun h1 eh1 S qb2 D =>
      have T := fj_hs_ok H.1 S
      have H := shp_st H T
      j_inc (pc := 68) (L' := [(5, (0, wI (x5 + 1))), (0, (4, 303)), (1, (0, x1)), (2, (0, x2)), (3, (0, x3)), (4, (0, x4))]) D rfl rfl rfl (by decide +kernel) rfl fun D =>
      j_goto (pc := 71) D rfl <|
      fk_jump cut_474_53 rfl rfl) (fun q =>
      have D : fk_D 474 [(74, none, .iconst 0, 1, 0, 0, 0), (75, none, .istore 5, 2, 0, 0, 0), (77, none, .dconst 0, 1, 0, 0, 0), (78, none, .dstore 6, 2, 0, 0, 0), (80, none, .dconst 0, 1, 0, 0, 0), (81, none, .dstore 8, 2, 0, 0, 0), (83, none, .iconst 1, 1, 0, 1, 0), (84, none, .istore 10, 2, 0, 0, 0)] := fq_of2 cd_474 ow_474 cl_474 rfl (pc := 74) (by decide +kernel)
      j_ic (pc := 74) D rfl fun D =>
      j_ist (pc := 75) (L' := [(5, (0, 0)), (0, (4, 303)), (1, (0, x1)), (2, (0, x2)), (3, (0, x3)), (4, (0, x4))]) D rfl nl_474 rfl rfl fun D =>
      j_c0 (pc := 77) (v := (3, 0)) D rfl rfl (by decide +kernel) fun D =>
      j_dst (pc := 78) (L' := [(6, (3, 0)), (5, (0, 0)), (0, (4, 303)), (1, (0, x1)), (2, (0, x2)), (3, (0, x3)), (4, (0, x4))]) D rfl nl_474 rfl rfl fun D =>
      j_c0 (pc := 80) (v := (3, 0)) D rfl rfl (by decide +kernel) fun D =>
      j_dst (pc := 81) (L' := [(8, (3, 0)), (6, (3, 0)), (5, (0, 0)), (0, (4, 303)), (1, (0, x1)), (2, (0, x2)), (3, (0, x3)), (4, (0, x4))]) D rfl nl_474 rfl rfl fun D =>
      j_ic (pc := 83) D rfl fun D =>
      j_ist (pc := 84) (L' := [(10, (0, 1)), (8, (3, 0)), (6, (3, 0)), (5, (0, 0)), (0, (4, 303)), (1, (0, x1)), (2, (0, x2)), (3, (0, x3)), (4, (0, x4))]) D rfl nl_474 rfl rfl fun D =>
      fk_jump cut_474_86 rfl rfl)
theorem e_474_86 (d : Nat) (x1 x2 x3 x4 x5 x6 x8 x10 : Int) {h : fi_H} (H : Shp h) : c_474_86 d x1 x2 x3 x4 x5 x6 x8 x10 h =
  if x10 < h 216 303 0 then
    ca_ (fj_run d 441 h [(4, 303), (0, x1), (0, x3), (0, x10), (0, x4)]) 0
      (fun v2 h1 =>
      if v2 = 0 then
        c_474_113 d x1 x2 x3 x4 x5 x6 x8 x10 1 h1
      else
        c_474_113 d x1 x2 x3 x4 x5 x6 x8 x10 0 h1)
      (fun q3 h1 => tx_ q3 h1)
  else
    lt_ (fi_upd h 11 471 0 (wI x5)) fun h4 =>
    if 0 < x5 then
      dn_ (FP.ddiv (fi_D x6) (fi_D x8)) fun v5 =>
      cv_ (fj_run d 476 h4 [(4, 303), (0, x5), (3, v5)])
        (fun h6 =>
        some (.inl (some (0, x5)), h6))
        (fun q8 h6 => tx_ q8 h6)
    else
      some (.inl (some (0, x5)), h4) := by
  unfold c_474_86
  exact
    have D : fk_D 474 [(86, some [0, 1, 2, 3, 4, 5, 6, 8, 10], .iload 10, 2, 0, 0, 0), (88, none, .aload_n 0, 1, 0, 0, 0), (89, none, .getfield 267, 3, 216, 100, 10), (92, none, .if_icmp .ge 217, 3, 309, 0, 0), (95, none, .aload_n 0, 1, 0, 0, 0), (96, none, .iload_n 1, 1, 0, 0, 0), (97, none, .iload_n 3, 1, 0, 0, 0), (98, none, .iload 10, 2, 0, 0, 0), (100, none, .iload 4, 2, 0, 0, 0), (102, none, .invokevirtual 1002, 3, 4, 185, 1), (105, none, .ifCond .ne 7, 3, 112, 0, 0), (108, none, .iconst 1, 1, 0, 1, 0), (109, none, .goto 4, 3, 113, 0, 0)] := fq_of2 cd_474 ow_474 cl_474 rfl (pc := 86) (by decide +kernel)
    j_ild (pc := 86) D rfl rfl rfl fun D =>
    j_aldn (pc := 88) D rfl rfl rfl fun D =>
    j_gf (pc := 89) (a := 303) D rfl rfl (by decide) rfl (s0_303 H) rfl fun D =>
    j_ige (pc := 92) D rfl (fun q D =>
      j_aldn (pc := 95) D rfl rfl rfl fun D =>
      j_ildn (pc := 96) D rfl rfl rfl fun D =>
      j_ildn (pc := 97) D rfl rfl rfl fun D =>
      j_ild (pc := 98) D rfl rfl rfl fun D =>
      j_ild (pc := 100) D rfl rfl rfl fun D =>
      j_iv (pc := 102) (m := 441) (dd := 185) (a := [(0, x1), (0, x3), (0, x10), (0, x4)]) (rest := []) D rfl rfl rfl rfl rfl (by decide) (s0_303 H) (by decide +kernel) (fun v2 h1 e1 D =>
        have T := fj_run_ok _ _ _ _ _ _ H.1 e1
        have H := shp_st H T
        j_ifne (pc := 105) D rfl (fun q D =>
          j_ic (pc := 108) D rfl fun D =>
          j_goto (pc := 109) D rfl <|
          fk_jump cut_474_113 rfl rfl) (fun q =>
          have D : fk_D 474 [(112, none, .iconst 0, 1, 0, 0, 0)] := fq_of2 cd_474 ow_474 cl_474 rfl (pc := 112) (by decide +kernel)
          j_ic (pc := 112) D rfl fun D =>
          fk_jump cut_474_113 rfl rfl)) (fun q3 h1 e1 =>
        j_tx (hx_474 _))) (fun q =>
      have D : fk_D 474 [(309, none, .aload_n 0, 1, 0, 0, 0), (310, none, .getfield 773, 3, 313, 100, 12), (313, none, .iconst 0, 1, 0, 0, 0), (314, none, .iload 5, 2, 0, 0, 0), (316, none, .i2l, 1, 0, 0, 0), (317, none, .lastore, 1, 0, 0, 0), (318, none, .iload 5, 2, 0, 0, 0), (320, none, .ifCond .le 14, 3, 334, 0, 0), (323, none, .aload_n 0, 1, 0, 0, 0), (324, none, .iload 5, 2, 0, 0, 0), (326, none, .dload 6, 2, 0, 0, 0), (328, none, .dload 8, 2, 0, 0, 0), (330, none, .ddiv, 1, 0, 0, 0), (331, none, .invokevirtual 1103, 3, 2, 200, 0), (334, none, .iload 5, 2, 0, 0, 0), (336, none, .ireturn, 1, 0, 0, 0)] := fq_of2 cd_474 ow_474 cl_474 rfl (pc := 309) (by decide +kernel)
      j_aldn (pc := 309) D rfl rfl rfl fun D =>
      j_gfc (pc := 310) (a := 303) D rfl rfl (by decide) rfl (s0_303 H) rfl (sf_313_303 H) fun D =>
      j_ic (pc := 313) D rfl fun D =>
      j_ild (pc := 314) D rfl rfl rfl fun D =>
      j_i2l (pc := 316) D rfl fun D =>
      j_as (pc := 317) (a := 471) (e := 11) D rfl ⟨rfl, rfl⟩ rfl (by decide) (s0_471 H) (s1_471 H) ⟨rfl, rfl, rfl⟩ rfl (gy (by decide)) (gy rfl) fun h4 eh4 S q D =>
      have T := fj_hs_ok H.1 S
      have H := shp_st H T
      j_ild (pc := 318) D rfl rfl rfl fun D =>
      j_ifle (pc := 320) D rfl (fun q D =>
        j_aldn (pc := 323) D rfl rfl rfl fun D =>
        j_ild (pc := 324) D rfl rfl rfl fun D =>
        j_dld (pc := 326) D rfl rfl rfl fun D =>
        j_dld (pc := 328) D rfl rfl rfl fun D =>
        j_dop (pc := 330) (u := FP.ddiv (fi_D x6) (fi_D x8)) D rfl rfl rfl fun D v5 =>
        j_ivv (pc := 331) (m := 476) (dd := 200) (a := [(0, x5), (3, v5)]) (rest := []) D rfl rfl rfl rfl rfl (by decide) (s0_303 H) (by decide +kernel) (fun h6 e1 D =>
          have T := fj_run_ok _ _ _ _ _ _ H.1 e1
          have H := shp_st H T
          j_ild (pc := 334) D rfl rfl rfl fun D =>
          j_iret D rt_474) (fun q8 h6 e1 =>
          j_tx (hx_474 _))) (fun q =>
        have D : fk_D 474 [(334, none, .iload 5, 2, 0, 0, 0), (336, none, .ireturn, 1, 0, 0, 0)] := fq_of2 cd_474 ow_474 cl_474 rfl (pc := 334) (by decide +kernel)
        j_ild (pc := 334) D rfl rfl rfl fun D =>
        j_iret D rt_474))
theorem e_474_113 (d : Nat) (x1 x2 x3 x4 x5 x6 x8 x10 s0 : Int) {h : fi_H} (H : Shp h) : c_474_113 d x1 x2 x3 x4 x5 x6 x8 x10 s0 h =
  if s0 = 0 then
    c_474_133 d x1 x2 x3 x4 x5 x6 x8 x10 s0 0 h
  else
    c_474_133 d x1 x2 x3 x4 x5 x6 x8 x10 s0 (h 11 315 0) h := by
  unfold c_474_113
  exact
    have D : fk_D 474 [(113, some [0, 1, 2, 3, 4, 5, 6, 8, 10], .istore 11, 2, 0, 0, 0), (115, none, .iload 11, 2, 0, 0, 0), (117, none, .ifCond .eq 15, 3, 132, 0, 0), (120, none, .aload_n 0, 1, 0, 0, 0), (121, none, .getfield 113, 3, 213, 100, 12), (124, none, .getfield 66, 3, 119, 119, 12), (127, none, .iconst 0, 1, 0, 0, 0), (128, none, .laload, 1, 0, 0, 0), (129, none, .goto 4, 3, 133, 0, 0)] := fq_of2 cd_474 ow_474 cl_474 rfl (pc := 113) (by decide +kernel)
    j_ist (pc := 113) (L' := [(11, (0, s0)), (0, (4, 303)), (1, (0, x1)), (2, (0, x2)), (3, (0, x3)), (4, (0, x4)), (5, (0, x5)), (6, (3, x6)), (8, (3, x8)), (10, (0, x10))]) D rfl nl_474 rfl rfl fun D =>
    j_ild (pc := 115) D rfl rfl rfl fun D =>
    j_ifeq (pc := 117) D rfl (fun q =>
      have D : fk_D 474 [(132, none, .lconst 0, 1, 0, 0, 0)] := fq_of2 cd_474 ow_474 cl_474 rfl (pc := 132) (by decide +kernel)
      j_c0 (pc := 132) (v := (1, 0)) D rfl rfl (by decide +kernel) fun D =>
      fk_jump cut_474_133 rfl rfl) (fun q D =>
      j_aldn (pc := 120) D rfl rfl rfl fun D =>
      j_gfc (pc := 121) (a := 303) D rfl rfl (by decide) rfl (s0_303 H) rfl (sf_213_303 H) fun D =>
      j_gfc (pc := 124) (a := 309) D rfl rfl (by decide) rfl (s0_309 H) rfl (sf_119_309 H) fun D =>
      j_ic (pc := 127) D rfl fun D =>
      j_al (pc := 128) (a := 315) (e := 11) D rfl rfl rfl (by decide) (s0_315 H) (s1_315 H) ⟨rfl, rfl, rfl⟩ rfl (gy (by decide)) fun q D =>
      j_goto (pc := 129) D rfl <|
      fk_jump cut_474_133 rfl rfl)
theorem e_474_133 (d : Nat) (x1 x2 x3 x4 x5 x6 x8 x10 x11 s0 : Int) {h : fi_H} (H : Shp h) : c_474_133 d x1 x2 x3 x4 x5 x6 x8 x10 x11 s0 h =
  if x11 = 0 then
    c_474_165 d x1 x2 x3 x4 x5 x6 x8 x10 x11 s0 h
  else
    if x2 = (-1) then
      c_474_165 d x1 x2 x3 x4 x5 x6 x8 x10 x11 s0 h
    else
      ca_ (fj_run d 441 h [(4, 303), (0, x2), (0, x3), (0, x10), (0, x4)]) 0
        (fun v2 h1 =>
        if v2 = 0 then
          c_474_163 d x1 x2 x3 x4 x5 x6 x8 x10 s0 1 h1
        else
          c_474_163 d x1 x2 x3 x4 x5 x6 x8 x10 s0 0 h1)
        (fun q3 h1 => tx_ q3 h1) := by
  unfold c_474_133
  exact
    have D : fk_D 474 [(133, some [0, 1, 2, 3, 4, 5, 6, 8, 10, 11], .lstore 12, 2, 0, 0, 0), (135, none, .iload 11, 2, 0, 0, 0), (137, none, .ifCond .eq 28, 3, 165, 0, 0), (140, none, .iload_n 2, 1, 0, 0, 0), (141, none, .iconst (-1), 1, 0, (-1), 0), (142, none, .if_icmp .eq 23, 3, 165, 0, 0), (145, none, .aload_n 0, 1, 0, 0, 0), (146, none, .iload_n 2, 1, 0, 0, 0), (147, none, .iload_n 3, 1, 0, 0, 0), (148, none, .iload 10, 2, 0, 0, 0), (150, none, .iload 4, 2, 0, 0, 0), (152, none, .invokevirtual 1002, 3, 4, 185, 1), (155, none, .ifCond .ne 7, 3, 162, 0, 0), (158, none, .iconst 1, 1, 0, 1, 0), (159, none, .goto 4, 3, 163, 0, 0)] := fq_of2 cd_474 ow_474 cl_474 rfl (pc := 133) (by decide +kernel)
    j_lst (pc := 133) (L' := [(12, (1, s0)), (0, (4, 303)), (1, (0, x1)), (2, (0, x2)), (3, (0, x3)), (4, (0, x4)), (5, (0, x5)), (6, (3, x6)), (8, (3, x8)), (10, (0, x10)), (11, (0, x11))]) D rfl nl_474 rfl rfl fun D =>
    j_ild (pc := 135) D rfl rfl rfl fun D =>
    j_ifeq (pc := 137) D rfl (fun q =>
      fk_jump cut_474_165 rfl rfl) (fun q D =>
      j_ildn (pc := 140) D rfl rfl rfl fun D =>
      j_ic (pc := 141) D rfl fun D =>
      j_ieq (pc := 142) D rfl (fun q =>
        fk_jump cut_474_165 rfl rfl) (fun q D =>
        j_aldn (pc := 145) D rfl rfl rfl fun D =>
        j_ildn (pc := 146) D rfl rfl rfl fun D =>
        j_ildn (pc := 147) D rfl rfl rfl fun D =>
        j_ild (pc := 148) D rfl rfl rfl fun D =>
        j_ild (pc := 150) D rfl rfl rfl fun D =>
        j_iv (pc := 152) (m := 441) (dd := 185) (a := [(0, x2), (0, x3), (0, x10), (0, x4)]) (rest := []) D rfl rfl rfl rfl rfl (by decide) (s0_303 H) (by decide +kernel) (fun v2 h1 e1 D =>
          have T := fj_run_ok _ _ _ _ _ _ H.1 e1
          have H := shp_st H T
          j_ifne (pc := 155) D rfl (fun q D =>
            j_ic (pc := 158) D rfl fun D =>
            j_goto (pc := 159) D rfl <|
            fk_jump cut_474_163 rfl rfl) (fun q =>
            have D : fk_D 474 [(162, none, .iconst 0, 1, 0, 0, 0)] := fq_of2 cd_474 ow_474 cl_474 rfl (pc := 162) (by decide +kernel)
            j_ic (pc := 162) D rfl fun D =>
            fk_jump cut_474_163 rfl rfl)) (fun q3 h1 e1 =>
          j_tx (hx_474 _))))
theorem e_474_163 (d : Nat) (x1 x2 x3 x4 x5 x6 x8 x10 x12 s0 : Int) {h : fi_H} (H : Shp h) : c_474_163 d x1 x2 x3 x4 x5 x6 x8 x10 x12 s0 h =
  c_474_165 d x1 x2 x3 x4 x5 x6 x8 x10 s0 x12 h := by
  unfold c_474_163
  exact
    have D : fk_D 474 [(163, some [0, 1, 2, 3, 4, 5, 6, 8, 10, 12], .istore 11, 2, 0, 0, 0)] := fq_of2 cd_474 ow_474 cl_474 rfl (pc := 163) (by decide +kernel)
    j_ist (pc := 163) (L' := [(11, (0, s0)), (0, (4, 303)), (1, (0, x1)), (2, (0, x2)), (3, (0, x3)), (4, (0, x4)), (5, (0, x5)), (6, (3, x6)), (8, (3, x8)), (10, (0, x10)), (12, (1, x12))]) D rfl nl_474 rfl rfl fun D =>
    fk_jump cut_474_165 rfl rfl
theorem e_474_165 (d : Nat) (x1 x2 x3 x4 x5 x6 x8 x10 x11 x12 : Int) {h : fi_H} (H : Shp h) : c_474_165 d x1 x2 x3 x4 x5 x6 x8 x10 x11 x12 h =
  if x11 = 0 then
    lt_ (fi_upd h 11 471 1 (wJ ((h 11 471 1) + 1))) fun h1 =>
    c_474_303 d x1 x2 x3 x4 x5 x6 x8 x10 h1
  else
    c_474_187 d x1 x2 x3 x4 x5 x6 x8 x10 x12 x5 h := by
  unfold c_474_165
  exact
    have D : fk_D 474 [(165, some [0, 1, 2, 3, 4, 5, 6, 8, 10, 11, 12], .iload 11, 2, 0, 0, 0), (167, none, .ifCond .ne 16, 3, 183, 0, 0), (170, none, .aload_n 0, 1, 0, 0, 0), (171, none, .getfield 773, 3, 313, 100, 12), (174, none, .iconst 1, 1, 0, 1, 0), (175, none, .dup2, 1, 0, 0, 0), (176, none, .laload, 1, 0, 0, 0), (177, none, .lconst 1, 1, 0, 0, 0), (178, none, .ladd, 1, 0, 0, 0), (179, none, .lastore, 1, 0, 0, 0), (180, none, .goto 123, 3, 303, 0, 0)] := fq_of2 cd_474 ow_474 cl_474 rfl (pc := 165) (by decide +kernel)
    j_ild (pc := 165) D rfl rfl rfl fun D =>
    j_ifne (pc := 167) D rfl (fun q D =>
      j_aldn (pc := 170) D rfl rfl rfl fun D =>
      j_gfc (pc := 171) (a := 303) D rfl rfl (by decide) rfl (s0_303 H) rfl (sf_313_303 H) fun D =>
      j_ic (pc := 174) D rfl fun D =>
      j_sh (pc := 175) D rfl rfl rfl fun D =>
      j_al (pc := 176) (a := 471) (e := 11) D rfl rfl rfl (by decide) (s0_471 H) (s1_471 H) ⟨rfl, rfl, rfl⟩ rfl (gy (by decide)) fun q D =>
      j_c0 (pc := 177) (v := (1, 1)) D rfl rfl (by decide +kernel) fun D =>
      j_ladd (pc := 178) D rfl fun D =>
      j_as (pc := 179) (a := 471) (e := 11) D rfl ⟨rfl, rfl⟩ rfl (by decide) (s0_471 H) (s1_471 H) ⟨rfl, rfl, rfl⟩ rfl (gy (by decide)) (gy rfl) fun h1 eh1 S q D =>
      have T := fj_hs_ok H.1 S
      have H := shp_st H T
      j_goto (pc := 180) D rfl <|
      fk_jump cut_474_303 rfl rfl) (fun q =>
      have D : fk_D 474 [(183, none, .iload 5, 2, 0, 0, 0), (185, none, .istore 14, 2, 0, 0, 0)] := fq_of2 cd_474 ow_474 cl_474 rfl (pc := 183) (by decide +kernel)
      j_ild (pc := 183) D rfl rfl rfl fun D =>
      j_ist (pc := 185) (L' := [(14, (0, x5)), (0, (4, 303)), (1, (0, x1)), (2, (0, x2)), (3, (0, x3)), (4, (0, x4)), (5, (0, x5)), (6, (3, x6)), (8, (3, x8)), (10, (0, x10)), (11, (0, x11)), (12, (1, x12))]) D rfl nl_474 rfl rfl fun D =>
      fk_jump cut_474_187 rfl rfl)
theorem e_474_187 (d : Nat) (x1 x2 x3 x4 x5 x6 x8 x10 x12 x14 : Int) {h : fi_H} (H : Shp h) : c_474_187 d x1 x2 x3 x4 x5 x6 x8 x10 x12 x14 h =
  if 0 < x14 then
    if 0 ≤ wI (x14 - 1) ∧ wI (x14 - 1) < 30 then
    if 0 < lc_ (h 11 470 (wI (x14 - 1)).toNat) x12 then
      if 0 ≤ x14 ∧ x14 < 30 then
      lt_ (fi_upd h 11 470 x14.toNat (h 11 470 (wI (x14 - 1)).toNat)) fun h2 =>
      c_474_187 d x1 x2 x3 x4 x5 x6 x8 x10 x12 (wI (x14 + (-1))) h2
      else none
    else
      c_474_229 d x1 x2 x3 x4 x5 x6 x8 x10 x12 x14 h
    else none
  else
    c_474_229 d x1 x2 x3 x4 x5 x6 x8 x10 x12 x14 h := by
  unfold c_474_187
  exact
    have D : fk_D 474 [(187, some [0, 1, 2, 3, 4, 5, 6, 8, 10, 12, 14], .iload 14, 2, 0, 0, 0), (189, none, .ifCond .le 40, 3, 229, 0, 0), (192, none, .aload_n 0, 1, 0, 0, 0), (193, none, .getfield 770, 3, 312, 100, 12), (196, none, .iload 14, 2, 0, 0, 0), (198, none, .iconst 1, 1, 0, 1, 0), (199, none, .isub, 1, 0, 0, 0), (200, none, .laload, 1, 0, 0, 0), (201, none, .lload 12, 2, 0, 0, 0), (203, none, .lcmp, 1, 0, 0, 0), (204, none, .ifCond .le 25, 3, 229, 0, 0), (207, none, .aload_n 0, 1, 0, 0, 0), (208, none, .getfield 770, 3, 312, 100, 12), (211, none, .iload 14, 2, 0, 0, 0), (213, none, .aload_n 0, 1, 0, 0, 0), (214, none, .getfield 770, 3, 312, 100, 12), (217, none, .iload 14, 2, 0, 0, 0), (219, none, .iconst 1, 1, 0, 1, 0), (220, none, .isub, 1, 0, 0, 0), (221, none, .laload, 1, 0, 0, 0)] := fq_of2 cd_474 ow_474 cl_474 rfl (pc := 187) (by decide +kernel)
    j_ild (pc := 187) D rfl rfl rfl fun D =>
    j_ifle (pc := 189) D rfl (fun q D =>
      j_aldn (pc := 192) D rfl rfl rfl fun D =>
      j_gfc (pc := 193) (a := 303) D rfl rfl (by decide) rfl (s0_303 H) rfl (sf_312_303 H) fun D =>
      j_ild (pc := 196) D rfl rfl rfl fun D =>
      j_ic (pc := 198) D rfl fun D =>
      j_isub (pc := 199) D rfl fun D =>
      j_al (pc := 200) (a := 470) (e := 11) D rfl rfl rfl (by decide) (s0_470 H) (s1_470 H) ⟨rfl, rfl, rfl⟩ rfl gn fun qb1 D =>
      j_lld (pc := 201) D rfl rfl rfl fun D =>
      j_lcmp (pc := 203) D rfl fun D =>
      j_ifle (pc := 204) D rfl (fun q D =>
        j_aldn (pc := 207) D rfl rfl rfl fun D =>
        j_gfc (pc := 208) (a := 303) D rfl rfl (by decide) rfl (s0_303 H) rfl (sf_312_303 H) fun D =>
        j_ild (pc := 211) D rfl rfl rfl fun D =>
        j_aldn (pc := 213) D rfl rfl rfl fun D =>
        j_gfc (pc := 214) (a := 303) D rfl rfl (by decide) rfl (s0_303 H) rfl (sf_312_303 H) fun D =>
        j_ild (pc := 217) D rfl rfl rfl fun D =>
        j_ic (pc := 219) D rfl fun D =>
        j_isub (pc := 220) D rfl fun D =>
        j_al (pc := 221) (a := 470) (e := 11) D rfl rfl rfl (by decide) (s0_470 H) (s1_470 H) ⟨rfl, rfl, rfl⟩ rfl (gy qb1) fun q D =>
        have D : fk_D 474 [(222, none, .lastore, 1, 0, 0, 0), (223, none, .iinc 14 (-1), 3, 0, (-1), 0), (226, none, .goto (-39), 3, 187, 0, 0)] := fq_of2 cd_474 ow_474 cl_474 rfl (pc := 222) (by decide +kernel)
        j_as (pc := 222) (a := 470) (e := 11) D rfl ⟨rfl, rfl⟩ rfl (by decide) (s0_470 H) (s1_470 H) ⟨rfl, rfl, rfl⟩ rfl gn (gy rfl) fun h2 eh2 S qb3 D =>
        have T := fj_hs_ok H.1 S
        have H := shp_st H T
        j_inc (pc := 223) (L' := [(14, (0, wI (x14 + (-1)))), (0, (4, 303)), (1, (0, x1)), (2, (0, x2)), (3, (0, x3)), (4, (0, x4)), (5, (0, x5)), (6, (3, x6)), (8, (3, x8)), (10, (0, x10)), (12, (1, x12))]) D rfl rfl rfl (by decide +kernel) rfl fun D =>
        j_goto (pc := 226) D rfl <|
        fk_jump cut_474_187 rfl rfl) (fun q =>
        fk_jump cut_474_229 rfl rfl)) (fun q =>
      fk_jump cut_474_229 rfl rfl)
theorem e_474_229 (d : Nat) (x1 x2 x3 x4 x5 x6 x8 x10 x12 x14 : Int) {h : fi_H} (H : Shp h) : c_474_229 d x1 x2 x3 x4 x5 x6 x8 x10 x12 x14 h =
  if 0 ≤ x14 ∧ x14 < 30 then
  lt_ (fi_upd h 11 470 x14.toNat x12) fun h1 =>
  lt_ (fi_upd h1 11 471 2 (wJ ((h1 11 471 2) + x12))) fun h3 =>
  if 0 ≤ x10 ∧ x10 < 30 then
  dn_ (FP.f2d (fi_F (h3 6 321 x10.toNat))) fun v5 =>
  dn_ (FP.dmul (fi_D v5) (fi_D (ld_ x12))) fun v6 =>
  dn_ (FP.dadd (fi_D x6) (fi_D v6)) fun v7 =>
  dn_ (FP.f2d (fi_F (h3 6 321 x10.toNat))) fun v8 =>
  dn_ (FP.dadd (fi_D x8) (fi_D v8)) fun v9 =>
  c_474_282 d x1 x2 x3 x4 (wI (x5 + 1)) v7 v9 x10 x12 h3
  else none
  else none := by
  unfold c_474_229
  exact
    have D : fk_D 474 [(229, some [0, 1, 2, 3, 4, 5, 6, 8, 10, 12, 14], .aload_n 0, 1, 0, 0, 0), (230, none, .getfield 770, 3, 312, 100, 12), (233, none, .iload 14, 2, 0, 0, 0), (235, none, .lload 12, 2, 0, 0, 0), (237, none, .lastore, 1, 0, 0, 0), (238, none, .iinc 5 1, 3, 0, 1, 0), (241, none, .aload_n 0, 1, 0, 0, 0), (242, none, .getfield 773, 3, 313, 100, 12), (245, none, .iconst 2, 1, 0, 2, 0), (246, none, .dup2, 1, 0, 0, 0), (247, none, .laload, 1, 0, 0, 0), (248, none, .lload 12, 2, 0, 0, 0), (250, none, .ladd, 1, 0, 0, 0), (251, none, .lastore, 1, 0, 0, 0), (252, none, .dload 6, 2, 0, 0, 0), (254, none, .aload_n 0, 1, 0, 0, 0), (255, none, .getfield 649, 3, 217, 100, 12), (258, none, .iload 10, 2, 0, 0, 0), (260, none, .faload, 1, 0, 0, 0), (261, none, .f2d, 1, 0, 0, 0)] := fq_of2 cd_474 ow_474 cl_474 rfl (pc := 229) (by decide +kernel)
    j_aldn (pc := 229) D rfl rfl rfl fun D =>
    j_gfc (pc := 230) (a := 303) D rfl rfl (by decide) rfl (s0_303 H) rfl (sf_312_303 H) fun D =>
    j_ild (pc := 233) D rfl rfl rfl fun D =>
    j_lld (pc := 235) D rfl rfl rfl fun D =>
    j_as (pc := 237) (a := 470) (e := 11) D rfl ⟨rfl, rfl⟩ rfl (by decide) (s0_470 H) (s1_470 H) ⟨rfl, rfl, rfl⟩ rfl gn (gy rfl) fun h1 eh1 S qb2 D =>
    have T := fj_hs_ok H.1 S
    have H := shp_st H T
    j_inc (pc := 238) (L' := [(5, (0, wI (x5 + 1))), (0, (4, 303)), (1, (0, x1)), (2, (0, x2)), (3, (0, x3)), (4, (0, x4)), (6, (3, x6)), (8, (3, x8)), (10, (0, x10)), (12, (1, x12)), (14, (0, x14))]) D rfl rfl rfl (by decide +kernel) rfl fun D =>
    j_aldn (pc := 241) D rfl rfl rfl fun D =>
    j_gfc (pc := 242) (a := 303) D rfl rfl (by decide) rfl (s0_303 H) rfl (sf_313_303 H) fun D =>
    j_ic (pc := 245) D rfl fun D =>
    j_sh (pc := 246) D rfl rfl rfl fun D =>
    j_al (pc := 247) (a := 471) (e := 11) D rfl rfl rfl (by decide) (s0_471 H) (s1_471 H) ⟨rfl, rfl, rfl⟩ rfl (gy (by decide)) fun q D =>
    j_lld (pc := 248) D rfl rfl rfl fun D =>
    j_ladd (pc := 250) D rfl fun D =>
    j_as (pc := 251) (a := 471) (e := 11) D rfl ⟨rfl, rfl⟩ rfl (by decide) (s0_471 H) (s1_471 H) ⟨rfl, rfl, rfl⟩ rfl (gy (by decide)) (gy rfl) fun h3 eh3 S q D =>
    have T := fj_hs_ok H.1 S
    have H := shp_st H T
    j_dld (pc := 252) D rfl rfl rfl fun D =>
    j_aldn (pc := 254) D rfl rfl rfl fun D =>
    j_gfc (pc := 255) (a := 303) D rfl rfl (by decide) rfl (s0_303 H) rfl (sf_217_303 H) fun D =>
    j_ild (pc := 258) D rfl rfl rfl fun D =>
    j_al (pc := 260) (a := 321) (e := 6) D rfl rfl rfl (by decide) (s0_321 H) (s1_321 H) ⟨rfl, rfl, rfl⟩ rfl gn fun qb4 D =>
    j_f2d (pc := 261) D rfl fun D v5 =>
    have D : fk_D 474 [(262, none, .lload 12, 2, 0, 0, 0), (264, none, .l2d, 1, 0, 0, 0), (265, none, .dmul, 1, 0, 0, 0), (266, none, .dadd, 1, 0, 0, 0), (267, none, .dstore 6, 2, 0, 0, 0), (269, none, .dload 8, 2, 0, 0, 0), (271, none, .aload_n 0, 1, 0, 0, 0), (272, none, .getfield 649, 3, 217, 100, 12), (275, none, .iload 10, 2, 0, 0, 0), (277, none, .faload, 1, 0, 0, 0), (278, none, .f2d, 1, 0, 0, 0), (279, none, .dadd, 1, 0, 0, 0), (280, none, .dstore 8, 2, 0, 0, 0)] := fq_of2 cd_474 ow_474 cl_474 rfl (pc := 262) (by decide +kernel)
    j_lld (pc := 262) D rfl rfl rfl fun D =>
    j_l2d (pc := 264) D rfl fun D =>
    j_dop (pc := 265) (u := FP.dmul (fi_D v5) (fi_D (ld_ x12))) D rfl rfl rfl fun D v6 =>
    j_dop (pc := 266) (u := FP.dadd (fi_D x6) (fi_D v6)) D rfl rfl rfl fun D v7 =>
    j_dst (pc := 267) (L' := [(6, (3, v7)), (5, (0, wI (x5 + 1))), (0, (4, 303)), (1, (0, x1)), (2, (0, x2)), (3, (0, x3)), (4, (0, x4)), (8, (3, x8)), (10, (0, x10)), (12, (1, x12)), (14, (0, x14))]) D rfl nl_474 rfl rfl fun D =>
    j_dld (pc := 269) D rfl rfl rfl fun D =>
    j_aldn (pc := 271) D rfl rfl rfl fun D =>
    j_gfc (pc := 272) (a := 303) D rfl rfl (by decide) rfl (s0_303 H) rfl (sf_217_303 H) fun D =>
    j_ild (pc := 275) D rfl rfl rfl fun D =>
    j_al (pc := 277) (a := 321) (e := 6) D rfl rfl rfl (by decide) (s0_321 H) (s1_321 H) ⟨rfl, rfl, rfl⟩ rfl (gy qb4) fun q D =>
    j_f2d (pc := 278) D rfl fun D v8 =>
    j_dop (pc := 279) (u := FP.dadd (fi_D x8) (fi_D v8)) D rfl rfl rfl fun D v9 =>
    j_dst (pc := 280) (L' := [(8, (3, v9)), (6, (3, v7)), (5, (0, wI (x5 + 1))), (0, (4, 303)), (1, (0, x1)), (2, (0, x2)), (3, (0, x3)), (4, (0, x4)), (10, (0, x10)), (12, (1, x12)), (14, (0, x14))]) D rfl nl_474 rfl rfl fun D =>
    fk_jump cut_474_282 rfl rfl
theorem e_474_282 (d : Nat) (x1 x2 x3 x4 x5 x6 x8 x10 x12 : Int) {h : fi_H} (H : Shp h) : c_474_282 d x1 x2 x3 x4 x5 x6 x8 x10 x12 h =
  if x2 = (-1) then
    c_474_303 d x1 x2 x3 x4 x5 x6 x8 x10 h
  else
    cv_ (fj_run d 475 h [(4, 303), (1, wJ ((h 11 315 0) - x12))])
      (fun h1 =>
      c_474_303 d x1 x2 x3 x4 x5 x6 x8 x10 h1)
      (fun q3 h1 => tx_ q3 h1) := by
  unfold c_474_282
  exact
    have D : fk_D 474 [(282, some [0, 1, 2, 3, 4, 5, 6, 8, 10, 12], .iload_n 2, 1, 0, 0, 0), (283, none, .iconst (-1), 1, 0, (-1), 0), (284, none, .if_icmp .eq 19, 3, 303, 0, 0), (287, none, .aload_n 0, 1, 0, 0, 0), (288, none, .aload_n 0, 1, 0, 0, 0), (289, none, .getfield 113, 3, 213, 100, 12), (292, none, .getfield 66, 3, 119, 119, 12), (295, none, .iconst 0, 1, 0, 0, 0), (296, none, .laload, 1, 0, 0, 0), (297, none, .lload 12, 2, 0, 0, 0), (299, none, .lsub, 1, 0, 0, 0), (300, none, .invokevirtual 1100, 3, 1, 199, 0)] := fq_of2 cd_474 ow_474 cl_474 rfl (pc := 282) (by decide +kernel)
    j_ildn (pc := 282) D rfl rfl rfl fun D =>
    j_ic (pc := 283) D rfl fun D =>
    j_ieq (pc := 284) D rfl (fun q =>
      fk_jump cut_474_303 rfl rfl) (fun q D =>
      j_aldn (pc := 287) D rfl rfl rfl fun D =>
      j_aldn (pc := 288) D rfl rfl rfl fun D =>
      j_gfc (pc := 289) (a := 303) D rfl rfl (by decide) rfl (s0_303 H) rfl (sf_213_303 H) fun D =>
      j_gfc (pc := 292) (a := 309) D rfl rfl (by decide) rfl (s0_309 H) rfl (sf_119_309 H) fun D =>
      j_ic (pc := 295) D rfl fun D =>
      j_al (pc := 296) (a := 315) (e := 11) D rfl rfl rfl (by decide) (s0_315 H) (s1_315 H) ⟨rfl, rfl, rfl⟩ rfl (gy (by decide)) fun q D =>
      j_lld (pc := 297) D rfl rfl rfl fun D =>
      j_lsub (pc := 299) D rfl fun D =>
      j_ivv (pc := 300) (m := 475) (dd := 199) (a := [(1, wJ ((h 11 315 0) - x12))]) (rest := []) D rfl rfl rfl rfl rfl (by decide) (s0_303 H) (by decide +kernel) (fun h1 e1 D =>
        have T := fj_run_ok _ _ _ _ _ _ H.1 e1
        have H := shp_st H T
        fk_jump cut_474_303 rfl rfl) (fun q3 h1 e1 =>
        j_tx (hx_474 _)))
theorem e_474_303 (d : Nat) (x1 x2 x3 x4 x5 x6 x8 x10 : Int) {h : fi_H} (H : Shp h) : c_474_303 d x1 x2 x3 x4 x5 x6 x8 x10 h =
  c_474_86 d x1 x2 x3 x4 x5 x6 x8 (wI (x10 + 1)) h := by
  unfold c_474_303
  exact
    have D : fk_D 474 [(303, some [0, 1, 2, 3, 4, 5, 6, 8, 10], .iinc 10 1, 3, 0, 1, 0), (306, none, .goto (-220), 3, 86, 0, 0)] := fq_of2 cd_474 ow_474 cl_474 rfl (pc := 303) (by decide +kernel)
    j_inc (pc := 303) (L' := [(10, (0, wI (x10 + 1))), (0, (4, 303)), (1, (0, x1)), (2, (0, x2)), (3, (0, x3)), (4, (0, x4)), (5, (0, x5)), (6, (3, x6)), (8, (3, x8))]) D rfl rfl rfl (by decide +kernel) rfl fun D =>
    j_goto (pc := 306) D rfl <|
    fk_jump cut_474_86 rfl rfl
theorem m_474 (d : Nat) (x1 x2 x3 x4 : Int) {h : fi_H} (H : Shp h) : fj_run (d + 1) 474 h [(4, 303), (0, x1), (0, x2), (0, x3), (0, x4)] =
  ca_ (fj_run d 458 h [(4, 303), (0, x3)]) 0
    (fun v2 h1 =>
    if v2 = 0 then
      some (.inl (some (0, (-1))), h1)
    else
      ca_ (fj_run d 1 h1 [(0, x1)]) 0
        (fun v5 h4 =>
        if v5 = 0 then
          some (.inl (some (0, (-2))), h4)
        else
          if x2 = (-1) then
            c_474_29 d x1 x2 x3 x4 h4
          else
            ca_ (fj_run d 1 h4 [(0, x2)]) 0
              (fun v8 h7 =>
              if v8 = 0 then
                some (.inl (some (0, (-2))), h7)
              else
                c_474_29 d x1 x2 x3 x4 h7)
              (fun q9 h7 => tx_ q9 h7))
        (fun q6 h4 => tx_ q6 h4))
    (fun q3 h1 => tx_ q3 h1) := by
  rw [fj_run_eq d (by decide) h [(4, 303), (0, x1), (0, x2), (0, x3), (0, x4)] (Nat.le_of_ble_eq_true (by rw [nl_474]; rfl))]
  show gG (fj_run d) 474 0 [(0, (4, 303)), (1, (0, x1)), (2, (0, x2)), (3, (0, x3)), (4, (0, x4))] [] h = _
  exact
    have D : fk_D 474 [(0, none, .aload_n 0, 1, 0, 0, 0), (1, none, .iload_n 3, 1, 0, 0, 0), (2, none, .invokevirtual 1053, 3, 1, 192, 1), (5, none, .ifCond .ne 5, 3, 10, 0, 0), (8, none, .iconst (-1), 1, 0, (-1), 0), (9, none, .ireturn, 1, 0, 0, 0)] := fq_of2 cd_474 ow_474 cl_474 rfl (pc := 0) (by decide +kernel)
    j_aldn (pc := 0) D rfl rfl rfl fun D =>
    j_ildn (pc := 1) D rfl rfl rfl fun D =>
    j_iv (pc := 2) (m := 458) (dd := 192) (a := [(0, x3)]) (rest := []) D rfl rfl rfl rfl rfl (by decide) (s0_303 H) (by decide +kernel) (fun v2 h1 e1 D =>
      have T := fj_run_ok _ _ _ _ _ _ H.1 e1
      have H := shp_st H T
      j_ifne (pc := 5) D rfl (fun q D =>
        j_ic (pc := 8) D rfl fun D =>
        j_iret D rt_474) (fun q =>
        have D : fk_D 474 [(10, none, .iload_n 1, 1, 0, 0, 0), (11, none, .invokestatic 526, 3, 1, 1, 1), (14, none, .ifCond .eq 24, 3, 38, 0, 0), (17, none, .iload_n 2, 1, 0, 0, 0), (18, none, .iconst (-1), 1, 0, (-1), 0), (19, none, .if_icmp .eq 10, 3, 29, 0, 0), (22, none, .iload_n 2, 1, 0, 0, 0), (23, none, .invokestatic 526, 3, 1, 1, 1), (26, none, .ifCond .eq 12, 3, 38, 0, 0)] := fq_of2 cd_474 ow_474 cl_474 rfl (pc := 10) (by decide +kernel)
        j_ildn (pc := 10) D rfl rfl rfl fun D =>
        j_is (pc := 11) (m := 1) (a := [(0, x1)]) (rest := []) D rfl rfl rfl rfl (fun v5 h4 e1 D =>
          have T := fj_run_ok _ _ _ _ _ _ H.1 e1
          have H := shp_st H T
          j_ifeq (pc := 14) D rfl (fun q =>
            have D : fk_D 474 [(38, none, .bipush (-2), 2, 0, (-2), 0), (40, none, .ireturn, 1, 0, 0, 0)] := fq_of2 cd_474 ow_474 cl_474 rfl (pc := 38) (by decide +kernel)
            j_bp (pc := 38) D rfl fun D =>
            j_iret D rt_474) (fun q D =>
            j_ildn (pc := 17) D rfl rfl rfl fun D =>
            j_ic (pc := 18) D rfl fun D =>
            j_ieq (pc := 19) D rfl (fun q =>
              fk_jump cut_474_29 rfl rfl) (fun q D =>
              j_ildn (pc := 22) D rfl rfl rfl fun D =>
              j_is (pc := 23) (m := 1) (a := [(0, x2)]) (rest := []) D rfl rfl rfl rfl (fun v8 h7 e1 D =>
                have T := fj_run_ok _ _ _ _ _ _ H.1 e1
                have H := shp_st H T
                j_ifeq (pc := 26) D rfl (fun q =>
                  have D : fk_D 474 [(38, none, .bipush (-2), 2, 0, (-2), 0), (40, none, .ireturn, 1, 0, 0, 0)] := fq_of2 cd_474 ow_474 cl_474 rfl (pc := 38) (by decide +kernel)
                  j_bp (pc := 38) D rfl fun D =>
                  j_iret D rt_474) (fun q D =>
                  fk_jump cut_474_29 rfl rfl)) (fun q9 h7 e1 =>
                j_tx (hx_474 _))))) (fun q6 h4 e1 =>
          j_tx (hx_474 _)))) (fun q3 h1 e1 =>
      j_tx (hx_474 _))
/-! 475 StatuteHouse.compare(J)V -/
theorem cd_475 : fi_code 475 = prog_1_method_120_code := rfl
theorem hx_475 : ∀ pc, fi_hat 475 pc = none := fun pc => by unfold fi_hat; rw [show fi_hh 475 = [] from rfl]; rfl
theorem rt_475 : fi_ret 475 = none := rfl
theorem nl_475 : fi_nl 475 = 3 := rfl
theorem ow_475 : fi_ow 475 = 0 := rfl
theorem cl_475 : fj_cutT.getD 475 [] = [(24, [0, 1]), (46, [1])] := rfl
theorem cut_475_24 : fj_cut 475 24 = some [0, 1] := by decide +kernel
noncomputable def c_475_24 (d : Nat) (x1 s0 s1 : Int) (h : fi_H) : fk_R := gG (fj_run d) 475 24 [(0, (4, 303)), (1, (1, x1))] [(0, s1), (4, s0)] h
theorem cut_475_46 : fj_cut 475 46 = some [1] := by decide +kernel
noncomputable def c_475_46 (d : Nat) (x1 s0 s1 : Int) (h : fi_H) : fk_R := gG (fj_run d) 475 46 [(1, (1, x1))] [(0, s1), (4, s0)] h
theorem e_475_24 (d : Nat) (x1 s0 s1 : Int) {h : fi_H} (H : Shp h) : c_475_24 d x1 s0 s1 h =
  if h 0 s0.toNat 0 = 11 ∧ 0 ≤ s1 ∧ s1 < h 1 s0.toNat 0 then
  if 302 < s0 ∧ h 0 s0.toNat 0 = 11 then
  if 0 ≤ s1 ∧ s1 < h 1 s0.toNat 0 then
  lt_ (fi_upd h 11 s0.toNat s1.toNat (wJ ((h 11 s0.toNat s1.toNat) + 1))) fun h1 =>
  if 0 < lc_ x1 0 then
    c_475_46 d x1 471 10 h1
  else
    c_475_46 d x1 471 11 h1
  else none
  else none
  else none := by
  unfold c_475_24
  exact
    have D : fk_D 475 [(24, some [0, 1], .dup2, 1, 0, 0, 0), (25, none, .laload, 1, 0, 0, 0), (26, none, .lconst 1, 1, 0, 0, 0), (27, none, .ladd, 1, 0, 0, 0), (28, none, .lastore, 1, 0, 0, 0), (29, none, .aload_n 0, 1, 0, 0, 0), (30, none, .getfield 773, 3, 313, 100, 12), (33, none, .lload_n 1, 1, 0, 0, 0), (34, none, .lconst 0, 1, 0, 0, 0), (35, none, .lcmp, 1, 0, 0, 0), (36, none, .ifCond .le 8, 3, 44, 0, 0), (39, none, .bipush 10, 2, 0, 10, 0), (41, none, .goto 5, 3, 46, 0, 0)] := fq_of2 cd_475 ow_475 cl_475 rfl (pc := 24) (by decide +kernel)
    j_sh (pc := 24) D rfl rfl rfl fun D =>
    j_alp (pc := 25) (e := 11) H.2.1 D rfl rfl ⟨rfl, rfl, rfl⟩ rfl fun q q2 D =>
    j_c0 (pc := 26) (v := (1, 1)) D rfl rfl (by decide +kernel) fun D =>
    j_ladd (pc := 27) D rfl fun D =>
    j_asu (pc := 28) (e := 11) D rfl rfl ⟨rfl, rfl, rfl⟩ rfl gn gn (gy rfl) fun h1 eh1 S q q2 D =>
    have T := fj_hs_ok H.1 S
    have H := shp_st H T
    j_aldn (pc := 29) D rfl rfl rfl fun D =>
    j_gfc (pc := 30) (a := 303) D rfl rfl (by decide) rfl (s0_303 H) rfl (sf_313_303 H) fun D =>
    j_lldn (pc := 33) D rfl rfl rfl fun D =>
    j_c0 (pc := 34) (v := (1, 0)) D rfl rfl (by decide +kernel) fun D =>
    j_lcmp (pc := 35) D rfl fun D =>
    j_ifle (pc := 36) D rfl (fun q D =>
      j_bp (pc := 39) D rfl fun D =>
      j_goto (pc := 41) D rfl <|
      fk_jump cut_475_46 rfl rfl) (fun q =>
      have D : fk_D 475 [(44, none, .bipush 11, 2, 0, 11, 0)] := fq_of2 cd_475 ow_475 cl_475 rfl (pc := 44) (by decide +kernel)
      j_bp (pc := 44) D rfl fun D =>
      fk_jump cut_475_46 rfl rfl)
theorem e_475_46 (d : Nat) (x1 s0 s1 : Int) {h : fi_H} (H : Shp h) : c_475_46 d x1 s0 s1 h =
  if h 0 s0.toNat 0 = 11 ∧ 0 ≤ s1 ∧ s1 < h 1 s0.toNat 0 then
  ca_ (fj_run d 357 h [(1, x1)]) 1
    (fun v2 h1 =>
    if 302 < s0 ∧ h1 0 s0.toNat 0 = 11 then
    if 0 ≤ s1 ∧ s1 < h1 1 s0.toNat 0 then
    lt_ (fi_upd h1 11 s0.toNat s1.toNat (wJ ((h 11 s0.toNat s1.toNat) + v2))) fun h4 =>
    some (.inl none, h4)
    else none
    else none)
    (fun q3 h1 => tx_ q3 h1)
  else none := by
  unfold c_475_46
  exact
    have D : fk_D 475 [(46, some [1], .dup2, 1, 0, 0, 0), (47, none, .laload, 1, 0, 0, 0), (48, none, .lload_n 1, 1, 0, 0, 0), (49, none, .invokestatic 191, 3, 1, 357, 2), (52, none, .ladd, 1, 0, 0, 0), (53, none, .lastore, 1, 0, 0, 0), (54, none, .return_, 1, 0, 0, 0)] := fq_of2 cd_475 ow_475 cl_475 rfl (pc := 46) (by decide +kernel)
    j_sh (pc := 46) D rfl rfl rfl fun D =>
    j_alp (pc := 47) (e := 11) H.2.1 D rfl rfl ⟨rfl, rfl, rfl⟩ rfl fun q q2 D =>
    j_lldn (pc := 48) D rfl rfl rfl fun D =>
    j_is (pc := 49) (m := 357) (a := [(1, x1)]) (rest := [(1, h 11 s0.toNat s1.toNat), (0, s1), (4, s0)]) D rfl rfl rfl rfl (fun v2 h1 e1 D =>
      have T := fj_run_ok _ _ _ _ _ _ H.1 e1
      have H := shp_st H T
      j_ladd (pc := 52) D rfl fun D =>
      j_asu (pc := 53) (e := 11) D rfl rfl ⟨rfl, rfl, rfl⟩ rfl gn gn (gy rfl) fun h4 eh4 S q q2 D =>
      have T := fj_hs_ok H.1 S
      have H := shp_st H T
      j_vret D rt_475) (fun q3 h1 e1 =>
      j_tx (hx_475 _))
theorem m_475 (d : Nat) (x1 : Int) {h : fi_H} (H : Shp h) : fj_run (d + 1) 475 h [(4, 303), (1, x1)] =
  if lc_ x1 0 = 0 then
    some (.inl none, h)
  else
    if 0 < lc_ x1 0 then
      c_475_24 d x1 471 8 h
    else
      c_475_24 d x1 471 9 h := by
  rw [fj_run_eq d (by decide) h [(4, 303), (1, x1)] (Nat.le_of_ble_eq_true (by rw [nl_475]; rfl))]
  show gG (fj_run d) 475 0 [(0, (4, 303)), (1, (1, x1))] [] h = _
  exact
    have D : fk_D 475 [(0, none, .lload_n 1, 1, 0, 0, 0), (1, none, .lconst 0, 1, 0, 0, 0), (2, none, .lcmp, 1, 0, 0, 0), (3, none, .ifCond .ne 4, 3, 7, 0, 0), (6, none, .return_, 1, 0, 0, 0)] := fq_of2 cd_475 ow_475 cl_475 rfl (pc := 0) (by decide +kernel)
    j_lldn (pc := 0) D rfl rfl rfl fun D =>
    j_c0 (pc := 1) (v := (1, 0)) D rfl rfl (by decide +kernel) fun D =>
    j_lcmp (pc := 2) D rfl fun D =>
    j_ifne (pc := 3) D rfl (fun q D =>
      j_vret D rt_475) (fun q =>
      have D : fk_D 475 [(7, none, .aload_n 0, 1, 0, 0, 0), (8, none, .getfield 773, 3, 313, 100, 12), (11, none, .lload_n 1, 1, 0, 0, 0), (12, none, .lconst 0, 1, 0, 0, 0), (13, none, .lcmp, 1, 0, 0, 0), (14, none, .ifCond .le 8, 3, 22, 0, 0), (17, none, .bipush 8, 2, 0, 8, 0), (19, none, .goto 5, 3, 24, 0, 0)] := fq_of2 cd_475 ow_475 cl_475 rfl (pc := 7) (by decide +kernel)
      j_aldn (pc := 7) D rfl rfl rfl fun D =>
      j_gfc (pc := 8) (a := 303) D rfl rfl (by decide) rfl (s0_303 H) rfl (sf_313_303 H) fun D =>
      j_lldn (pc := 11) D rfl rfl rfl fun D =>
      j_c0 (pc := 12) (v := (1, 0)) D rfl rfl (by decide +kernel) fun D =>
      j_lcmp (pc := 13) D rfl fun D =>
      j_ifle (pc := 14) D rfl (fun q D =>
        j_bp (pc := 17) D rfl fun D =>
        j_goto (pc := 19) D rfl <|
        fk_jump cut_475_24 rfl rfl) (fun q =>
        have D : fk_D 475 [(22, none, .bipush 9, 2, 0, 9, 0)] := fq_of2 cd_475 ow_475 cl_475 rfl (pc := 22) (by decide +kernel)
        j_bp (pc := 22) D rfl fun D =>
        fk_jump cut_475_24 rfl rfl))
/-! 476 StatuteHouse.spread(ID)V -/
theorem cd_476 : fi_code 476 = prog_1_method_121_code := rfl
theorem hx_476 : ∀ pc, fi_hat 476 pc = none := fun pc => by unfold fi_hat; rw [show fi_hh 476 = [] from rfl]; rfl
theorem rt_476 : fi_ret 476 = none := rfl
theorem nl_476 : fi_nl 476 = 8 := rfl
theorem ow_476 : fi_ow 476 = 0 := rfl
theorem cl_476 : fj_cutT.getD 476 [] = [(53, [0, 1]), (59, [0, 1, 4, 6]), (68, [0, 1, 4, 6, 7])] := rfl
theorem cut_476_53 : fj_cut 476 53 = some [0, 1] := by decide +kernel
noncomputable def c_476_53 (d : Nat) (x1 : Int) (h : fi_H) : fk_R := gG (fj_run d) 476 53 [(0, (4, 303)), (1, (0, x1))] [] h
theorem cut_476_59 : fj_cut 476 59 = some [0, 1, 4, 6] := by decide +kernel
noncomputable def c_476_59 (d : Nat) (x1 x4 x6 : Int) (h : fi_H) : fk_R := gG (fj_run d) 476 59 [(0, (4, 303)), (1, (0, x1)), (4, (1, x4)), (6, (0, x6))] [] h
theorem cut_476_68 : fj_cut 476 68 = some [0, 1, 4, 6, 7] := by decide +kernel
noncomputable def c_476_68 (d : Nat) (x1 x4 x6 x7 : Int) (h : fi_H) : fk_R := gG (fj_run d) 476 68 [(0, (4, 303)), (1, (0, x1)), (4, (1, x4)), (6, (0, x6)), (7, (0, x7))] [] h
theorem e_476_53 (d : Nat) (x1 : Int) {h : fi_H} (H : Shp h) : c_476_53 d x1 h =
  c_476_59 d x1 0 0 h := by
  unfold c_476_53
  exact
    have D : fk_D 476 [(53, some [0, 1], .lconst 0, 1, 0, 0, 0), (54, none, .lstore 4, 2, 0, 0, 0), (56, none, .iconst 0, 1, 0, 0, 0), (57, none, .istore 6, 2, 0, 0, 0)] := fq_of2 cd_476 ow_476 cl_476 rfl (pc := 53) (by decide +kernel)
    j_c0 (pc := 53) (v := (1, 0)) D rfl rfl (by decide +kernel) fun D =>
    j_lst (pc := 54) (L' := [(4, (1, 0)), (0, (4, 303)), (1, (0, x1))]) D rfl nl_476 rfl rfl fun D =>
    j_ic (pc := 56) D rfl fun D =>
    j_ist (pc := 57) (L' := [(6, (0, 0)), (4, (1, 0)), (0, (4, 303)), (1, (0, x1))]) D rfl nl_476 rfl rfl fun D =>
    fk_jump cut_476_59 rfl rfl
theorem e_476_59 (d : Nat) (x1 x4 x6 : Int) {h : fi_H} (H : Shp h) : c_476_59 d x1 x4 x6 h =
  if x6 < x1 then
    c_476_68 d x1 x4 x6 0 h
  else
    if 0 < lc_ (h 11 471 2) 0 then
      dn_ (FP.ddiv (fi_D (ld_ x4)) (fi_D (id_ x1))) fun v1 =>
      dn_ (FP.ddiv (fi_D v1) (fi_D (ld_ (h 11 471 2)))) fun v2 =>
      ca_ (fj_run d 323 h [(3, v2)]) 1
        (fun v4 h3 =>
        lt_ (fi_upd h3 11 471 7 v4) fun h6 =>
        some (.inl none, h6))
        (fun q5 h3 => tx_ q5 h3)
    else
      some (.inl none, h) := by
  unfold c_476_59
  exact
    have D : fk_D 476 [(59, some [0, 1, 4, 6], .iload 6, 2, 0, 0, 0), (61, none, .iload_n 1, 1, 0, 0, 0), (62, none, .if_icmp .ge 45, 3, 107, 0, 0), (65, none, .iconst 0, 1, 0, 0, 0), (66, none, .istore 7, 2, 0, 0, 0)] := fq_of2 cd_476 ow_476 cl_476 rfl (pc := 59) (by decide +kernel)
    j_ild (pc := 59) D rfl rfl rfl fun D =>
    j_ildn (pc := 61) D rfl rfl rfl fun D =>
    j_ige (pc := 62) D rfl (fun q D =>
      j_ic (pc := 65) D rfl fun D =>
      j_ist (pc := 66) (L' := [(7, (0, 0)), (0, (4, 303)), (1, (0, x1)), (4, (1, x4)), (6, (0, x6))]) D rfl nl_476 rfl rfl fun D =>
      fk_jump cut_476_68 rfl rfl) (fun q =>
      have D : fk_D 476 [(107, none, .aload_n 0, 1, 0, 0, 0), (108, none, .getfield 773, 3, 313, 100, 12), (111, none, .iconst 2, 1, 0, 2, 0), (112, none, .laload, 1, 0, 0, 0), (113, none, .lconst 0, 1, 0, 0, 0), (114, none, .lcmp, 1, 0, 0, 0), (115, none, .ifCond .le 27, 3, 142, 0, 0), (118, none, .aload_n 0, 1, 0, 0, 0), (119, none, .getfield 773, 3, 313, 100, 12), (122, none, .bipush 7, 2, 0, 7, 0), (124, none, .lload 4, 2, 0, 0, 0), (126, none, .l2d, 1, 0, 0, 0), (127, none, .iload_n 1, 1, 0, 0, 0), (128, none, .i2d, 1, 0, 0, 0), (129, none, .ddiv, 1, 0, 0, 0), (130, none, .aload_n 0, 1, 0, 0, 0), (131, none, .getfield 773, 3, 313, 100, 12), (134, none, .iconst 2, 1, 0, 2, 0), (135, none, .laload, 1, 0, 0, 0), (136, none, .l2d, 1, 0, 0, 0)] := fq_of2 cd_476 ow_476 cl_476 rfl (pc := 107) (by decide +kernel)
      j_aldn (pc := 107) D rfl rfl rfl fun D =>
      j_gfc (pc := 108) (a := 303) D rfl rfl (by decide) rfl (s0_303 H) rfl (sf_313_303 H) fun D =>
      j_ic (pc := 111) D rfl fun D =>
      j_al (pc := 112) (a := 471) (e := 11) D rfl rfl rfl (by decide) (s0_471 H) (s1_471 H) ⟨rfl, rfl, rfl⟩ rfl (gy (by decide)) fun q D =>
      j_c0 (pc := 113) (v := (1, 0)) D rfl rfl (by decide +kernel) fun D =>
      j_lcmp (pc := 114) D rfl fun D =>
      j_ifle (pc := 115) D rfl (fun q D =>
        j_aldn (pc := 118) D rfl rfl rfl fun D =>
        j_gfc (pc := 119) (a := 303) D rfl rfl (by decide) rfl (s0_303 H) rfl (sf_313_303 H) fun D =>
        j_bp (pc := 122) D rfl fun D =>
        j_lld (pc := 124) D rfl rfl rfl fun D =>
        j_l2d (pc := 126) D rfl fun D =>
        j_ildn (pc := 127) D rfl rfl rfl fun D =>
        j_i2d (pc := 128) D rfl fun D =>
        j_dop (pc := 129) (u := FP.ddiv (fi_D (ld_ x4)) (fi_D (id_ x1))) D rfl rfl rfl fun D v1 =>
        j_aldn (pc := 130) D rfl rfl rfl fun D =>
        j_gfc (pc := 131) (a := 303) D rfl rfl (by decide) rfl (s0_303 H) rfl (sf_313_303 H) fun D =>
        j_ic (pc := 134) D rfl fun D =>
        j_al (pc := 135) (a := 471) (e := 11) D rfl rfl rfl (by decide) (s0_471 H) (s1_471 H) ⟨rfl, rfl, rfl⟩ rfl (gy (by decide)) fun q D =>
        j_l2d (pc := 136) D rfl fun D =>
        have D : fk_D 476 [(137, none, .ddiv, 1, 0, 0, 0), (138, none, .invokestatic 1106, 3, 1, 323, 2), (141, none, .lastore, 1, 0, 0, 0), (142, none, .return_, 1, 0, 0, 0)] := fq_of2 cd_476 ow_476 cl_476 rfl (pc := 137) (by decide +kernel)
        j_dop (pc := 137) (u := FP.ddiv (fi_D v1) (fi_D (ld_ (h 11 471 2)))) D rfl rfl rfl fun D v2 =>
        j_is (pc := 138) (m := 323) (a := [(3, v2)]) (rest := [(0, 7), (4, 471)]) D rfl rfl rfl rfl (fun v4 h3 e1 D =>
          have T := fj_run_ok _ _ _ _ _ _ H.1 e1
          have H := shp_st H T
          j_as (pc := 141) (a := 471) (e := 11) D rfl ⟨rfl, rfl⟩ rfl (by decide) (s0_471 H) (s1_471 H) ⟨rfl, rfl, rfl⟩ rfl (gy (by decide)) (gy rfl) fun h6 eh6 S q D =>
          have T := fj_hs_ok H.1 S
          have H := shp_st H T
          j_vret D rt_476) (fun q5 h3 e1 =>
          j_tx (hx_476 _))) (fun q =>
        have D : fk_D 476 [(142, none, .return_, 1, 0, 0, 0)] := fq_of2 cd_476 ow_476 cl_476 rfl (pc := 142) (by decide +kernel)
        j_vret D rt_476))
theorem e_476_68 (d : Nat) (x1 x4 x6 x7 : Int) {h : fi_H} (H : Shp h) : c_476_68 d x1 x4 x6 x7 h =
  if x7 < x6 then
    if 0 ≤ x6 ∧ x6 < 30 then
    if 0 ≤ x7 ∧ x7 < 30 then
    lt_ (wJ (x4 + (wJ ((h 11 470 x6.toNat) - (h 11 470 x7.toNat))))) fun y3 =>
    c_476_68 d x1 y3 x6 (wI (x7 + 1)) h
    else none
    else none
  else
    c_476_59 d x1 x4 (wI (x6 + 1)) h := by
  unfold c_476_68
  exact
    have D : fk_D 476 [(68, some [0, 1, 4, 6, 7], .iload 7, 2, 0, 0, 0), (70, none, .iload 6, 2, 0, 0, 0), (72, none, .if_icmp .ge 29, 3, 101, 0, 0), (75, none, .lload 4, 2, 0, 0, 0), (77, none, .aload_n 0, 1, 0, 0, 0), (78, none, .getfield 770, 3, 312, 100, 12), (81, none, .iload 6, 2, 0, 0, 0), (83, none, .laload, 1, 0, 0, 0), (84, none, .aload_n 0, 1, 0, 0, 0), (85, none, .getfield 770, 3, 312, 100, 12), (88, none, .iload 7, 2, 0, 0, 0), (90, none, .laload, 1, 0, 0, 0), (91, none, .lsub, 1, 0, 0, 0), (92, none, .ladd, 1, 0, 0, 0), (93, none, .lstore 4, 2, 0, 0, 0), (95, none, .iinc 7 1, 3, 0, 1, 0), (98, none, .goto (-30), 3, 68, 0, 0)] := fq_of2 cd_476 ow_476 cl_476 rfl (pc := 68) (by decide +kernel)
    j_ild (pc := 68) D rfl rfl rfl fun D =>
    j_ild (pc := 70) D rfl rfl rfl fun D =>
    j_ige (pc := 72) D rfl (fun q D =>
      j_lld (pc := 75) D rfl rfl rfl fun D =>
      j_aldn (pc := 77) D rfl rfl rfl fun D =>
      j_gfc (pc := 78) (a := 303) D rfl rfl (by decide) rfl (s0_303 H) rfl (sf_312_303 H) fun D =>
      j_ild (pc := 81) D rfl rfl rfl fun D =>
      j_al (pc := 83) (a := 470) (e := 11) D rfl rfl rfl (by decide) (s0_470 H) (s1_470 H) ⟨rfl, rfl, rfl⟩ rfl gn fun qb1 D =>
      j_aldn (pc := 84) D rfl rfl rfl fun D =>
      j_gfc (pc := 85) (a := 303) D rfl rfl (by decide) rfl (s0_303 H) rfl (sf_312_303 H) fun D =>
      j_ild (pc := 88) D rfl rfl rfl fun D =>
      j_al (pc := 90) (a := 470) (e := 11) D rfl rfl rfl (by decide) (s0_470 H) (s1_470 H) ⟨rfl, rfl, rfl⟩ rfl gn fun qb2 D =>
      j_lsub (pc := 91) D rfl fun D =>
      j_ladd (pc := 92) D rfl fun D =>
      j_stl (pc := 93) (L' := fun y3 => [(4, (1, y3)), (0, (4, 303)), (1, (0, x1)), (6, (0, x6)), (7, (0, x7))]) D rfl ⟨rfl, rfl, rfl, rfl⟩ nl_476 rfl (fun _ => rfl) fun y3 ey3 D =>
      j_inc (pc := 95) (L' := [(7, (0, wI (x7 + 1))), (4, (1, y3)), (0, (4, 303)), (1, (0, x1)), (6, (0, x6))]) D rfl rfl rfl (by decide +kernel) rfl fun D =>
      j_goto (pc := 98) D rfl <|
      fk_jump cut_476_68 rfl rfl) (fun q =>
      have D : fk_D 476 [(101, none, .iinc 6 1, 3, 0, 1, 0), (104, none, .goto (-45), 3, 59, 0, 0)] := fq_of2 cd_476 ow_476 cl_476 rfl (pc := 101) (by decide +kernel)
      j_inc (pc := 101) (L' := [(6, (0, wI (x6 + 1))), (0, (4, 303)), (1, (0, x1)), (4, (1, x4)), (7, (0, x7))]) D rfl rfl rfl (by decide +kernel) rfl fun D =>
      j_goto (pc := 104) D rfl <|
      fk_jump cut_476_59 rfl rfl)
theorem m_476 (d : Nat) (x1 x2 : Int) {h : fi_H} (H : Shp h) : fj_run (d + 1) 476 h [(4, 303), (0, x1), (3, x2)] =
  lt_ (fi_upd h 11 471 3 (h 11 470 0)) fun h1 =>
  if 0 ≤ wI (x1 - 1) ∧ wI (x1 - 1) < 30 then
  lt_ (fi_upd h1 11 471 4 (h1 11 470 (wI (x1 - 1)).toNat)) fun h3 =>
  if 0 ≤ iq_ (wI (x1 - 1)) 2 ∧ iq_ (wI (x1 - 1)) 2 < 30 then
  lt_ (fi_upd h3 11 471 5 (h3 11 470 (iq_ (wI (x1 - 1)) 2).toNat)) fun h5 =>
  ca_ (fj_run d 323 h5 [(3, x2)]) 1
    (fun v7 h6 =>
    lt_ (fi_upd h6 11 471 6 v7) fun h9 =>
    c_476_53 d x1 h9)
    (fun q8 h6 => tx_ q8 h6)
  else none
  else none := by
  rw [fj_run_eq d (by decide) h [(4, 303), (0, x1), (3, x2)] (Nat.le_of_ble_eq_true (by rw [nl_476]; rfl))]
  show gG (fj_run d) 476 0 [(0, (4, 303)), (1, (0, x1)), (2, (3, x2))] [] h = _
  exact
    have D : fk_D 476 [(0, none, .aload_n 0, 1, 0, 0, 0), (1, none, .getfield 773, 3, 313, 100, 12), (4, none, .iconst 3, 1, 0, 3, 0), (5, none, .aload_n 0, 1, 0, 0, 0), (6, none, .getfield 770, 3, 312, 100, 12), (9, none, .iconst 0, 1, 0, 0, 0), (10, none, .laload, 1, 0, 0, 0), (11, none, .lastore, 1, 0, 0, 0), (12, none, .aload_n 0, 1, 0, 0, 0), (13, none, .getfield 773, 3, 313, 100, 12), (16, none, .iconst 4, 1, 0, 4, 0), (17, none, .aload_n 0, 1, 0, 0, 0), (18, none, .getfield 770, 3, 312, 100, 12), (21, none, .iload_n 1, 1, 0, 0, 0), (22, none, .iconst 1, 1, 0, 1, 0), (23, none, .isub, 1, 0, 0, 0), (24, none, .laload, 1, 0, 0, 0), (25, none, .lastore, 1, 0, 0, 0), (26, none, .aload_n 0, 1, 0, 0, 0), (27, none, .getfield 773, 3, 313, 100, 12)] := fq_of2 cd_476 ow_476 cl_476 rfl (pc := 0) (by decide +kernel)
    j_aldn (pc := 0) D rfl rfl rfl fun D =>
    j_gfc (pc := 1) (a := 303) D rfl rfl (by decide) rfl (s0_303 H) rfl (sf_313_303 H) fun D =>
    j_ic (pc := 4) D rfl fun D =>
    j_aldn (pc := 5) D rfl rfl rfl fun D =>
    j_gfc (pc := 6) (a := 303) D rfl rfl (by decide) rfl (s0_303 H) rfl (sf_312_303 H) fun D =>
    j_ic (pc := 9) D rfl fun D =>
    j_al (pc := 10) (a := 470) (e := 11) D rfl rfl rfl (by decide) (s0_470 H) (s1_470 H) ⟨rfl, rfl, rfl⟩ rfl (gy (by decide)) fun q D =>
    j_as (pc := 11) (a := 471) (e := 11) D rfl ⟨rfl, rfl⟩ rfl (by decide) (s0_471 H) (s1_471 H) ⟨rfl, rfl, rfl⟩ rfl (gy (by decide)) (gy rfl) fun h1 eh1 S q D =>
    have T := fj_hs_ok H.1 S
    have H := shp_st H T
    j_aldn (pc := 12) D rfl rfl rfl fun D =>
    j_gfc (pc := 13) (a := 303) D rfl rfl (by decide) rfl (s0_303 H) rfl (sf_313_303 H) fun D =>
    j_ic (pc := 16) D rfl fun D =>
    j_aldn (pc := 17) D rfl rfl rfl fun D =>
    j_gfc (pc := 18) (a := 303) D rfl rfl (by decide) rfl (s0_303 H) rfl (sf_312_303 H) fun D =>
    j_ildn (pc := 21) D rfl rfl rfl fun D =>
    j_ic (pc := 22) D rfl fun D =>
    j_isub (pc := 23) D rfl fun D =>
    j_al (pc := 24) (a := 470) (e := 11) D rfl rfl rfl (by decide) (s0_470 H) (s1_470 H) ⟨rfl, rfl, rfl⟩ rfl gn fun qb2 D =>
    j_as (pc := 25) (a := 471) (e := 11) D rfl ⟨rfl, rfl⟩ rfl (by decide) (s0_471 H) (s1_471 H) ⟨rfl, rfl, rfl⟩ rfl (gy (by decide)) (gy rfl) fun h3 eh3 S q D =>
    have T := fj_hs_ok H.1 S
    have H := shp_st H T
    j_aldn (pc := 26) D rfl rfl rfl fun D =>
    j_gfc (pc := 27) (a := 303) D rfl rfl (by decide) rfl (s0_303 H) rfl (sf_313_303 H) fun D =>
    have D : fk_D 476 [(30, none, .iconst 5, 1, 0, 5, 0), (31, none, .aload_n 0, 1, 0, 0, 0), (32, none, .getfield 770, 3, 312, 100, 12), (35, none, .iload_n 1, 1, 0, 0, 0), (36, none, .iconst 1, 1, 0, 1, 0), (37, none, .isub, 1, 0, 0, 0), (38, none, .iconst 2, 1, 0, 2, 0), (39, none, .idiv, 1, 0, 0, 0), (40, none, .laload, 1, 0, 0, 0), (41, none, .lastore, 1, 0, 0, 0), (42, none, .aload_n 0, 1, 0, 0, 0), (43, none, .getfield 773, 3, 313, 100, 12), (46, none, .bipush 6, 2, 0, 6, 0), (48, none, .dload_n 2, 1, 0, 0, 0), (49, none, .invokestatic 1106, 3, 1, 323, 2), (52, none, .lastore, 1, 0, 0, 0)] := fq_of2 cd_476 ow_476 cl_476 rfl (pc := 30) (by decide +kernel)
    j_ic (pc := 30) D rfl fun D =>
    j_aldn (pc := 31) D rfl rfl rfl fun D =>
    j_gfc (pc := 32) (a := 303) D rfl rfl (by decide) rfl (s0_303 H) rfl (sf_312_303 H) fun D =>
    j_ildn (pc := 35) D rfl rfl rfl fun D =>
    j_ic (pc := 36) D rfl fun D =>
    j_isub (pc := 37) D rfl fun D =>
    j_ic (pc := 38) D rfl fun D =>
    j_idivk (pc := 39) D rfl (by decide) fun D =>
    j_al (pc := 40) (a := 470) (e := 11) D rfl rfl rfl (by decide) (s0_470 H) (s1_470 H) ⟨rfl, rfl, rfl⟩ rfl gn fun qb4 D =>
    j_as (pc := 41) (a := 471) (e := 11) D rfl ⟨rfl, rfl⟩ rfl (by decide) (s0_471 H) (s1_471 H) ⟨rfl, rfl, rfl⟩ rfl (gy (by decide)) (gy rfl) fun h5 eh5 S q D =>
    have T := fj_hs_ok H.1 S
    have H := shp_st H T
    j_aldn (pc := 42) D rfl rfl rfl fun D =>
    j_gfc (pc := 43) (a := 303) D rfl rfl (by decide) rfl (s0_303 H) rfl (sf_313_303 H) fun D =>
    j_bp (pc := 46) D rfl fun D =>
    j_dldn (pc := 48) D rfl rfl rfl fun D =>
    j_is (pc := 49) (m := 323) (a := [(3, x2)]) (rest := [(0, 6), (4, 471)]) D rfl rfl rfl rfl (fun v7 h6 e1 D =>
      have T := fj_run_ok _ _ _ _ _ _ H.1 e1
      have H := shp_st H T
      j_as (pc := 52) (a := 471) (e := 11) D rfl ⟨rfl, rfl⟩ rfl (by decide) (s0_471 H) (s1_471 H) ⟨rfl, rfl, rfl⟩ rfl (gy (by decide)) (gy rfl) fun h9 eh9 S q D =>
      have T := fj_hs_ok H.1 S
      have H := shp_st H T
      fk_jump cut_476_53 rfl rfl) (fun q8 h6 e1 =>
      j_tx (hx_476 _))
/-! 477 StatuteHouse.forecast(IIII)I -/
theorem cd_477 : fi_code 477 = prog_1_method_122_code := rfl
theorem hx_477 : ∀ pc, fi_hat 477 pc = none := fun pc => by unfold fi_hat; rw [show fi_hh 477 = [] from rfl]; rfl
theorem rt_477 : fi_ret 477 = some .int := rfl
theorem nl_477 : fi_nl 477 = 8 := rfl
theorem ow_477 : fi_ow 477 = 0 := rfl
theorem cl_477 : fj_cutT.getD 477 [] = [(82, [0, 1, 2, 3, 4, 5]), (121, [0, 1, 2, 3, 4, 5, 6, 7]), (176, [0, 1, 2, 3, 4, 5, 6, 7])] := rfl
theorem cut_477_82 : fj_cut 477 82 = some [0, 1, 2, 3, 4, 5] := by decide +kernel
noncomputable def c_477_82 (d : Nat) (x1 x2 x3 x4 x5 : Int) (h : fi_H) : fk_R := gG (fj_run d) 477 82 [(0, (4, 303)), (1, (0, x1)), (2, (0, x2)), (3, (0, x3)), (4, (0, x4)), (5, (0, x5))] [] h
theorem cut_477_121 : fj_cut 477 121 = some [0, 1, 2, 3, 4, 5, 6, 7] := by decide +kernel
noncomputable def c_477_121 (d : Nat) (x1 x2 x3 x4 x5 x6 x7 : Int) (h : fi_H) : fk_R := gG (fj_run d) 477 121 [(0, (4, 303)), (1, (0, x1)), (2, (0, x2)), (3, (0, x3)), (4, (0, x4)), (5, (0, x5)), (6, (0, x6)), (7, (0, x7))] [] h
theorem cut_477_176 : fj_cut 477 176 = some [0, 1, 2, 3, 4, 5, 6, 7] := by decide +kernel
noncomputable def c_477_176 (d : Nat) (x1 x2 x3 x4 x5 x6 x7 : Int) (h : fi_H) : fk_R := gG (fj_run d) 477 176 [(0, (4, 303)), (1, (0, x1)), (2, (0, x2)), (3, (0, x3)), (4, (0, x4)), (5, (0, x5)), (6, (0, x6)), (7, (0, x7))] [] h
theorem e_477_82 (d : Nat) (x1 x2 x3 x4 x5 : Int) {h : fi_H} (H : Shp h) : c_477_82 d x1 x2 x3 x4 x5 h =
  if x5 < x4 then
    ca_ (fj_run d 350 h [(4, 306), (0, x3), (0, x5), (0, 0)]) 0
      (fun v2 h1 =>
      if 0 ≤ x5 ∧ x5 < 60 then
      lt_ (fi_upd h1 11 472 x5.toNat 0) fun h4 =>
      lt_ (fi_upd h4 10 473 x5.toNat 0) fun h6 =>
      c_477_121 d x1 x2 x3 x4 x5 v2 1 h6
      else none)
      (fun q3 h1 => tx_ q3 h1)
  else
    lt_ (fi_upd h 316 303 0 x4) fun h7 =>
    some (.inl (some (0, x4)), h7) := by
  unfold c_477_82
  exact
    have D : fk_D 477 [(82, some [0, 1, 2, 3, 4, 5], .iload 5, 2, 0, 0, 0), (84, none, .iload 4, 2, 0, 0, 0), (86, none, .if_icmp .ge 102, 3, 188, 0, 0), (89, none, .aload_n 0, 1, 0, 0, 0), (90, none, .getfield 16, 3, 209, 100, 12), (93, none, .iload_n 3, 1, 0, 0, 0), (94, none, .iload 5, 2, 0, 0, 0), (96, none, .iconst 0, 1, 0, 0, 0), (97, none, .invokevirtual 168, 3, 3, 119, 1), (100, none, .istore 6, 2, 0, 0, 0), (102, none, .aload_n 0, 1, 0, 0, 0), (103, none, .getfield 776, 3, 314, 100, 12), (106, none, .iload 5, 2, 0, 0, 0), (108, none, .lconst 0, 1, 0, 0, 0), (109, none, .lastore, 1, 0, 0, 0), (110, none, .aload_n 0, 1, 0, 0, 0), (111, none, .getfield 779, 3, 315, 100, 12), (114, none, .iload 5, 2, 0, 0, 0), (116, none, .iconst 0, 1, 0, 0, 0), (117, none, .iastore, 1, 0, 0, 0)] := fq_of2 cd_477 ow_477 cl_477 rfl (pc := 82) (by decide +kernel)
    j_ild (pc := 82) D rfl rfl rfl fun D =>
    j_ild (pc := 84) D rfl rfl rfl fun D =>
    j_ige (pc := 86) D rfl (fun q D =>
      j_aldn (pc := 89) D rfl rfl rfl fun D =>
      j_gfc (pc := 90) (a := 303) D rfl rfl (by decide) rfl (s0_303 H) rfl (sf_209_303 H) fun D =>
      j_ildn (pc := 93) D rfl rfl rfl fun D =>
      j_ild (pc := 94) D rfl rfl rfl fun D =>
      j_ic (pc := 96) D rfl fun D =>
      j_iv (pc := 97) (m := 350) (dd := 119) (a := [(0, x3), (0, x5), (0, 0)]) (rest := []) D rfl rfl rfl rfl rfl (by decide) (s0_306 H) (by decide +kernel) (fun v2 h1 e1 D =>
        have T := fj_run_ok _ _ _ _ _ _ H.1 e1
        have H := shp_st H T
        j_ist (pc := 100) (L' := [(6, (0, v2)), (0, (4, 303)), (1, (0, x1)), (2, (0, x2)), (3, (0, x3)), (4, (0, x4)), (5, (0, x5))]) D rfl nl_477 rfl rfl fun D =>
        j_aldn (pc := 102) D rfl rfl rfl fun D =>
        j_gfc (pc := 103) (a := 303) D rfl rfl (by decide) rfl (s0_303 H) rfl (sf_314_303 H) fun D =>
        j_ild (pc := 106) D rfl rfl rfl fun D =>
        j_c0 (pc := 108) (v := (1, 0)) D rfl rfl (by decide +kernel) fun D =>
        j_as (pc := 109) (a := 472) (e := 11) D rfl ⟨rfl, rfl⟩ rfl (by decide) (s0_472 H) (s1_472 H) ⟨rfl, rfl, rfl⟩ rfl gn (gy rfl) fun h4 eh4 S qb5 D =>
        have T := fj_hs_ok H.1 S
        have H := shp_st H T
        j_aldn (pc := 110) D rfl rfl rfl fun D =>
        j_gfc (pc := 111) (a := 303) D rfl rfl (by decide) rfl (s0_303 H) rfl (sf_315_303 H) fun D =>
        j_ild (pc := 114) D rfl rfl rfl fun D =>
        j_ic (pc := 116) D rfl fun D =>
        j_as (pc := 117) (a := 473) (e := 10) D rfl ⟨rfl, rfl⟩ rfl (by decide) (s0_473 H) (s1_473 H) ⟨rfl, rfl, rfl⟩ rfl (gy qb5) (gy rfl) fun h6 eh6 S q D =>
        have T := fj_hs_ok H.1 S
        have H := shp_st H T
        have D : fk_D 477 [(118, none, .iconst 1, 1, 0, 1, 0), (119, none, .istore 7, 2, 0, 0, 0)] := fq_of2 cd_477 ow_477 cl_477 rfl (pc := 118) (by decide +kernel)
        j_ic (pc := 118) D rfl fun D =>
        j_ist (pc := 119) (L' := [(7, (0, 1)), (6, (0, v2)), (0, (4, 303)), (1, (0, x1)), (2, (0, x2)), (3, (0, x3)), (4, (0, x4)), (5, (0, x5))]) D rfl nl_477 rfl rfl fun D =>
        fk_jump cut_477_121 rfl rfl) (fun q3 h1 e1 =>
        j_tx (hx_477 _))) (fun q =>
      have D : fk_D 477 [(188, none, .aload_n 0, 1, 0, 0, 0), (189, none, .iload 4, 2, 0, 0, 0), (191, none, .putfield 1112, 3, 316, 100, 10), (194, none, .iload 4, 2, 0, 0, 0), (196, none, .ireturn, 1, 0, 0, 0)] := fq_of2 cd_477 ow_477 cl_477 rfl (pc := 188) (by decide +kernel)
      j_aldn (pc := 188) D rfl rfl rfl fun D =>
      j_ild (pc := 189) D rfl rfl rfl fun D =>
      j_pf (pc := 191) (a := 303) D rfl rfl rfl (s0_303 H) rfl rfl (gy (by decide)) (gy rfl) fun h7 eh7 S D =>
      have T := fj_hs_ok H.1 S
      have H := shp_st H T
      j_ild (pc := 194) D rfl rfl rfl fun D =>
      j_iret D rt_477)
theorem e_477_121 (d : Nat) (x1 x2 x3 x4 x5 x6 x7 : Int) {h : fi_H} (H : Shp h) : c_477_121 d x1 x2 x3 x4 x5 x6 x7 h =
  if x7 < h 216 303 0 then
    ca_ (fj_run d 441 h [(4, 303), (0, x1), (0, x2), (0, x7), (0, x6)]) 0
      (fun v2 h1 =>
      if v2 = 0 then
        if 0 ≤ x5 ∧ x5 < 60 then
        lt_ (fi_upd h1 11 472 x5.toNat (wJ ((h1 11 472 x5.toNat) + (h1 11 315 0)))) fun h5 =>
        lt_ (fi_upd h5 10 473 x5.toNat (wI ((h5 10 473 x5.toNat) + 1))) fun h6 =>
        c_477_176 d x1 x2 x3 x4 x5 x6 x7 h6
        else none
      else
        c_477_176 d x1 x2 x3 x4 x5 x6 x7 h1)
      (fun q3 h1 => tx_ q3 h1)
  else
    c_477_82 d x1 x2 x3 x4 (wI (x5 + 1)) h := by
  unfold c_477_121
  exact
    have D : fk_D 477 [(121, some [0, 1, 2, 3, 4, 5, 6, 7], .iload 7, 2, 0, 0, 0), (123, none, .aload_n 0, 1, 0, 0, 0), (124, none, .getfield 267, 3, 216, 100, 10), (127, none, .if_icmp .ge 55, 3, 182, 0, 0), (130, none, .aload_n 0, 1, 0, 0, 0), (131, none, .iload_n 1, 1, 0, 0, 0), (132, none, .iload_n 2, 1, 0, 0, 0), (133, none, .iload 7, 2, 0, 0, 0), (135, none, .iload 6, 2, 0, 0, 0), (137, none, .invokevirtual 1002, 3, 4, 185, 1), (140, none, .ifCond .eq 6, 3, 146, 0, 0), (143, none, .goto 33, 3, 176, 0, 0)] := fq_of2 cd_477 ow_477 cl_477 rfl (pc := 121) (by decide +kernel)
    j_ild (pc := 121) D rfl rfl rfl fun D =>
    j_aldn (pc := 123) D rfl rfl rfl fun D =>
    j_gf (pc := 124) (a := 303) D rfl rfl (by decide) rfl (s0_303 H) rfl fun D =>
    j_ige (pc := 127) D rfl (fun q D =>
      j_aldn (pc := 130) D rfl rfl rfl fun D =>
      j_ildn (pc := 131) D rfl rfl rfl fun D =>
      j_ildn (pc := 132) D rfl rfl rfl fun D =>
      j_ild (pc := 133) D rfl rfl rfl fun D =>
      j_ild (pc := 135) D rfl rfl rfl fun D =>
      j_iv (pc := 137) (m := 441) (dd := 185) (a := [(0, x1), (0, x2), (0, x7), (0, x6)]) (rest := []) D rfl rfl rfl rfl rfl (by decide) (s0_303 H) (by decide +kernel) (fun v2 h1 e1 D =>
        have T := fj_run_ok _ _ _ _ _ _ H.1 e1
        have H := shp_st H T
        j_ifeq (pc := 140) D rfl (fun q =>
          have D : fk_D 477 [(146, none, .aload_n 0, 1, 0, 0, 0), (147, none, .getfield 776, 3, 314, 100, 12), (150, none, .iload 5, 2, 0, 0, 0), (152, none, .dup2, 1, 0, 0, 0), (153, none, .laload, 1, 0, 0, 0), (154, none, .aload_n 0, 1, 0, 0, 0), (155, none, .getfield 113, 3, 213, 100, 12), (158, none, .getfield 66, 3, 119, 119, 12), (161, none, .iconst 0, 1, 0, 0, 0), (162, none, .laload, 1, 0, 0, 0), (163, none, .ladd, 1, 0, 0, 0), (164, none, .lastore, 1, 0, 0, 0), (165, none, .aload_n 0, 1, 0, 0, 0), (166, none, .getfield 779, 3, 315, 100, 12), (169, none, .iload 5, 2, 0, 0, 0), (171, none, .dup2, 1, 0, 0, 0), (172, none, .iaload, 1, 0, 0, 0), (173, none, .iconst 1, 1, 0, 1, 0), (174, none, .iadd, 1, 0, 0, 0), (175, none, .iastore, 1, 0, 0, 0)] := fq_of2 cd_477 ow_477 cl_477 rfl (pc := 146) (by decide +kernel)
          j_aldn (pc := 146) D rfl rfl rfl fun D =>
          j_gfc (pc := 147) (a := 303) D rfl rfl (by decide) rfl (s0_303 H) rfl (sf_314_303 H) fun D =>
          j_ild (pc := 150) D rfl rfl rfl fun D =>
          j_sh (pc := 152) D rfl rfl rfl fun D =>
          j_al (pc := 153) (a := 472) (e := 11) D rfl rfl rfl (by decide) (s0_472 H) (s1_472 H) ⟨rfl, rfl, rfl⟩ rfl gn fun qb4 D =>
          j_aldn (pc := 154) D rfl rfl rfl fun D =>
          j_gfc (pc := 155) (a := 303) D rfl rfl (by decide) rfl (s0_303 H) rfl (sf_213_303 H) fun D =>
          j_gfc (pc := 158) (a := 309) D rfl rfl (by decide) rfl (s0_309 H) rfl (sf_119_309 H) fun D =>
          j_ic (pc := 161) D rfl fun D =>
          j_al (pc := 162) (a := 315) (e := 11) D rfl rfl rfl (by decide) (s0_315 H) (s1_315 H) ⟨rfl, rfl, rfl⟩ rfl (gy (by decide)) fun q D =>
          j_ladd (pc := 163) D rfl fun D =>
          j_as (pc := 164) (a := 472) (e := 11) D rfl ⟨rfl, rfl⟩ rfl (by decide) (s0_472 H) (s1_472 H) ⟨rfl, rfl, rfl⟩ rfl (gy qb4) (gy rfl) fun h5 eh5 S q D =>
          have T := fj_hs_ok H.1 S
          have H := shp_st H T
          j_aldn (pc := 165) D rfl rfl rfl fun D =>
          j_gfc (pc := 166) (a := 303) D rfl rfl (by decide) rfl (s0_303 H) rfl (sf_315_303 H) fun D =>
          j_ild (pc := 169) D rfl rfl rfl fun D =>
          j_sh (pc := 171) D rfl rfl rfl fun D =>
          j_al (pc := 172) (a := 473) (e := 10) D rfl rfl rfl (by decide) (s0_473 H) (s1_473 H) ⟨rfl, rfl, rfl⟩ rfl (gy qb4) fun q D =>
          j_ic (pc := 173) D rfl fun D =>
          j_iadd (pc := 174) D rfl fun D =>
          j_as (pc := 175) (a := 473) (e := 10) D rfl ⟨rfl, rfl⟩ rfl (by decide) (s0_473 H) (s1_473 H) ⟨rfl, rfl, rfl⟩ rfl (gy qb4) (gy rfl) fun h6 eh6 S q D =>
          have T := fj_hs_ok H.1 S
          have H := shp_st H T
          fk_jump cut_477_176 rfl rfl) (fun q D =>
          j_goto (pc := 143) D rfl <|
          fk_jump cut_477_176 rfl rfl)) (fun q3 h1 e1 =>
        j_tx (hx_477 _))) (fun q =>
      have D : fk_D 477 [(182, none, .iinc 5 1, 3, 0, 1, 0), (185, none, .goto (-103), 3, 82, 0, 0)] := fq_of2 cd_477 ow_477 cl_477 rfl (pc := 182) (by decide +kernel)
      j_inc (pc := 182) (L' := [(5, (0, wI (x5 + 1))), (0, (4, 303)), (1, (0, x1)), (2, (0, x2)), (3, (0, x3)), (4, (0, x4)), (6, (0, x6)), (7, (0, x7))]) D rfl rfl rfl (by decide +kernel) rfl fun D =>
      j_goto (pc := 185) D rfl <|
      fk_jump cut_477_82 rfl rfl)
theorem e_477_176 (d : Nat) (x1 x2 x3 x4 x5 x6 x7 : Int) {h : fi_H} (H : Shp h) : c_477_176 d x1 x2 x3 x4 x5 x6 x7 h =
  c_477_121 d x1 x2 x3 x4 x5 x6 (wI (x7 + 1)) h := by
  unfold c_477_176
  exact
    have D : fk_D 477 [(176, some [0, 1, 2, 3, 4, 5, 6, 7], .iinc 7 1, 3, 0, 1, 0), (179, none, .goto (-58), 3, 121, 0, 0)] := fq_of2 cd_477 ow_477 cl_477 rfl (pc := 176) (by decide +kernel)
    j_inc (pc := 176) (L' := [(7, (0, wI (x7 + 1))), (0, (4, 303)), (1, (0, x1)), (2, (0, x2)), (3, (0, x3)), (4, (0, x4)), (5, (0, x5)), (6, (0, x6))]) D rfl rfl rfl (by decide +kernel) rfl fun D =>
    j_goto (pc := 179) D rfl <|
    fk_jump cut_477_121 rfl rfl
theorem m_477 (d : Nat) (x1 x2 x3 x4 : Int) {h : fi_H} (H : Shp h) : fj_run (d + 1) 477 h [(4, 303), (0, x1), (0, x2), (0, x3), (0, x4)] =
  ca_ (fj_run d 458 h [(4, 303), (0, x2)]) 0
    (fun v2 h1 =>
    if v2 = 0 then
      some (.inl (some (0, (-1))), h1)
    else
      ca_ (fj_run d 1 h1 [(0, x1)]) 0
        (fun v5 h4 =>
        if v5 = 0 then
          some (.inl (some (0, (-2))), h4)
        else
          ca_ (fj_run d 2 h4 [(4, 303), (0, x3)]) 0
            (fun v8 h7 =>
            if v8 = 0 then
              some (.inl (some (0, (-2))), h7)
            else
              ca_ (fj_run d 367 h7 [(4, 306), (0, x3)]) 0
                (fun v11 h10 =>
                if v11 = x3 then
                  ca_ (fj_run d 3 h10 [(1, wI x4), (1, 1), (1, 60)]) 0
                    (fun v14 h13 =>
                    if v14 = 0 then
                      some (.inl (some (0, (-2))), h13)
                    else
                      ca_ (fj_run d 350 h13 [(4, 306), (0, x3), (0, wI (x4 - 1)), (0, 0)]) 0
                        (fun v17 h16 =>
                        if v17 = (-1) then
                          some (.inl (some (0, (-2))), h16)
                        else
                          cv_ (fj_run d 307 h16 [(4, 303), (0, h16 239 303 0), (0, 1)])
                            (fun h19 =>
                            c_477_82 d x1 x2 x3 x4 0 h19)
                            (fun q21 h19 => tx_ q21 h19))
                        (fun q18 h16 => tx_ q18 h16))
                    (fun q15 h13 => tx_ q15 h13)
                else
                  some (.inl (some (0, (-2))), h10))
                (fun q12 h10 => tx_ q12 h10))
            (fun q9 h7 => tx_ q9 h7))
        (fun q6 h4 => tx_ q6 h4))
    (fun q3 h1 => tx_ q3 h1) := by
  rw [fj_run_eq d (by decide) h [(4, 303), (0, x1), (0, x2), (0, x3), (0, x4)] (Nat.le_of_ble_eq_true (by rw [nl_477]; rfl))]
  show gG (fj_run d) 477 0 [(0, (4, 303)), (1, (0, x1)), (2, (0, x2)), (3, (0, x3)), (4, (0, x4))] [] h = _
  exact
    have D : fk_D 477 [(0, none, .aload_n 0, 1, 0, 0, 0), (1, none, .iload_n 2, 1, 0, 0, 0), (2, none, .invokevirtual 1053, 3, 1, 192, 1), (5, none, .ifCond .ne 5, 3, 10, 0, 0), (8, none, .iconst (-1), 1, 0, (-1), 0), (9, none, .ireturn, 1, 0, 0, 0)] := fq_of2 cd_477 ow_477 cl_477 rfl (pc := 0) (by decide +kernel)
    j_aldn (pc := 0) D rfl rfl rfl fun D =>
    j_ildn (pc := 1) D rfl rfl rfl fun D =>
    j_iv (pc := 2) (m := 458) (dd := 192) (a := [(0, x2)]) (rest := []) D rfl rfl rfl rfl rfl (by decide) (s0_303 H) (by decide +kernel) (fun v2 h1 e1 D =>
      have T := fj_run_ok _ _ _ _ _ _ H.1 e1
      have H := shp_st H T
      j_ifne (pc := 5) D rfl (fun q D =>
        j_ic (pc := 8) D rfl fun D =>
        j_iret D rt_477) (fun q =>
        have D : fk_D 477 [(10, none, .iload_n 1, 1, 0, 0, 0), (11, none, .invokestatic 526, 3, 1, 1, 1), (14, none, .ifCond .eq 53, 3, 67, 0, 0), (17, none, .aload_n 0, 1, 0, 0, 0), (18, none, .iload_n 3, 1, 0, 0, 0), (19, none, .invokevirtual 121, 3, 1, 113, 1), (22, none, .ifCond .eq 45, 3, 67, 0, 0), (25, none, .aload_n 0, 1, 0, 0, 0), (26, none, .getfield 16, 3, 209, 100, 12), (29, none, .iload_n 3, 1, 0, 0, 0), (30, none, .invokevirtual 1056, 3, 1, 193, 1), (33, none, .iload_n 3, 1, 0, 0, 0), (34, none, .if_icmp .ne 33, 3, 67, 0, 0), (37, none, .iload 4, 2, 0, 0, 0), (39, none, .i2l, 1, 0, 0, 0), (40, none, .lconst 1, 1, 0, 0, 0), (41, none, .ldc2_w 1110, 3, 1, 60, 0), (44, none, .invokestatic 46, 3, 3, 3, 1), (47, none, .ifCond .eq 20, 3, 67, 0, 0), (50, none, .aload_n 0, 1, 0, 0, 0)] := fq_of2 cd_477 ow_477 cl_477 rfl (pc := 10) (by decide +kernel)
        j_ildn (pc := 10) D rfl rfl rfl fun D =>
        j_is (pc := 11) (m := 1) (a := [(0, x1)]) (rest := []) D rfl rfl rfl rfl (fun v5 h4 e1 D =>
          have T := fj_run_ok _ _ _ _ _ _ H.1 e1
          have H := shp_st H T
          j_ifeq (pc := 14) D rfl (fun q =>
            have D : fk_D 477 [(67, none, .bipush (-2), 2, 0, (-2), 0), (69, none, .ireturn, 1, 0, 0, 0)] := fq_of2 cd_477 ow_477 cl_477 rfl (pc := 67) (by decide +kernel)
            j_bp (pc := 67) D rfl fun D =>
            j_iret D rt_477) (fun q D =>
            j_aldn (pc := 17) D rfl rfl rfl fun D =>
            j_ildn (pc := 18) D rfl rfl rfl fun D =>
            j_iv (pc := 19) (m := 2) (dd := 113) (a := [(0, x3)]) (rest := []) D rfl rfl rfl rfl rfl (by decide) (s0_303 H) (by decide +kernel) (fun v8 h7 e1 D =>
              have T := fj_run_ok _ _ _ _ _ _ H.1 e1
              have H := shp_st H T
              j_ifeq (pc := 22) D rfl (fun q =>
                have D : fk_D 477 [(67, none, .bipush (-2), 2, 0, (-2), 0), (69, none, .ireturn, 1, 0, 0, 0)] := fq_of2 cd_477 ow_477 cl_477 rfl (pc := 67) (by decide +kernel)
                j_bp (pc := 67) D rfl fun D =>
                j_iret D rt_477) (fun q D =>
                j_aldn (pc := 25) D rfl rfl rfl fun D =>
                j_gfc (pc := 26) (a := 303) D rfl rfl (by decide) rfl (s0_303 H) rfl (sf_209_303 H) fun D =>
                j_ildn (pc := 29) D rfl rfl rfl fun D =>
                j_iv (pc := 30) (m := 367) (dd := 193) (a := [(0, x3)]) (rest := []) D rfl rfl rfl rfl rfl (by decide) (s0_306 H) (by decide +kernel) (fun v11 h10 e1 D =>
                  have T := fj_run_ok _ _ _ _ _ _ H.1 e1
                  have H := shp_st H T
                  j_ildn (pc := 33) D rfl rfl rfl fun D =>
                  j_ine (pc := 34) D rfl (fun q D =>
                    j_ild (pc := 37) D rfl rfl rfl fun D =>
                    j_i2l (pc := 39) D rfl fun D =>
                    j_c0 (pc := 40) (v := (1, 1)) D rfl rfl (by decide +kernel) fun D =>
                    j_ldc2 (pc := 41) D rfl fun D =>
                    j_is (pc := 44) (m := 3) (a := [(1, wI x4), (1, 1), (1, 60)]) (rest := []) D rfl rfl rfl rfl (fun v14 h13 e1 D =>
                      have T := fj_run_ok _ _ _ _ _ _ H.1 e1
                      have H := shp_st H T
                      j_ifeq (pc := 47) D rfl (fun q =>
                        have D : fk_D 477 [(67, none, .bipush (-2), 2, 0, (-2), 0), (69, none, .ireturn, 1, 0, 0, 0)] := fq_of2 cd_477 ow_477 cl_477 rfl (pc := 67) (by decide +kernel)
                        j_bp (pc := 67) D rfl fun D =>
                        j_iret D rt_477) (fun q D =>
                        j_aldn (pc := 50) D rfl rfl rfl fun D =>
                        have D : fk_D 477 [(51, none, .getfield 16, 3, 209, 100, 12), (54, none, .iload_n 3, 1, 0, 0, 0), (55, none, .iload 4, 2, 0, 0, 0), (57, none, .iconst 1, 1, 0, 1, 0), (58, none, .isub, 1, 0, 0, 0), (59, none, .iconst 0, 1, 0, 0, 0), (60, none, .invokevirtual 168, 3, 3, 119, 1), (63, none, .iconst (-1), 1, 0, (-1), 0), (64, none, .if_icmp .ne 6, 3, 70, 0, 0), (67, none, .bipush (-2), 2, 0, (-2), 0), (69, none, .ireturn, 1, 0, 0, 0)] := fq_of2 cd_477 ow_477 cl_477 rfl (pc := 51) (by decide +kernel)
                        j_gfc (pc := 51) (a := 303) D rfl rfl (by decide) rfl (s0_303 H) rfl (sf_209_303 H) fun D =>
                        j_ildn (pc := 54) D rfl rfl rfl fun D =>
                        j_ild (pc := 55) D rfl rfl rfl fun D =>
                        j_ic (pc := 57) D rfl fun D =>
                        j_isub (pc := 58) D rfl fun D =>
                        j_ic (pc := 59) D rfl fun D =>
                        j_iv (pc := 60) (m := 350) (dd := 119) (a := [(0, x3), (0, wI (x4 - 1)), (0, 0)]) (rest := []) D rfl rfl rfl rfl rfl (by decide) (s0_306 H) (by decide +kernel) (fun v17 h16 e1 D =>
                          have T := fj_run_ok _ _ _ _ _ _ H.1 e1
                          have H := shp_st H T
                          j_ic (pc := 63) D rfl fun D =>
                          j_ine (pc := 64) D rfl (fun q D =>
                            j_bp (pc := 67) D rfl fun D =>
                            j_iret D rt_477) (fun q =>
                            have D : fk_D 477 [(70, none, .aload_n 0, 1, 0, 0, 0), (71, none, .aload_n 0, 1, 0, 0, 0), (72, none, .getfield 615, 3, 239, 100, 10), (75, none, .iconst 1, 1, 0, 1, 0), (76, none, .invokevirtual 881, 3, 2, 170, 0), (79, none, .iconst 0, 1, 0, 0, 0), (80, none, .istore 5, 2, 0, 0, 0)] := fq_of2 cd_477 ow_477 cl_477 rfl (pc := 70) (by decide +kernel)
                            j_aldn (pc := 70) D rfl rfl rfl fun D =>
                            j_aldn (pc := 71) D rfl rfl rfl fun D =>
                            j_gf (pc := 72) (a := 303) D rfl rfl (by decide) rfl (s0_303 H) rfl fun D =>
                            j_ic (pc := 75) D rfl fun D =>
                            j_ivv (pc := 76) (m := 307) (dd := 170) (a := [(0, h16 239 303 0), (0, 1)]) (rest := []) D rfl rfl rfl rfl rfl (by decide) (s0_303 H) (by decide +kernel) (fun h19 e1 D =>
                              have T := fj_run_ok _ _ _ _ _ _ H.1 e1
                              have H := shp_st H T
                              j_ic (pc := 79) D rfl fun D =>
                              j_ist (pc := 80) (L' := [(5, (0, 0)), (0, (4, 303)), (1, (0, x1)), (2, (0, x2)), (3, (0, x3)), (4, (0, x4))]) D rfl nl_477 rfl rfl fun D =>
                              fk_jump cut_477_82 rfl rfl) (fun q21 h19 e1 =>
                              j_tx (hx_477 _)))) (fun q18 h16 e1 =>
                          j_tx (hx_477 _)))) (fun q15 h13 e1 =>
                      j_tx (hx_477 _))) (fun q =>
                    have D : fk_D 477 [(67, none, .bipush (-2), 2, 0, (-2), 0), (69, none, .ireturn, 1, 0, 0, 0)] := fq_of2 cd_477 ow_477 cl_477 rfl (pc := 67) (by decide +kernel)
                    j_bp (pc := 67) D rfl fun D =>
                    j_iret D rt_477)) (fun q12 h10 e1 =>
                  j_tx (hx_477 _)))) (fun q9 h7 e1 =>
              j_tx (hx_477 _)))) (fun q6 h4 e1 =>
          j_tx (hx_477 _)))) (fun q3 h1 e1 =>
      j_tx (hx_477 _))
/-! 478 StatuteHouse.forecasted(II)J -/
theorem cd_478 : fi_code 478 = prog_1_method_123_code := rfl
theorem hx_478 : ∀ pc, fi_hat 478 pc = none := fun pc => by unfold fi_hat; rw [show fi_hh 478 = [] from rfl]; rfl
theorem rt_478 : fi_ret 478 = some .long := rfl
theorem nl_478 : fi_nl 478 = 3 := rfl
theorem ow_478 : fi_ow 478 = 0 := rfl
theorem cl_478 : fj_cutT.getD 478 [] = [] := rfl
theorem m_478 (d : Nat) (x1 x2 : Int) {h : fi_H} (H : Shp h) : fj_run (d + 1) 478 h [(4, 303), (0, x1), (0, x2)] =
  ca_ (fj_run d 3 h [(1, wI x1), (1, 0), (1, wJ ((wI (h 316 303 0)) - 1))]) 0
    (fun v2 h1 =>
    if v2 = 0 then
      some (.inl (some (1, 0)), h1)
    else
      if x2 = 0 then
        if 0 ≤ x1 ∧ x1 < 60 then
        some (.inl (some (1, h1 11 472 x1.toNat)), h1)
        else none
      else
        if x2 = 1 then
          if 0 ≤ x1 ∧ x1 < 60 then
          some (.inl (some (1, wI (h1 10 473 x1.toNat))), h1)
          else none
        else
          some (.inl (some (1, 0)), h1))
    (fun q3 h1 => tx_ q3 h1) := by
  rw [fj_run_eq d (by decide) h [(4, 303), (0, x1), (0, x2)] (Nat.le_of_ble_eq_true (by rw [nl_478]; rfl))]
  show gG (fj_run d) 478 0 [(0, (4, 303)), (1, (0, x1)), (2, (0, x2))] [] h = _
  exact
    have D : fk_D 478 [(0, none, .iload_n 1, 1, 0, 0, 0), (1, none, .i2l, 1, 0, 0, 0), (2, none, .lconst 0, 1, 0, 0, 0), (3, none, .aload_n 0, 1, 0, 0, 0), (4, none, .getfield 1112, 3, 316, 100, 10), (7, none, .i2l, 1, 0, 0, 0), (8, none, .lconst 1, 1, 0, 0, 0), (9, none, .lsub, 1, 0, 0, 0), (10, none, .invokestatic 46, 3, 3, 3, 1), (13, none, .ifCond .ne 7, 3, 20, 0, 0), (16, none, .lconst 0, 1, 0, 0, 0), (17, none, .goto 32, 3, 49, 0, 0)] := fq_of2 cd_478 ow_478 cl_478 rfl (pc := 0) (by decide +kernel)
    j_ildn (pc := 0) D rfl rfl rfl fun D =>
    j_i2l (pc := 1) D rfl fun D =>
    j_c0 (pc := 2) (v := (1, 0)) D rfl rfl (by decide +kernel) fun D =>
    j_aldn (pc := 3) D rfl rfl rfl fun D =>
    j_gf (pc := 4) (a := 303) D rfl rfl (by decide) rfl (s0_303 H) rfl fun D =>
    j_i2l (pc := 7) D rfl fun D =>
    j_c0 (pc := 8) (v := (1, 1)) D rfl rfl (by decide +kernel) fun D =>
    j_lsub (pc := 9) D rfl fun D =>
    j_is (pc := 10) (m := 3) (a := [(1, wI x1), (1, 0), (1, wJ ((wI (h 316 303 0)) - 1))]) (rest := []) D rfl rfl rfl rfl (fun v2 h1 e1 D =>
      have T := fj_run_ok _ _ _ _ _ _ H.1 e1
      have H := shp_st H T
      j_ifne (pc := 13) D rfl (fun q D =>
        j_c0 (pc := 16) (v := (1, 0)) D rfl rfl (by decide +kernel) fun D =>
        j_goto (pc := 17) D rfl <|
        have D : fk_D 478 [(49, none, .lreturn, 1, 0, 0, 0)] := fq_of2 cd_478 ow_478 cl_478 rfl (pc := 49) (by decide +kernel)
        j_lret D rt_478) (fun q =>
        have D : fk_D 478 [(20, none, .iload_n 2, 1, 0, 0, 0), (21, none, .ifCond .ne 12, 3, 33, 0, 0), (24, none, .aload_n 0, 1, 0, 0, 0), (25, none, .getfield 776, 3, 314, 100, 12), (28, none, .iload_n 1, 1, 0, 0, 0), (29, none, .laload, 1, 0, 0, 0), (30, none, .goto 19, 3, 49, 0, 0)] := fq_of2 cd_478 ow_478 cl_478 rfl (pc := 20) (by decide +kernel)
        j_ildn (pc := 20) D rfl rfl rfl fun D =>
        j_ifne (pc := 21) D rfl (fun q D =>
          j_aldn (pc := 24) D rfl rfl rfl fun D =>
          j_gfc (pc := 25) (a := 303) D rfl rfl (by decide) rfl (s0_303 H) rfl (sf_314_303 H) fun D =>
          j_ildn (pc := 28) D rfl rfl rfl fun D =>
          j_al (pc := 29) (a := 472) (e := 11) D rfl rfl rfl (by decide) (s0_472 H) (s1_472 H) ⟨rfl, rfl, rfl⟩ rfl gn fun qb4 D =>
          j_goto (pc := 30) D rfl <|
          have D : fk_D 478 [(49, none, .lreturn, 1, 0, 0, 0)] := fq_of2 cd_478 ow_478 cl_478 rfl (pc := 49) (by decide +kernel)
          j_lret D rt_478) (fun q =>
          have D : fk_D 478 [(33, none, .iload_n 2, 1, 0, 0, 0), (34, none, .iconst 1, 1, 0, 1, 0), (35, none, .if_icmp .ne 13, 3, 48, 0, 0), (38, none, .aload_n 0, 1, 0, 0, 0), (39, none, .getfield 779, 3, 315, 100, 12), (42, none, .iload_n 1, 1, 0, 0, 0), (43, none, .iaload, 1, 0, 0, 0), (44, none, .i2l, 1, 0, 0, 0), (45, none, .goto 4, 3, 49, 0, 0)] := fq_of2 cd_478 ow_478 cl_478 rfl (pc := 33) (by decide +kernel)
          j_ildn (pc := 33) D rfl rfl rfl fun D =>
          j_ic (pc := 34) D rfl fun D =>
          j_ine (pc := 35) D rfl (fun q D =>
            j_aldn (pc := 38) D rfl rfl rfl fun D =>
            j_gfc (pc := 39) (a := 303) D rfl rfl (by decide) rfl (s0_303 H) rfl (sf_315_303 H) fun D =>
            j_ildn (pc := 42) D rfl rfl rfl fun D =>
            j_al (pc := 43) (a := 473) (e := 10) D rfl rfl rfl (by decide) (s0_473 H) (s1_473 H) ⟨rfl, rfl, rfl⟩ rfl gn fun qb5 D =>
            j_i2l (pc := 44) D rfl fun D =>
            j_goto (pc := 45) D rfl <|
            have D : fk_D 478 [(49, none, .lreturn, 1, 0, 0, 0)] := fq_of2 cd_478 ow_478 cl_478 rfl (pc := 49) (by decide +kernel)
            j_lret D rt_478) (fun q =>
            have D : fk_D 478 [(48, none, .lconst 0, 1, 0, 0, 0), (49, none, .lreturn, 1, 0, 0, 0)] := fq_of2 cd_478 ow_478 cl_478 rfl (pc := 48) (by decide +kernel)
            j_c0 (pc := 48) (v := (1, 0)) D rfl rfl (by decide +kernel) fun D =>
            j_lret D rt_478)))) (fun q3 h1 e1 =>
      j_tx (hx_478 _))
/-! 479 StatuteHouse.annul(III)I -/
theorem cd_479 : fi_code 479 = prog_1_method_124_code := rfl
theorem hx_479 : ∀ pc, fi_hat 479 pc = none := fun pc => by unfold fi_hat; rw [show fi_hh 479 = [] from rfl]; rfl
theorem rt_479 : fi_ret 479 = some .int := rfl
theorem nl_479 : fi_nl 479 = 6 := rfl
theorem ow_479 : fi_ow 479 = 0 := rfl
theorem cl_479 : fj_cutT.getD 479 [] = [(52, [0, 3, 4]), (139, [0])] := rfl
theorem cut_479_52 : fj_cut 479 52 = some [0, 3, 4] := by decide +kernel
noncomputable def c_479_52 (d : Nat) (x3 x4 s0 : Int) (h : fi_H) : fk_R := gG (fj_run d) 479 52 [(0, (4, 303)), (3, (0, x3)), (4, (4, x4))] [(4, s0)] h
theorem cut_479_139 : fj_cut 479 139 = some [0] := by decide +kernel
noncomputable def c_479_139 (d : Nat) (h : fi_H) : fk_R := gG (fj_run d) 479 139 [(0, (4, 303))] [] h
theorem e_479_52 (d : Nat) (x3 x4 s0 : Int) {h : fi_H} (H : Shp h) : c_479_52 d x3 x4 s0 h =
  if s0 = 0 then
    some (.inl (some (0, (-1))), h)
  else
    dv_ (fi_vt 142 (h 0 x4.toNat 0)) fun m4 => ca_ (fj_run d m4 h [(4, x4), (4, s0)]) 0
      (fun v2 h1 =>
      if v2 = 0 then
        if h1 238 303 0 = 40 then
          some (.inl (some (0, (-4))), h1)
        else
          if 0 ≤ h1 238 303 0 ∧ h1 238 303 0 < 40 then
          if s0 = 0 ∨ (fi_sup (h1 0 s0.toNat 0)).contains 117 = true then
          lt_ (fi_upd h1 12 357 (h1 238 303 0).toNat s0) fun h5 =>
          if 0 ≤ h5 238 303 0 ∧ h5 238 303 0 < 40 then
          lt_ (fi_upd h5 5 358 (h5 238 303 0).toNat (wC x3)) fun h7 =>
          if 0 ≤ h7 238 303 0 ∧ h7 238 303 0 < 40 then
          lt_ (fi_upd h7 5 359 (h7 238 303 0).toNat (wC (h7 239 303 0))) fun h9 =>
          lt_ (fi_upd h9 238 303 0 (wI ((h9 238 303 0) + 1))) fun h11 =>
          lt_ (fi_upd h11 233 303 0 (wI ((h11 233 303 0) + 1))) fun h12 =>
          c_479_139 d h12
          else none
          else none
          else none
          else none
      else
        some (.inl (some (0, (-1))), h1))
      (fun q3 h1 => tx_ q3 h1) := by
  unfold c_479_52
  exact
    have D : fk_D 479 [(52, some [0, 3, 4], .astore 5, 2, 0, 0, 0), (54, none, .aload 5, 2, 0, 0, 0), (56, none, .ifnull 13, 3, 69, 0, 0), (59, none, .aload 4, 2, 0, 0, 0), (61, none, .aload 5, 2, 0, 0, 0), (63, none, .invokevirtual 496, 3, 1, 142, 1), (66, none, .ifCond .eq 5, 3, 71, 0, 0), (69, none, .iconst (-1), 1, 0, (-1), 0), (70, none, .ireturn, 1, 0, 0, 0)] := fq_of2 cd_479 ow_479 cl_479 rfl (pc := 52) (by decide +kernel)
    j_ast (pc := 52) (L' := [(5, (4, s0)), (0, (4, 303)), (3, (0, x3)), (4, (4, x4))]) D rfl nl_479 rfl rfl fun D =>
    j_ald (pc := 54) D rfl rfl rfl fun D =>
    j_null (pc := 56) D rfl (fun q =>
      have D : fk_D 479 [(69, none, .iconst (-1), 1, 0, (-1), 0), (70, none, .ireturn, 1, 0, 0, 0)] := fq_of2 cd_479 ow_479 cl_479 rfl (pc := 69) (by decide +kernel)
      j_ic (pc := 69) D rfl fun D =>
      j_iret D rt_479) (fun q D =>
      j_ald (pc := 59) D rfl rfl rfl fun D =>
      j_ald (pc := 61) D rfl rfl rfl fun D =>
      j_ivu (pc := 63) (dd := 142) (a := [(4, s0)]) (rest := []) H.2.1 D rfl rfl rfl rfl rfl (fun m4 v2 h1 e1 D =>
        have T := fj_run_ok _ _ _ _ _ _ H.1 e1
        have H := shp_st H T
        j_ifeq (pc := 66) D rfl (fun q =>
          have D : fk_D 479 [(71, none, .aload_n 0, 1, 0, 0, 0), (72, none, .getfield 1118, 3, 238, 100, 10), (75, none, .bipush 40, 2, 0, 40, 0), (77, none, .if_icmp .ne 6, 3, 83, 0, 0), (80, none, .bipush (-4), 2, 0, (-4), 0), (82, none, .ireturn, 1, 0, 0, 0)] := fq_of2 cd_479 ow_479 cl_479 rfl (pc := 71) (by decide +kernel)
          j_aldn (pc := 71) D rfl rfl rfl fun D =>
          j_gf (pc := 72) (a := 303) D rfl rfl (by decide) rfl (s0_303 H) rfl fun D =>
          j_bp (pc := 75) D rfl fun D =>
          j_ine (pc := 77) D rfl (fun q D =>
            j_bp (pc := 80) D rfl fun D =>
            j_iret D rt_479) (fun q =>
            have D : fk_D 479 [(83, none, .aload_n 0, 1, 0, 0, 0), (84, none, .getfield 664, 3, 235, 100, 12), (87, none, .aload_n 0, 1, 0, 0, 0), (88, none, .getfield 1118, 3, 238, 100, 10), (91, none, .aload 5, 2, 0, 0, 0), (93, none, .aastore, 1, 0, 0, 0), (94, none, .aload_n 0, 1, 0, 0, 0), (95, none, .getfield 667, 3, 236, 100, 12), (98, none, .aload_n 0, 1, 0, 0, 0), (99, none, .getfield 1118, 3, 238, 100, 10), (102, none, .iload_n 3, 1, 0, 0, 0), (103, none, .i2c, 1, 0, 0, 0), (104, none, .castore, 1, 0, 0, 0), (105, none, .aload_n 0, 1, 0, 0, 0), (106, none, .getfield 670, 3, 237, 100, 12), (109, none, .aload_n 0, 1, 0, 0, 0), (110, none, .getfield 1118, 3, 238, 100, 10), (113, none, .aload_n 0, 1, 0, 0, 0), (114, none, .getfield 615, 3, 239, 100, 10), (117, none, .i2c, 1, 0, 0, 0)] := fq_of2 cd_479 ow_479 cl_479 rfl (pc := 83) (by decide +kernel)
            j_aldn (pc := 83) D rfl rfl rfl fun D =>
            j_gfc (pc := 84) (a := 303) D rfl rfl (by decide) rfl (s0_303 H) rfl (sf_235_303 H) fun D =>
            j_aldn (pc := 87) D rfl rfl rfl fun D =>
            j_gf (pc := 88) (a := 303) D rfl rfl (by decide) rfl (s0_303 H) rfl fun D =>
            j_ald (pc := 91) D rfl rfl rfl fun D =>
            j_asr (pc := 93) (a := 357) D rfl rfl (by decide) (s0_357 H) (s1_357 H) ⟨rfl, rfl, rfl⟩ rfl gn gn fun h5 eh5 S qb6 D =>
            have T := fj_hs_ok H.1 S
            have H := shp_st H T
            j_aldn (pc := 94) D rfl rfl rfl fun D =>
            j_gfc (pc := 95) (a := 303) D rfl rfl (by decide) rfl (s0_303 H) rfl (sf_236_303 H) fun D =>
            j_aldn (pc := 98) D rfl rfl rfl fun D =>
            j_gf (pc := 99) (a := 303) D rfl rfl (by decide) rfl (s0_303 H) rfl fun D =>
            j_ildn (pc := 102) D rfl rfl rfl fun D =>
            j_i2c (pc := 103) D rfl fun D =>
            j_as (pc := 104) (a := 358) (e := 5) D rfl ⟨rfl, rfl⟩ rfl (by decide) (s0_358 H) (s1_358 H) ⟨rfl, rfl, rfl⟩ rfl gn (gy (fk_rgC _)) fun h7 eh7 S qb8 D =>
            have T := fj_hs_ok H.1 S
            have H := shp_st H T
            j_aldn (pc := 105) D rfl rfl rfl fun D =>
            j_gfc (pc := 106) (a := 303) D rfl rfl (by decide) rfl (s0_303 H) rfl (sf_237_303 H) fun D =>
            j_aldn (pc := 109) D rfl rfl rfl fun D =>
            j_gf (pc := 110) (a := 303) D rfl rfl (by decide) rfl (s0_303 H) rfl fun D =>
            j_aldn (pc := 113) D rfl rfl rfl fun D =>
            j_gf (pc := 114) (a := 303) D rfl rfl (by decide) rfl (s0_303 H) rfl fun D =>
            j_i2c (pc := 117) D rfl fun D =>
            have D : fk_D 479 [(118, none, .castore, 1, 0, 0, 0), (119, none, .aload_n 0, 1, 0, 0, 0), (120, none, .dup, 1, 0, 0, 0), (121, none, .getfield 1118, 3, 238, 100, 10), (124, none, .iconst 1, 1, 0, 1, 0), (125, none, .iadd, 1, 0, 0, 0), (126, none, .putfield 1118, 3, 238, 100, 10), (129, none, .aload_n 0, 1, 0, 0, 0), (130, none, .dup, 1, 0, 0, 0), (131, none, .getfield 867, 3, 233, 100, 10), (134, none, .iconst 1, 1, 0, 1, 0), (135, none, .iadd, 1, 0, 0, 0), (136, none, .putfield 867, 3, 233, 100, 10)] := fq_of2 cd_479 ow_479 cl_479 rfl (pc := 118) (by decide +kernel)
            j_as (pc := 118) (a := 359) (e := 5) D rfl ⟨rfl, rfl⟩ rfl (by decide) (s0_359 H) (s1_359 H) ⟨rfl, rfl, rfl⟩ rfl gn (gy (fk_rgC _)) fun h9 eh9 S qb10 D =>
            have T := fj_hs_ok H.1 S
            have H := shp_st H T
            j_aldn (pc := 119) D rfl rfl rfl fun D =>
            j_sh (pc := 120) D rfl rfl rfl fun D =>
            j_gf (pc := 121) (a := 303) D rfl rfl (by decide) rfl (s0_303 H) rfl fun D =>
            j_ic (pc := 124) D rfl fun D =>
            j_iadd (pc := 125) D rfl fun D =>
            j_pf (pc := 126) (a := 303) D rfl rfl rfl (s0_303 H) rfl rfl (gy (by decide)) (gy rfl) fun h11 eh11 S D =>
            have T := fj_hs_ok H.1 S
            have H := shp_st H T
            j_aldn (pc := 129) D rfl rfl rfl fun D =>
            j_sh (pc := 130) D rfl rfl rfl fun D =>
            j_gf (pc := 131) (a := 303) D rfl rfl (by decide) rfl (s0_303 H) rfl fun D =>
            j_ic (pc := 134) D rfl fun D =>
            j_iadd (pc := 135) D rfl fun D =>
            j_pf (pc := 136) (a := 303) D rfl rfl rfl (s0_303 H) rfl rfl (gy (by decide)) (gy rfl) fun h12 eh12 S D =>
            have T := fj_hs_ok H.1 S
            have H := shp_st H T
            fk_jump cut_479_139 rfl rfl)) (fun q D =>
          j_ic (pc := 69) D rfl fun D =>
          j_iret D rt_479)) (fun m4 q3 h1 e1 =>
        j_tx (hx_479 _)))
theorem e_479_139 (d : Nat) {h : fi_H} (H : Shp h) : c_479_139 d h =
  some (.inl (some (0, h 238 303 0)), h) := by
  unfold c_479_139
  exact
    have D : fk_D 479 [(139, some [0], .aload_n 0, 1, 0, 0, 0), (140, none, .getfield 1118, 3, 238, 100, 10), (143, none, .ireturn, 1, 0, 0, 0)] := fq_of2 cd_479 ow_479 cl_479 rfl (pc := 139) (by decide +kernel)
    j_aldn (pc := 139) D rfl rfl rfl fun D =>
    j_gf (pc := 140) (a := 303) D rfl rfl (by decide) rfl (s0_303 H) rfl fun D =>
    j_iret D rt_479
theorem m_479 (d : Nat) (x1 x2 x3 : Int) {h : fi_H} (H : Shp h) : fj_run (d + 1) 479 h [(4, 303), (0, x1), (0, x2), (0, x3)] =
  ca_ (fj_run d 2 h [(4, 303), (0, x3)]) 0
    (fun v2 h1 =>
    if v2 = 0 then
      some (.inl (some (0, (-2))), h1)
    else
      dv_ (fi_vt 133 (h1 0 (h1 12 363 12).toNat 0)) fun m7 => cv_ (fj_run d m7 h1 [(4, h1 12 363 12), (4, h1 12 354 0), (0, h1 239 303 0), (0, x3)])
        (fun h4 =>
        if x2 < 1 then
          c_479_52 d x3 (h1 12 363 12) 0 h4
        else
          dv_ (fi_vt 201 (h4 0 (h1 12 363 12).toNat 0)) fun m11 => ca_ (fj_run d m11 h4 [(4, h1 12 363 12), (0, x1), (0, x2)]) 4
            (fun v9 h8 =>
            c_479_52 d x3 (h1 12 363 12) v9 h8)
            (fun q10 h8 => tx_ q10 h8))
        (fun q6 h4 => tx_ q6 h4))
    (fun q3 h1 => tx_ q3 h1) := by
  rw [fj_run_eq d (by decide) h [(4, 303), (0, x1), (0, x2), (0, x3)] (Nat.le_of_ble_eq_true (by rw [nl_479]; rfl))]
  show gG (fj_run d) 479 0 [(0, (4, 303)), (1, (0, x1)), (2, (0, x2)), (3, (0, x3))] [] h = _
  exact
    have D : fk_D 479 [(0, none, .aload_n 0, 1, 0, 0, 0), (1, none, .iload_n 3, 1, 0, 0, 0), (2, none, .invokevirtual 121, 3, 1, 113, 1), (5, none, .ifCond .ne 6, 3, 11, 0, 0), (8, none, .bipush (-2), 2, 0, (-2), 0), (10, none, .ireturn, 1, 0, 0, 0)] := fq_of2 cd_479 ow_479 cl_479 rfl (pc := 0) (by decide +kernel)
    j_aldn (pc := 0) D rfl rfl rfl fun D =>
    j_ildn (pc := 1) D rfl rfl rfl fun D =>
    j_iv (pc := 2) (m := 2) (dd := 113) (a := [(0, x3)]) (rest := []) D rfl rfl rfl rfl rfl (by decide) (s0_303 H) (by decide +kernel) (fun v2 h1 e1 D =>
      have T := fj_run_ok _ _ _ _ _ _ H.1 e1
      have H := shp_st H T
      j_ifne (pc := 5) D rfl (fun q D =>
        j_bp (pc := 8) D rfl fun D =>
        j_iret D rt_479) (fun q =>
        have D : fk_D 479 [(11, none, .aload_n 0, 1, 0, 0, 0), (12, none, .getfield 348, 3, 248, 100, 12), (15, none, .bipush 12, 2, 0, 12, 0), (17, none, .aaload, 1, 0, 0, 0), (18, none, .astore 4, 2, 0, 0, 0), (20, none, .aload 4, 2, 0, 0, 0), (22, none, .aload_n 0, 1, 0, 0, 0), (23, none, .getfield 529, 3, 227, 100, 12), (26, none, .iconst 0, 1, 0, 0, 0), (27, none, .aaload, 1, 0, 0, 0), (28, none, .aload_n 0, 1, 0, 0, 0), (29, none, .getfield 615, 3, 239, 100, 10), (32, none, .iload_n 3, 1, 0, 0, 0), (33, none, .invokevirtual 352, 3, 3, 133, 0), (36, none, .iload_n 2, 1, 0, 0, 0), (37, none, .iconst 1, 1, 0, 1, 0), (38, none, .if_icmp .ge 7, 3, 45, 0, 0), (41, none, .aconst_null, 1, 0, 0, 0), (42, none, .goto 10, 3, 52, 0, 0)] := fq_of2 cd_479 ow_479 cl_479 rfl (pc := 11) (by decide +kernel)
        j_aldn (pc := 11) D rfl rfl rfl fun D =>
        j_gfc (pc := 12) (a := 303) D rfl rfl (by decide) rfl (s0_303 H) rfl (sf_248_303 H) fun D =>
        j_bp (pc := 15) D rfl fun D =>
        j_al (pc := 17) (a := 363) (e := 12) D rfl rfl rfl (by decide) (s0_363 H) (s1_363 H) ⟨rfl, rfl, rfl⟩ rfl (gy (by decide)) fun q D =>
        j_ast (pc := 18) (L' := [(4, (4, h1 12 363 12)), (0, (4, 303)), (1, (0, x1)), (2, (0, x2)), (3, (0, x3))]) D rfl nl_479 rfl rfl fun D =>
        j_ald (pc := 20) D rfl rfl rfl fun D =>
        j_aldn (pc := 22) D rfl rfl rfl fun D =>
        j_gfc (pc := 23) (a := 303) D rfl rfl (by decide) rfl (s0_303 H) rfl (sf_227_303 H) fun D =>
        j_ic (pc := 26) D rfl fun D =>
        j_al (pc := 27) (a := 354) (e := 12) D rfl rfl rfl (by decide) (s0_354 H) (s1_354 H) ⟨rfl, rfl, rfl⟩ rfl (gy (by decide)) fun q D =>
        j_aldn (pc := 28) D rfl rfl rfl fun D =>
        j_gf (pc := 29) (a := 303) D rfl rfl (by decide) rfl (s0_303 H) rfl fun D =>
        j_ildn (pc := 32) D rfl rfl rfl fun D =>
        j_ivuv (pc := 33) (dd := 133) (a := [(4, h1 12 354 0), (0, h1 239 303 0), (0, x3)]) (rest := []) H.2.1 D rfl rfl rfl rfl rfl (fun m7 h4 e1 D =>
          have T := fj_run_ok _ _ _ _ _ _ H.1 e1
          have H := shp_st H T
          j_ildn (pc := 36) D rfl rfl rfl fun D =>
          j_ic (pc := 37) D rfl fun D =>
          j_ige (pc := 38) D rfl (fun q D =>
            j_c0 (pc := 41) (v := (4, 0)) D rfl rfl (by decide +kernel) fun D =>
            j_goto (pc := 42) D rfl <|
            fk_jump cut_479_52 rfl rfl) (fun q =>
            have D : fk_D 479 [(45, none, .aload 4, 2, 0, 0, 0), (47, none, .iload_n 1, 1, 0, 0, 0), (48, none, .iload_n 2, 1, 0, 0, 0), (49, none, .invokevirtual 1115, 3, 2, 201, 5)] := fq_of2 cd_479 ow_479 cl_479 rfl (pc := 45) (by decide +kernel)
            j_ald (pc := 45) D rfl rfl rfl fun D =>
            j_ildn (pc := 47) D rfl rfl rfl fun D =>
            j_ildn (pc := 48) D rfl rfl rfl fun D =>
            j_ivu (pc := 49) (dd := 201) (a := [(0, x1), (0, x2)]) (rest := []) H.2.1 D rfl rfl rfl rfl rfl (fun m11 v9 h8 e1 D =>
              have T := fj_run_ok _ _ _ _ _ _ H.1 e1
              have H := shp_st H T
              fk_jump cut_479_52 rfl rfl) (fun m11 q10 h8 e1 =>
              j_tx (hx_479 _)))) (fun m7 q6 h4 e1 =>
          j_tx (hx_479 _)))) (fun q3 h1 e1 =>
      j_tx (hx_479 _))
/-! 480 StatuteHouse.measured(I)J -/
theorem cd_480 : fi_code 480 = prog_1_method_125_code := rfl
theorem hx_480 : ∀ pc, fi_hat 480 pc = none := fun pc => by unfold fi_hat; rw [show fi_hh 480 = [] from rfl]; rfl
theorem rt_480 : fi_ret 480 = some .long := rfl
theorem nl_480 : fi_nl 480 = 2 := rfl
theorem ow_480 : fi_ow 480 = 0 := rfl
theorem cl_480 : fj_cutT.getD 480 [] = [] := rfl
theorem m_480 (d : Nat) (x1 : Int) {h : fi_H} (H : Shp h) : fj_run (d + 1) 480 h [(4, 303), (0, x1)] =
  ca_ (fj_run d 3 h [(1, wI x1), (1, 0), (1, 11)]) 0
    (fun v2 h1 =>
    if v2 = 0 then
      some (.inl (some (1, 0)), h1)
    else
      if 0 ≤ x1 ∧ x1 < 12 then
      some (.inl (some (1, h1 11 471 x1.toNat)), h1)
      else none)
    (fun q3 h1 => tx_ q3 h1) := by
  rw [fj_run_eq d (by decide) h [(4, 303), (0, x1)] (Nat.le_of_ble_eq_true (by rw [nl_480]; rfl))]
  show gG (fj_run d) 480 0 [(0, (4, 303)), (1, (0, x1))] [] h = _
  exact
    have D : fk_D 480 [(0, none, .iload_n 1, 1, 0, 0, 0), (1, none, .i2l, 1, 0, 0, 0), (2, none, .lconst 0, 1, 0, 0, 0), (3, none, .ldc2_w 1121, 3, 1, 11, 0), (6, none, .invokestatic 46, 3, 3, 3, 1), (9, none, .ifCond .eq 12, 3, 21, 0, 0), (12, none, .aload_n 0, 1, 0, 0, 0), (13, none, .getfield 773, 3, 313, 100, 12), (16, none, .iload_n 1, 1, 0, 0, 0), (17, none, .laload, 1, 0, 0, 0), (18, none, .goto 4, 3, 22, 0, 0)] := fq_of2 cd_480 ow_480 cl_480 rfl (pc := 0) (by decide +kernel)
    j_ildn (pc := 0) D rfl rfl rfl fun D =>
    j_i2l (pc := 1) D rfl fun D =>
    j_c0 (pc := 2) (v := (1, 0)) D rfl rfl (by decide +kernel) fun D =>
    j_ldc2 (pc := 3) D rfl fun D =>
    j_is (pc := 6) (m := 3) (a := [(1, wI x1), (1, 0), (1, 11)]) (rest := []) D rfl rfl rfl rfl (fun v2 h1 e1 D =>
      have T := fj_run_ok _ _ _ _ _ _ H.1 e1
      have H := shp_st H T
      j_ifeq (pc := 9) D rfl (fun q =>
        have D : fk_D 480 [(21, none, .lconst 0, 1, 0, 0, 0), (22, none, .lreturn, 1, 0, 0, 0)] := fq_of2 cd_480 ow_480 cl_480 rfl (pc := 21) (by decide +kernel)
        j_c0 (pc := 21) (v := (1, 0)) D rfl rfl (by decide +kernel) fun D =>
        j_lret D rt_480) (fun q D =>
        j_aldn (pc := 12) D rfl rfl rfl fun D =>
        j_gfc (pc := 13) (a := 303) D rfl rfl (by decide) rfl (s0_303 H) rfl (sf_313_303 H) fun D =>
        j_ildn (pc := 16) D rfl rfl rfl fun D =>
        j_al (pc := 17) (a := 471) (e := 11) D rfl rfl rfl (by decide) (s0_471 H) (s1_471 H) ⟨rfl, rfl, rfl⟩ rfl gn fun qb4 D =>
        j_goto (pc := 18) D rfl <|
        have D : fk_D 480 [(22, none, .lreturn, 1, 0, 0, 0)] := fq_of2 cd_480 ow_480 cl_480 rfl (pc := 22) (by decide +kernel)
        j_lret D rt_480)) (fun q3 h1 e1 =>
      j_tx (hx_480 _))
/-! 481 StatuteHouse.count(I)I -/
theorem cd_481 : fi_code 481 = prog_1_method_126_code := rfl
theorem hx_481 : ∀ pc, fi_hat 481 pc = none := fun pc => by unfold fi_hat; rw [show fi_hh 481 = [] from rfl]; rfl
theorem rt_481 : fi_ret 481 = some .int := rfl
theorem nl_481 : fi_nl 481 = 2 := rfl
theorem ow_481 : fi_ow 481 = 0 := rfl
theorem cl_481 : fj_cutT.getD 481 [] = [(92, [0]), (97, [0]), (102, [0]), (107, [0]), (115, [0]), (120, [0]), (125, [0]), (130, [0]), (135, [0, 1]), (148, [0]), (153, [0]), (158, [0]), (163, [0]), (168, [0]), (173, [0]), (178, [0]), (183, [])] := rfl
theorem cut_481_92 : fj_cut 481 92 = some [0] := by decide +kernel
noncomputable def c_481_92 (d : Nat) (h : fi_H) : fk_R := gG (fj_run d) 481 92 [(0, (4, 303))] [] h
theorem cut_481_97 : fj_cut 481 97 = some [0] := by decide +kernel
noncomputable def c_481_97 (d : Nat) (h : fi_H) : fk_R := gG (fj_run d) 481 97 [(0, (4, 303))] [] h
theorem cut_481_102 : fj_cut 481 102 = some [0] := by decide +kernel
noncomputable def c_481_102 (d : Nat) (h : fi_H) : fk_R := gG (fj_run d) 481 102 [(0, (4, 303))] [] h
theorem cut_481_107 : fj_cut 481 107 = some [0] := by decide +kernel
noncomputable def c_481_107 (d : Nat) (h : fi_H) : fk_R := gG (fj_run d) 481 107 [(0, (4, 303))] [] h
theorem cut_481_115 : fj_cut 481 115 = some [0] := by decide +kernel
noncomputable def c_481_115 (d : Nat) (h : fi_H) : fk_R := gG (fj_run d) 481 115 [(0, (4, 303))] [] h
theorem cut_481_120 : fj_cut 481 120 = some [0] := by decide +kernel
noncomputable def c_481_120 (d : Nat) (h : fi_H) : fk_R := gG (fj_run d) 481 120 [(0, (4, 303))] [] h
theorem cut_481_125 : fj_cut 481 125 = some [0] := by decide +kernel
noncomputable def c_481_125 (d : Nat) (h : fi_H) : fk_R := gG (fj_run d) 481 125 [(0, (4, 303))] [] h
theorem cut_481_130 : fj_cut 481 130 = some [0] := by decide +kernel
noncomputable def c_481_130 (d : Nat) (h : fi_H) : fk_R := gG (fj_run d) 481 130 [(0, (4, 303))] [] h
theorem cut_481_135 : fj_cut 481 135 = some [0, 1] := by decide +kernel
noncomputable def c_481_135 (d : Nat) (x1 : Int) (h : fi_H) : fk_R := gG (fj_run d) 481 135 [(0, (4, 303)), (1, (0, x1))] [] h
theorem cut_481_148 : fj_cut 481 148 = some [0] := by decide +kernel
noncomputable def c_481_148 (d : Nat) (h : fi_H) : fk_R := gG (fj_run d) 481 148 [(0, (4, 303))] [] h
theorem cut_481_153 : fj_cut 481 153 = some [0] := by decide +kernel
noncomputable def c_481_153 (d : Nat) (h : fi_H) : fk_R := gG (fj_run d) 481 153 [(0, (4, 303))] [] h
theorem cut_481_158 : fj_cut 481 158 = some [0] := by decide +kernel
noncomputable def c_481_158 (d : Nat) (h : fi_H) : fk_R := gG (fj_run d) 481 158 [(0, (4, 303))] [] h
theorem cut_481_163 : fj_cut 481 163 = some [0] := by decide +kernel
noncomputable def c_481_163 (d : Nat) (h : fi_H) : fk_R := gG (fj_run d) 481 163 [(0, (4, 303))] [] h
theorem cut_481_168 : fj_cut 481 168 = some [0] := by decide +kernel
noncomputable def c_481_168 (d : Nat) (h : fi_H) : fk_R := gG (fj_run d) 481 168 [(0, (4, 303))] [] h
theorem cut_481_173 : fj_cut 481 173 = some [0] := by decide +kernel
noncomputable def c_481_173 (d : Nat) (h : fi_H) : fk_R := gG (fj_run d) 481 173 [(0, (4, 303))] [] h
theorem cut_481_178 : fj_cut 481 178 = some [0] := by decide +kernel
noncomputable def c_481_178 (d : Nat) (h : fi_H) : fk_R := gG (fj_run d) 481 178 [(0, (4, 303))] [] h
theorem cut_481_183 : fj_cut 481 183 = some [] := by decide +kernel
noncomputable def c_481_183 (d : Nat) (h : fi_H) : fk_R := gG (fj_run d) 481 183 [] [] h
theorem e_481_92 (d : Nat) {h : fi_H} (H : Shp h) : c_481_92 d h =
  some (.inl (some (0, h 239 303 0)), h) := by
  unfold c_481_92
  exact
    have D : fk_D 481 [(92, some [0], .aload_n 0, 1, 0, 0, 0), (93, none, .getfield 615, 3, 239, 100, 10), (96, none, .ireturn, 1, 0, 0, 0)] := fq_of2 cd_481 ow_481 cl_481 rfl (pc := 92) (by decide +kernel)
    j_aldn (pc := 92) D rfl rfl rfl fun D =>
    j_gf (pc := 93) (a := 303) D rfl rfl (by decide) rfl (s0_303 H) rfl fun D =>
    j_iret D rt_481
theorem e_481_97 (d : Nat) {h : fi_H} (H : Shp h) : c_481_97 d h =
  some (.inl (some (0, h 215 303 0)), h) := by
  unfold c_481_97
  exact
    have D : fk_D 481 [(97, some [0], .aload_n 0, 1, 0, 0, 0), (98, none, .getfield 252, 3, 215, 100, 10), (101, none, .ireturn, 1, 0, 0, 0)] := fq_of2 cd_481 ow_481 cl_481 rfl (pc := 97) (by decide +kernel)
    j_aldn (pc := 97) D rfl rfl rfl fun D =>
    j_gf (pc := 98) (a := 303) D rfl rfl (by decide) rfl (s0_303 H) rfl fun D =>
    j_iret D rt_481
theorem e_481_102 (d : Nat) {h : fi_H} (H : Shp h) : c_481_102 d h =
  some (.inl (some (0, h 216 303 0)), h) := by
  unfold c_481_102
  exact
    have D : fk_D 481 [(102, some [0], .aload_n 0, 1, 0, 0, 0), (103, none, .getfield 267, 3, 216, 100, 10), (106, none, .ireturn, 1, 0, 0, 0)] := fq_of2 cd_481 ow_481 cl_481 rfl (pc := 102) (by decide +kernel)
    j_aldn (pc := 102) D rfl rfl rfl fun D =>
    j_gf (pc := 103) (a := 303) D rfl rfl (by decide) rfl (s0_303 H) rfl fun D =>
    j_iret D rt_481
theorem e_481_107 (d : Nat) {h : fi_H} (H : Shp h) : c_481_107 d h =
  some (.inl (some (0, h 132 322 0)), h) := by
  unfold c_481_107
  exact
    have D : fk_D 481 [(107, some [0], .aload_n 0, 1, 0, 0, 0), (108, none, .getfield 234, 3, 218, 100, 12), (111, none, .getfield 962, 3, 132, 116, 10), (114, none, .ireturn, 1, 0, 0, 0)] := fq_of2 cd_481 ow_481 cl_481 rfl (pc := 107) (by decide +kernel)
    j_aldn (pc := 107) D rfl rfl rfl fun D =>
    j_gfc (pc := 108) (a := 303) D rfl rfl (by decide) rfl (s0_303 H) rfl (sf_218_303 H) fun D =>
    j_gf (pc := 111) (a := 322) D rfl rfl (by decide) rfl (s0_322 H) rfl fun D =>
    j_iret D rt_481
theorem e_481_115 (d : Nat) {h : fi_H} (H : Shp h) : c_481_115 d h =
  some (.inl (some (0, h 222 303 0)), h) := by
  unfold c_481_115
  exact
    have D : fk_D 481 [(115, some [0], .aload_n 0, 1, 0, 0, 0), (116, none, .getfield 218, 3, 222, 100, 10), (119, none, .ireturn, 1, 0, 0, 0)] := fq_of2 cd_481 ow_481 cl_481 rfl (pc := 115) (by decide +kernel)
    j_aldn (pc := 115) D rfl rfl rfl fun D =>
    j_gf (pc := 116) (a := 303) D rfl rfl (by decide) rfl (s0_303 H) rfl fun D =>
    j_iret D rt_481
theorem e_481_120 (d : Nat) {h : fi_H} (H : Shp h) : c_481_120 d h =
  some (.inl (some (0, h 289 303 0)), h) := by
  unfold c_481_120
  exact
    have D : fk_D 481 [(120, some [0], .aload_n 0, 1, 0, 0, 0), (121, none, .getfield 914, 3, 289, 100, 10), (124, none, .ireturn, 1, 0, 0, 0)] := fq_of2 cd_481 ow_481 cl_481 rfl (pc := 120) (by decide +kernel)
    j_aldn (pc := 120) D rfl rfl rfl fun D =>
    j_gf (pc := 121) (a := 303) D rfl rfl (by decide) rfl (s0_303 H) rfl fun D =>
    j_iret D rt_481
theorem e_481_125 (d : Nat) {h : fi_H} (H : Shp h) : c_481_125 d h =
  some (.inl (some (0, h 290 303 0)), h) := by
  unfold c_481_125
  exact
    have D : fk_D 481 [(125, some [0], .aload_n 0, 1, 0, 0, 0), (126, none, .getfield 923, 3, 290, 100, 10), (129, none, .ireturn, 1, 0, 0, 0)] := fq_of2 cd_481 ow_481 cl_481 rfl (pc := 125) (by decide +kernel)
    j_aldn (pc := 125) D rfl rfl rfl fun D =>
    j_gf (pc := 126) (a := 303) D rfl rfl (by decide) rfl (s0_303 H) rfl fun D =>
    j_iret D rt_481
theorem e_481_130 (d : Nat) {h : fi_H} (H : Shp h) : c_481_130 d h =
  some (.inl (some (0, h 212 303 0)), h) := by
  unfold c_481_130
  exact
    have D : fk_D 481 [(130, some [0], .aload_n 0, 1, 0, 0, 0), (131, none, .getfield 26, 3, 212, 100, 10), (134, none, .ireturn, 1, 0, 0, 0)] := fq_of2 cd_481 ow_481 cl_481 rfl (pc := 130) (by decide +kernel)
    j_aldn (pc := 130) D rfl rfl rfl fun D =>
    j_gf (pc := 131) (a := 303) D rfl rfl (by decide) rfl (s0_303 H) rfl fun D =>
    j_iret D rt_481
theorem e_481_135 (d : Nat) (x1 : Int) {h : fi_H} (H : Shp h) : c_481_135 d x1 h =
  if 0 ≤ wI (x1 - 8) ∧ wI (x1 - 8) < 4 then
  if h 0 (h 12 354 (wI (x1 - 8)).toNat).toNat 0 = 110 then
  some (.inl (some (0, h 190 (h 12 354 (wI (x1 - 8)).toNat).toNat 0)), h)
  else none
  else none := by
  unfold c_481_135
  exact
    have D : fk_D 481 [(135, some [0, 1], .aload_n 0, 1, 0, 0, 0), (136, none, .getfield 529, 3, 227, 100, 12), (139, none, .iload_n 1, 1, 0, 0, 0), (140, none, .bipush 8, 2, 0, 8, 0), (142, none, .isub, 1, 0, 0, 0), (143, none, .aaload, 1, 0, 0, 0), (144, none, .getfield 1095, 3, 190, (-110), 10), (147, none, .ireturn, 1, 0, 0, 0)] := fq_of2 cd_481 ow_481 cl_481 rfl (pc := 135) (by decide +kernel)
    j_aldn (pc := 135) D rfl rfl rfl fun D =>
    j_gfc (pc := 136) (a := 303) D rfl rfl (by decide) rfl (s0_303 H) rfl (sf_227_303 H) fun D =>
    j_ildn (pc := 139) D rfl rfl rfl fun D =>
    j_bp (pc := 140) D rfl fun D =>
    j_isub (pc := 142) D rfl fun D =>
    j_al (pc := 143) (a := 354) (e := 12) D rfl rfl rfl (by decide) (s0_354 H) (s1_354 H) ⟨rfl, rfl, rfl⟩ rfl gn fun qb1 D =>
    j_gfo (pc := 144) H.2.1 D rfl rfl rfl rfl fun kc2 D =>
    j_iret D rt_481
theorem e_481_148 (d : Nat) {h : fi_H} (H : Shp h) : c_481_148 d h =
  some (.inl (some (0, h 244 303 0)), h) := by
  unfold c_481_148
  exact
    have D : fk_D 481 [(148, some [0], .aload_n 0, 1, 0, 0, 0), (149, none, .getfield 338, 3, 244, 100, 10), (152, none, .ireturn, 1, 0, 0, 0)] := fq_of2 cd_481 ow_481 cl_481 rfl (pc := 148) (by decide +kernel)
    j_aldn (pc := 148) D rfl rfl rfl fun D =>
    j_gf (pc := 149) (a := 303) D rfl rfl (by decide) rfl (s0_303 H) rfl fun D =>
    j_iret D rt_481
theorem e_481_153 (d : Nat) {h : fi_H} (H : Shp h) : c_481_153 d h =
  some (.inl (some (0, h 263 303 0)), h) := by
  unfold c_481_153
  exact
    have D : fk_D 481 [(153, some [0], .aload_n 0, 1, 0, 0, 0), (154, none, .getfield 418, 3, 263, 100, 10), (157, none, .ireturn, 1, 0, 0, 0)] := fq_of2 cd_481 ow_481 cl_481 rfl (pc := 153) (by decide +kernel)
    j_aldn (pc := 153) D rfl rfl rfl fun D =>
    j_gf (pc := 154) (a := 303) D rfl rfl (by decide) rfl (s0_303 H) rfl fun D =>
    j_iret D rt_481
theorem e_481_158 (d : Nat) {h : fi_H} (H : Shp h) : c_481_158 d h =
  some (.inl (some (0, h 266 303 0)), h) := by
  unfold c_481_158
  exact
    have D : fk_D 481 [(158, some [0], .aload_n 0, 1, 0, 0, 0), (159, none, .getfield 784, 3, 266, 100, 10), (162, none, .ireturn, 1, 0, 0, 0)] := fq_of2 cd_481 ow_481 cl_481 rfl (pc := 158) (by decide +kernel)
    j_aldn (pc := 158) D rfl rfl rfl fun D =>
    j_gf (pc := 159) (a := 303) D rfl rfl (by decide) rfl (s0_303 H) rfl fun D =>
    j_iret D rt_481
theorem e_481_163 (d : Nat) {h : fi_H} (H : Shp h) : c_481_163 d h =
  some (.inl (some (0, h 231 303 0)), h) := by
  unfold c_481_163
  exact
    have D : fk_D 481 [(163, some [0], .aload_n 0, 1, 0, 0, 0), (164, none, .getfield 855, 3, 231, 100, 10), (167, none, .ireturn, 1, 0, 0, 0)] := fq_of2 cd_481 ow_481 cl_481 rfl (pc := 163) (by decide +kernel)
    j_aldn (pc := 163) D rfl rfl rfl fun D =>
    j_gf (pc := 164) (a := 303) D rfl rfl (by decide) rfl (s0_303 H) rfl fun D =>
    j_iret D rt_481
theorem e_481_168 (d : Nat) {h : fi_H} (H : Shp h) : c_481_168 d h =
  some (.inl (some (0, h 238 303 0)), h) := by
  unfold c_481_168
  exact
    have D : fk_D 481 [(168, some [0], .aload_n 0, 1, 0, 0, 0), (169, none, .getfield 1118, 3, 238, 100, 10), (172, none, .ireturn, 1, 0, 0, 0)] := fq_of2 cd_481 ow_481 cl_481 rfl (pc := 168) (by decide +kernel)
    j_aldn (pc := 168) D rfl rfl rfl fun D =>
    j_gf (pc := 169) (a := 303) D rfl rfl (by decide) rfl (s0_303 H) rfl fun D =>
    j_iret D rt_481
theorem e_481_173 (d : Nat) {h : fi_H} (H : Shp h) : c_481_173 d h =
  some (.inl (some (0, h 232 303 0)), h) := by
  unfold c_481_173
  exact
    have D : fk_D 481 [(173, some [0], .aload_n 0, 1, 0, 0, 0), (174, none, .getfield 861, 3, 232, 100, 10), (177, none, .ireturn, 1, 0, 0, 0)] := fq_of2 cd_481 ow_481 cl_481 rfl (pc := 173) (by decide +kernel)
    j_aldn (pc := 173) D rfl rfl rfl fun D =>
    j_gf (pc := 174) (a := 303) D rfl rfl (by decide) rfl (s0_303 H) rfl fun D =>
    j_iret D rt_481
theorem e_481_178 (d : Nat) {h : fi_H} (H : Shp h) : c_481_178 d h =
  some (.inl (some (0, h 230 303 0)), h) := by
  unfold c_481_178
  exact
    have D : fk_D 481 [(178, some [0], .aload_n 0, 1, 0, 0, 0), (179, none, .getfield 849, 3, 230, 100, 10), (182, none, .ireturn, 1, 0, 0, 0)] := fq_of2 cd_481 ow_481 cl_481 rfl (pc := 178) (by decide +kernel)
    j_aldn (pc := 178) D rfl rfl rfl fun D =>
    j_gf (pc := 179) (a := 303) D rfl rfl (by decide) rfl (s0_303 H) rfl fun D =>
    j_iret D rt_481
theorem e_481_183 (d : Nat) {h : fi_H} (H : Shp h) : c_481_183 d h =
  some (.inl (some (0, (-1))), h) := by
  unfold c_481_183
  exact
    have D : fk_D 481 [(183, some [], .iconst (-1), 1, 0, (-1), 0), (184, none, .ireturn, 1, 0, 0, 0)] := fq_of2 cd_481 ow_481 cl_481 rfl (pc := 183) (by decide +kernel)
    j_ic (pc := 183) D rfl fun D =>
    j_iret D rt_481
theorem m_481 (d : Nat) (x1 : Int) {h : fi_H} (H : Shp h) : fj_run (d + 1) 481 h [(4, 303), (0, x1)] =
  if x1 = 0 then
    c_481_92 d h
  else if x1 = 1 then
    c_481_97 d h
  else if x1 = 2 then
    c_481_102 d h
  else if x1 = 3 then
    c_481_107 d h
  else if x1 = 4 then
    c_481_115 d h
  else if x1 = 5 then
    c_481_120 d h
  else if x1 = 6 then
    c_481_125 d h
  else if x1 = 7 then
    c_481_130 d h
  else if x1 = 8 then
    c_481_135 d x1 h
  else if x1 = 9 then
    c_481_135 d x1 h
  else if x1 = 10 then
    c_481_135 d x1 h
  else if x1 = 11 then
    c_481_135 d x1 h
  else if x1 = 12 then
    c_481_148 d h
  else if x1 = 13 then
    c_481_153 d h
  else if x1 = 14 then
    c_481_158 d h
  else if x1 = 15 then
    c_481_163 d h
  else if x1 = 16 then
    c_481_168 d h
  else if x1 = 17 then
    c_481_173 d h
  else if x1 = 18 then
    c_481_178 d h
  else 
    c_481_183 d h := by
  rw [fj_run_eq d (by decide) h [(4, 303), (0, x1)] (Nat.le_of_ble_eq_true (by rw [nl_481]; rfl))]
  show gG (fj_run d) 481 0 [(0, (4, 303)), (1, (0, x1))] [] h = _
  exact
    have D : fk_D 481 [(0, none, .iload_n 1, 1, 0, 0, 0), (1, none, .tableswitch 182 0 18 #[91, 96, 101, 106, 114, 119, 124, 129, 134, 134, 134, 134, 147, 152, 157, 162, 167, 172, 177], 91, 0, 0, 0)] := fq_of3 cd_481 ow_481 cl_481 rfl (pc := 0) (by decide +kernel)
    j_ildn (pc := 0) D rfl rfl rfl fun D =>
    have N : fk_ni (x1) [] := trivial
    j_tc (pc := 1) 0 (t := 92) D N rfl (by decide +kernel) (fun q =>
      fk_jump cut_481_92 rfl rfl) (fun N =>
      j_tc 1 (t := 97) D N rfl (by decide +kernel) (fun q =>
        fk_jump cut_481_97 rfl rfl) (fun N =>
        j_tc 2 (t := 102) D N rfl (by decide +kernel) (fun q =>
          fk_jump cut_481_102 rfl rfl) (fun N =>
          j_tc 3 (t := 107) D N rfl (by decide +kernel) (fun q =>
            fk_jump cut_481_107 rfl rfl) (fun N =>
            j_tc 4 (t := 115) D N rfl (by decide +kernel) (fun q =>
              fk_jump cut_481_115 rfl rfl) (fun N =>
              j_tc 5 (t := 120) D N rfl (by decide +kernel) (fun q =>
                fk_jump cut_481_120 rfl rfl) (fun N =>
                j_tc 6 (t := 125) D N rfl (by decide +kernel) (fun q =>
                  fk_jump cut_481_125 rfl rfl) (fun N =>
                  j_tc 7 (t := 130) D N rfl (by decide +kernel) (fun q =>
                    fk_jump cut_481_130 rfl rfl) (fun N =>
                    j_tc 8 (t := 135) D N rfl (by decide +kernel) (fun q =>
                      fk_jump cut_481_135 rfl rfl) (fun N =>
                      j_tc 9 (t := 135) D N rfl (by decide +kernel) (fun q =>
                        fk_jump cut_481_135 rfl rfl) (fun N =>
                        j_tc 10 (t := 135) D N rfl (by decide +kernel) (fun q =>
                          fk_jump cut_481_135 rfl rfl) (fun N =>
                          j_tc 11 (t := 135) D N rfl (by decide +kernel) (fun q =>
                            fk_jump cut_481_135 rfl rfl) (fun N =>
                            j_tc 12 (t := 148) D N rfl (by decide +kernel) (fun q =>
                              fk_jump cut_481_148 rfl rfl) (fun N =>
                              j_tc 13 (t := 153) D N rfl (by decide +kernel) (fun q =>
                                fk_jump cut_481_153 rfl rfl) (fun N =>
                                j_tc 14 (t := 158) D N rfl (by decide +kernel) (fun q =>
                                  fk_jump cut_481_158 rfl rfl) (fun N =>
                                  j_tc 15 (t := 163) D N rfl (by decide +kernel) (fun q =>
                                    fk_jump cut_481_163 rfl rfl) (fun N =>
                                    j_tc 16 (t := 168) D N rfl (by decide +kernel) (fun q =>
                                      fk_jump cut_481_168 rfl rfl) (fun N =>
                                      j_tc 17 (t := 173) D N rfl (by decide +kernel) (fun q =>
                                        fk_jump cut_481_173 rfl rfl) (fun N =>
                                        j_tc 18 (t := 178) D N rfl (by decide +kernel) (fun q =>
                                          fk_jump cut_481_178 rfl rfl) (fun N =>
                                          j_td (t := 183) D N rfl (by decide +kernel) (by decide +kernel) <|
                                          fk_jump cut_481_183 rfl rfl)))))))))))))))))))
