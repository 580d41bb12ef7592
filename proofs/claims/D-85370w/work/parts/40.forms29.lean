/-! forms of methods 711..719, printed by gen/forms.py -/
set_option maxRecDepth 100000
/-! 711 StatuteHouseModel.putValue(IJJ)V -/
theorem cd_711 : fi_code 711 = prog_69_method_227_code := rfl
theorem hx_711 : ∀ pc, fi_hat 711 pc = none := fun pc => by unfold fi_hat; rw [show fi_hh 711 = [] from rfl]; rfl
theorem rt_711 : fi_ret 711 = none := rfl
theorem nl_711 : fi_nl 711 = 6 := rfl
theorem ow_711 : fi_ow 711 = 29 := rfl
theorem cl_711 : fj_cutT.getD 711 [] = [(54, []), (72, [0, 2]), (135, [0, 4])] := rfl
theorem cut_711_54 : fj_cut 711 54 = some [] := by decide +kernel
noncomputable def c_711_54 (d : Nat) (s0 s1 : Int) (h : fi_H) : fk_R := gG (fj_run d) 711 54 [] [(0, s1), (4, s0)] h
theorem cut_711_72 : fj_cut 711 72 = some [0, 2] := by decide +kernel
noncomputable def c_711_72 (d : Nat) (x2 : Int) (h : fi_H) : fk_R := gG (fj_run d) 711 72 [(0, (4, 602)), (2, (1, x2))] [] h
theorem cut_711_135 : fj_cut 711 135 = some [0, 4] := by decide +kernel
noncomputable def c_711_135 (d : Nat) (x4 : Int) (h : fi_H) : fk_R := gG (fj_run d) 711 135 [(0, (4, 602)), (4, (1, x4))] [] h
theorem e_711_54 (d : Nat) (s0 s1 : Int) {h : fi_H} (H : Shp h) : c_711_54 d s0 s1 h =
  dv_ (fi_vt 478 (h 0 s0.toNat 0)) fun m4 => cv_ (fj_run d m4 h [(4, s0), (0, s1)])
    (fun h1 =>
    some (.inl none, h1))
    (fun q3 h1 => tx_ q3 h1) := by
  unfold c_711_54
  exact
    have D : fk_D 711 [(54, some [], .invokevirtual 1282, 3, 1, 478, 0), (57, none, .goto 104, 3, 161, 0, 0)] := fq_of2 cd_711 ow_711 cl_711 rfl (pc := 54) (by decide +kernel)
    j_ivuv (pc := 54) (dd := 478) (a := [(0, s1)]) (rest := []) H.2.1 D rfl rfl rfl rfl rfl (fun m4 h1 e1 D =>
      have T := fj_run_ok _ _ _ _ _ _ H.1 e1
      have H := shp_st H T
      j_goto (pc := 57) D rfl <|
      have D : fk_D 711 [(161, none, .return_, 1, 0, 0, 0)] := fq_of2 cd_711 ow_711 cl_711 rfl (pc := 161) (by decide +kernel)
      j_vret D rt_711) (fun m4 q3 h1 e1 =>
      j_tx (hx_711 _))
theorem e_711_72 (d : Nat) (x2 : Int) {h : fi_H} (H : Shp h) : c_711_72 d x2 h =
  ca_ (fj_run d 598 h [(1, x2)]) 1
    (fun v2 h1 =>
    cv_ (fj_run d 702 h1 [(4, 602), (1, v2)])
      (fun h4 =>
      some (.inl none, h4))
      (fun q6 h4 => tx_ q6 h4))
    (fun q3 h1 => tx_ q3 h1) := by
  unfold c_711_72
  exact
    have D : fk_D 711 [(72, some [0, 2], .aload_n 0, 1, 0, 0, 0), (73, none, .lload_n 2, 1, 0, 0, 0), (74, none, .invokestatic 954, 3, 1, 598, 2), (77, none, .invokevirtual 1303, 3, 1, 484, 0), (80, none, .goto 81, 3, 161, 0, 0)] := fq_of2 cd_711 ow_711 cl_711 rfl (pc := 72) (by decide +kernel)
    j_aldn (pc := 72) D rfl rfl rfl fun D =>
    j_lldn (pc := 73) D rfl rfl rfl fun D =>
    j_is (pc := 74) (m := 598) (a := [(1, x2)]) (rest := [(4, 602)]) D rfl rfl rfl rfl (fun v2 h1 e1 D =>
      have T := fj_run_ok _ _ _ _ _ _ H.1 e1
      have H := shp_st H T
      j_ivv (pc := 77) (m := 702) (dd := 484) (a := [(1, v2)]) (rest := []) D rfl rfl rfl rfl rfl (by decide) (s0_602 H) (by decide +kernel) (fun h4 e1 D =>
        have T := fj_run_ok _ _ _ _ _ _ H.1 e1
        have H := shp_st H T
        j_goto (pc := 80) D rfl <|
        have D : fk_D 711 [(161, none, .return_, 1, 0, 0, 0)] := fq_of2 cd_711 ow_711 cl_711 rfl (pc := 161) (by decide +kernel)
        j_vret D rt_711) (fun q6 h4 e1 =>
        j_tx (hx_711 _))) (fun q3 h1 e1 =>
      j_tx (hx_711 _))
theorem e_711_135 (d : Nat) (x4 : Int) {h : fi_H} (H : Shp h) : c_711_135 d x4 h =
  cv_ (fj_run d 712 h [(4, 602), (1, x4)])
    (fun h1 =>
    cv_ (fj_run d 696 h1 [(4, 602), (0, 32)])
      (fun h4 =>
      cv_ (fj_run d 695 h4 [(4, 602), (0, 15)])
        (fun h7 =>
        some (.inl none, h7))
        (fun q9 h7 => tx_ q9 h7))
      (fun q6 h4 => tx_ q6 h4))
    (fun q3 h1 => tx_ q3 h1) := by
  unfold c_711_135
  exact
    have D : fk_D 711 [(135, some [0, 4], .aload_n 0, 1, 0, 0, 0), (136, none, .lload 4, 2, 0, 0, 0), (138, none, .invokevirtual 1318, 3, 1, 488, 0), (141, none, .aload_n 0, 1, 0, 0, 0), (142, none, .bipush 32, 2, 0, 32, 0), (144, none, .invokevirtual 1274, 3, 1, 475, 0), (147, none, .aload_n 0, 1, 0, 0, 0), (148, none, .bipush 15, 2, 0, 15, 0), (150, none, .invokevirtual 1282, 3, 1, 478, 0), (153, none, .goto 8, 3, 161, 0, 0)] := fq_of2 cd_711 ow_711 cl_711 rfl (pc := 135) (by decide +kernel)
    j_aldn (pc := 135) D rfl rfl rfl fun D =>
    j_lld (pc := 136) D rfl rfl rfl fun D =>
    j_ivv (pc := 138) (m := 712) (dd := 488) (a := [(1, x4)]) (rest := []) D rfl rfl rfl rfl rfl (by decide) (s0_602 H) (by decide +kernel) (fun h1 e1 D =>
      have T := fj_run_ok _ _ _ _ _ _ H.1 e1
      have H := shp_st H T
      j_aldn (pc := 141) D rfl rfl rfl fun D =>
      j_bp (pc := 142) D rfl fun D =>
      j_ivv (pc := 144) (m := 696) (dd := 475) (a := [(0, 32)]) (rest := []) D rfl rfl rfl rfl rfl (by decide) (s0_602 H) (by decide +kernel) (fun h4 e1 D =>
        have T := fj_run_ok _ _ _ _ _ _ H.1 e1
        have H := shp_st H T
        j_aldn (pc := 147) D rfl rfl rfl fun D =>
        j_bp (pc := 148) D rfl fun D =>
        j_ivv (pc := 150) (m := 695) (dd := 478) (a := [(0, 15)]) (rest := []) D rfl rfl rfl rfl rfl (by decide) (s0_602 H) (by decide +kernel) (fun h7 e1 D =>
          have T := fj_run_ok _ _ _ _ _ _ H.1 e1
          have H := shp_st H T
          j_goto (pc := 153) D rfl <|
          have D : fk_D 711 [(161, none, .return_, 1, 0, 0, 0)] := fq_of2 cd_711 ow_711 cl_711 rfl (pc := 161) (by decide +kernel)
          j_vret D rt_711) (fun q9 h7 e1 =>
          j_tx (hx_711 _))) (fun q6 h4 e1 =>
        j_tx (hx_711 _))) (fun q3 h1 e1 =>
      j_tx (hx_711 _))
theorem m_711 (d : Nat) (x1 x2 x4 : Int) {h : fi_H} (H : Shp h) : fj_run (d + 1) 711 h [(4, 602), (0, x1), (1, x2), (1, x4)] =
  if x1 = 0 then
    if lc_ x2 1 = 0 then
      c_711_54 d 602 18 h
    else
      c_711_54 d 602 19 h
  else if x1 = 2 then
    if lc_ x2 0 < 0 then
      cv_ (fj_run d 696 h [(4, 602), (0, 45)])
        (fun h1 =>
        c_711_72 d x2 h1)
        (fun q3 h1 => tx_ q3 h1)
    else
      c_711_72 d x2 h
  else if x1 = 3 then
    cv_ (fj_run d 712 h [(4, 602), (1, x2)])
      (fun h4 =>
      cv_ (fj_run d 696 h4 [(4, 602), (0, 47)])
        (fun h7 =>
        cv_ (fj_run d 712 h7 [(4, 602), (1, x4)])
          (fun h10 =>
          some (.inl none, h10))
          (fun q12 h10 => tx_ q12 h10))
        (fun q9 h7 => tx_ q9 h7))
      (fun q6 h4 => tx_ q6 h4)
  else if x1 = 4 then
    cv_ (fj_run d 706 h [(4, 602), (0, wI x2)])
      (fun h13 =>
      some (.inl none, h13))
      (fun q15 h13 => tx_ q15 h13)
  else if x1 = 5 then
    cv_ (fj_run d 712 h [(4, 602), (1, x2)])
      (fun h16 =>
      cv_ (fj_run d 696 h16 [(4, 602), (0, 32)])
        (fun h19 =>
        cv_ (fj_run d 695 h19 [(4, 602), (0, 16)])
          (fun h22 =>
          cv_ (fj_run d 696 h22 [(4, 602), (0, 32)])
            (fun h25 =>
            c_711_135 d x4 h25)
            (fun q27 h25 => tx_ q27 h25))
          (fun q24 h22 => tx_ q24 h22))
        (fun q21 h19 => tx_ q21 h19))
      (fun q18 h16 => tx_ q18 h16)
  else 
    cv_ (fj_run d 712 h [(4, 602), (1, x2)])
      (fun h28 =>
      some (.inl none, h28))
      (fun q30 h28 => tx_ q30 h28) := by
  rw [fj_run_eq d (by decide) h [(4, 602), (0, x1), (1, x2), (1, x4)] (Nat.le_of_ble_eq_true (by rw [nl_711]; rfl))]
  show gG (fj_run d) 711 0 [(0, (4, 602)), (1, (0, x1)), (2, (1, x2)), (4, (1, x4))] [] h = _
  exact
    have D : fk_D 711 [(0, none, .iload_n 1, 1, 0, 0, 0), (1, none, .tableswitch 155 0 5 #[39, 155, 59, 82, 102, 111], 39, 0, 0, 0)] := fq_of3 cd_711 ow_711 cl_711 rfl (pc := 0) (by decide +kernel)
    j_ildn (pc := 0) D rfl rfl rfl fun D =>
    have N : fk_ni (x1) [] := trivial
    j_tc (pc := 1) 0 (t := 40) D N rfl (by decide +kernel) (fun q =>
      have D : fk_D 711 [(40, none, .aload_n 0, 1, 0, 0, 0), (41, none, .lload_n 2, 1, 0, 0, 0), (42, none, .lconst 1, 1, 0, 0, 0), (43, none, .lcmp, 1, 0, 0, 0), (44, none, .ifCond .ne 8, 3, 52, 0, 0), (47, none, .bipush 18, 2, 0, 18, 0), (49, none, .goto 5, 3, 54, 0, 0)] := fq_of2 cd_711 ow_711 cl_711 rfl (pc := 40) (by decide +kernel)
      j_aldn (pc := 40) D rfl rfl rfl fun D =>
      j_lldn (pc := 41) D rfl rfl rfl fun D =>
      j_c0 (pc := 42) (v := (1, 1)) D rfl rfl (by decide +kernel) fun D =>
      j_lcmp (pc := 43) D rfl fun D =>
      j_ifne (pc := 44) D rfl (fun q D =>
        j_bp (pc := 47) D rfl fun D =>
        j_goto (pc := 49) D rfl <|
        fk_jump cut_711_54 rfl rfl) (fun q =>
        have D : fk_D 711 [(52, none, .bipush 19, 2, 0, 19, 0)] := fq_of2 cd_711 ow_711 cl_711 rfl (pc := 52) (by decide +kernel)
        j_bp (pc := 52) D rfl fun D =>
        fk_jump cut_711_54 rfl rfl)) (fun N =>
      j_tc 2 (t := 60) D N rfl (by decide +kernel) (fun q =>
        have D : fk_D 711 [(60, none, .lload_n 2, 1, 0, 0, 0), (61, none, .lconst 0, 1, 0, 0, 0), (62, none, .lcmp, 1, 0, 0, 0), (63, none, .ifCond .ge 9, 3, 72, 0, 0), (66, none, .aload_n 0, 1, 0, 0, 0), (67, none, .bipush 45, 2, 0, 45, 0), (69, none, .invokevirtual 1274, 3, 1, 475, 0)] := fq_of2 cd_711 ow_711 cl_711 rfl (pc := 60) (by decide +kernel)
        j_lldn (pc := 60) D rfl rfl rfl fun D =>
        j_c0 (pc := 61) (v := (1, 0)) D rfl rfl (by decide +kernel) fun D =>
        j_lcmp (pc := 62) D rfl fun D =>
        j_ifge (pc := 63) D rfl (fun q D =>
          j_aldn (pc := 66) D rfl rfl rfl fun D =>
          j_bp (pc := 67) D rfl fun D =>
          j_ivv (pc := 69) (m := 696) (dd := 475) (a := [(0, 45)]) (rest := []) D rfl rfl rfl rfl rfl (by decide) (s0_602 H) (by decide +kernel) (fun h1 e1 D =>
            have T := fj_run_ok _ _ _ _ _ _ H.1 e1
            have H := shp_st H T
            fk_jump cut_711_72 rfl rfl) (fun q3 h1 e1 =>
            j_tx (hx_711 _))) (fun q =>
          fk_jump cut_711_72 rfl rfl)) (fun N =>
        j_tc 3 (t := 83) D N rfl (by decide +kernel) (fun q =>
          have D : fk_D 711 [(83, none, .aload_n 0, 1, 0, 0, 0), (84, none, .lload_n 2, 1, 0, 0, 0), (85, none, .invokevirtual 1318, 3, 1, 488, 0), (88, none, .aload_n 0, 1, 0, 0, 0), (89, none, .bipush 47, 2, 0, 47, 0), (91, none, .invokevirtual 1274, 3, 1, 475, 0), (94, none, .aload_n 0, 1, 0, 0, 0), (95, none, .lload 4, 2, 0, 0, 0), (97, none, .invokevirtual 1318, 3, 1, 488, 0), (100, none, .goto 61, 3, 161, 0, 0)] := fq_of2 cd_711 ow_711 cl_711 rfl (pc := 83) (by decide +kernel)
          j_aldn (pc := 83) D rfl rfl rfl fun D =>
          j_lldn (pc := 84) D rfl rfl rfl fun D =>
          j_ivv (pc := 85) (m := 712) (dd := 488) (a := [(1, x2)]) (rest := []) D rfl rfl rfl rfl rfl (by decide) (s0_602 H) (by decide +kernel) (fun h4 e1 D =>
            have T := fj_run_ok _ _ _ _ _ _ H.1 e1
            have H := shp_st H T
            j_aldn (pc := 88) D rfl rfl rfl fun D =>
            j_bp (pc := 89) D rfl fun D =>
            j_ivv (pc := 91) (m := 696) (dd := 475) (a := [(0, 47)]) (rest := []) D rfl rfl rfl rfl rfl (by decide) (s0_602 H) (by decide +kernel) (fun h7 e1 D =>
              have T := fj_run_ok _ _ _ _ _ _ H.1 e1
              have H := shp_st H T
              j_aldn (pc := 94) D rfl rfl rfl fun D =>
              j_lld (pc := 95) D rfl rfl rfl fun D =>
              j_ivv (pc := 97) (m := 712) (dd := 488) (a := [(1, x4)]) (rest := []) D rfl rfl rfl rfl rfl (by decide) (s0_602 H) (by decide +kernel) (fun h10 e1 D =>
                have T := fj_run_ok _ _ _ _ _ _ H.1 e1
                have H := shp_st H T
                j_goto (pc := 100) D rfl <|
                have D : fk_D 711 [(161, none, .return_, 1, 0, 0, 0)] := fq_of2 cd_711 ow_711 cl_711 rfl (pc := 161) (by decide +kernel)
                j_vret D rt_711) (fun q12 h10 e1 =>
                j_tx (hx_711 _))) (fun q9 h7 e1 =>
              j_tx (hx_711 _))) (fun q6 h4 e1 =>
            j_tx (hx_711 _))) (fun N =>
          j_tc 4 (t := 103) D N rfl (by decide +kernel) (fun q =>
            have D : fk_D 711 [(103, none, .aload_n 0, 1, 0, 0, 0), (104, none, .lload_n 2, 1, 0, 0, 0), (105, none, .l2i, 1, 0, 0, 0), (106, none, .invokevirtual 1285, 3, 1, 479, 0), (109, none, .goto 52, 3, 161, 0, 0)] := fq_of2 cd_711 ow_711 cl_711 rfl (pc := 103) (by decide +kernel)
            j_aldn (pc := 103) D rfl rfl rfl fun D =>
            j_lldn (pc := 104) D rfl rfl rfl fun D =>
            j_l2i (pc := 105) D rfl fun D =>
            j_ivv (pc := 106) (m := 706) (dd := 479) (a := [(0, wI x2)]) (rest := []) D rfl rfl rfl rfl rfl (by decide) (s0_602 H) (by decide +kernel) (fun h13 e1 D =>
              have T := fj_run_ok _ _ _ _ _ _ H.1 e1
              have H := shp_st H T
              j_goto (pc := 109) D rfl <|
              have D : fk_D 711 [(161, none, .return_, 1, 0, 0, 0)] := fq_of2 cd_711 ow_711 cl_711 rfl (pc := 161) (by decide +kernel)
              j_vret D rt_711) (fun q15 h13 e1 =>
              j_tx (hx_711 _))) (fun N =>
            j_tc 5 (t := 112) D N rfl (by decide +kernel) (fun q =>
              have D : fk_D 711 [(112, none, .aload_n 0, 1, 0, 0, 0), (113, none, .lload_n 2, 1, 0, 0, 0), (114, none, .invokevirtual 1318, 3, 1, 488, 0), (117, none, .aload_n 0, 1, 0, 0, 0), (118, none, .bipush 32, 2, 0, 32, 0), (120, none, .invokevirtual 1274, 3, 1, 475, 0), (123, none, .aload_n 0, 1, 0, 0, 0), (124, none, .bipush 16, 2, 0, 16, 0), (126, none, .invokevirtual 1282, 3, 1, 478, 0), (129, none, .aload_n 0, 1, 0, 0, 0), (130, none, .bipush 32, 2, 0, 32, 0), (132, none, .invokevirtual 1274, 3, 1, 475, 0)] := fq_of2 cd_711 ow_711 cl_711 rfl (pc := 112) (by decide +kernel)
              j_aldn (pc := 112) D rfl rfl rfl fun D =>
              j_lldn (pc := 113) D rfl rfl rfl fun D =>
              j_ivv (pc := 114) (m := 712) (dd := 488) (a := [(1, x2)]) (rest := []) D rfl rfl rfl rfl rfl (by decide) (s0_602 H) (by decide +kernel) (fun h16 e1 D =>
                have T := fj_run_ok _ _ _ _ _ _ H.1 e1
                have H := shp_st H T
                j_aldn (pc := 117) D rfl rfl rfl fun D =>
                j_bp (pc := 118) D rfl fun D =>
                j_ivv (pc := 120) (m := 696) (dd := 475) (a := [(0, 32)]) (rest := []) D rfl rfl rfl rfl rfl (by decide) (s0_602 H) (by decide +kernel) (fun h19 e1 D =>
                  have T := fj_run_ok _ _ _ _ _ _ H.1 e1
                  have H := shp_st H T
                  j_aldn (pc := 123) D rfl rfl rfl fun D =>
                  j_bp (pc := 124) D rfl fun D =>
                  j_ivv (pc := 126) (m := 695) (dd := 478) (a := [(0, 16)]) (rest := []) D rfl rfl rfl rfl rfl (by decide) (s0_602 H) (by decide +kernel) (fun h22 e1 D =>
                    have T := fj_run_ok _ _ _ _ _ _ H.1 e1
                    have H := shp_st H T
                    j_aldn (pc := 129) D rfl rfl rfl fun D =>
                    j_bp (pc := 130) D rfl fun D =>
                    j_ivv (pc := 132) (m := 696) (dd := 475) (a := [(0, 32)]) (rest := []) D rfl rfl rfl rfl rfl (by decide) (s0_602 H) (by decide +kernel) (fun h25 e1 D =>
                      have T := fj_run_ok _ _ _ _ _ _ H.1 e1
                      have H := shp_st H T
                      fk_jump cut_711_135 rfl rfl) (fun q27 h25 e1 =>
                      j_tx (hx_711 _))) (fun q24 h22 e1 =>
                    j_tx (hx_711 _))) (fun q21 h19 e1 =>
                  j_tx (hx_711 _))) (fun q18 h16 e1 =>
                j_tx (hx_711 _))) (fun N =>
              j_td (t := 156) D N rfl (by decide +kernel) (by decide +kernel) <|
              have D : fk_D 711 [(156, none, .aload_n 0, 1, 0, 0, 0), (157, none, .lload_n 2, 1, 0, 0, 0), (158, none, .invokevirtual 1318, 3, 1, 488, 0), (161, none, .return_, 1, 0, 0, 0)] := fq_of2 cd_711 ow_711 cl_711 rfl (pc := 156) (by decide +kernel)
              j_aldn (pc := 156) D rfl rfl rfl fun D =>
              j_lldn (pc := 157) D rfl rfl rfl fun D =>
              j_ivv (pc := 158) (m := 712) (dd := 488) (a := [(1, x2)]) (rest := []) D rfl rfl rfl rfl rfl (by decide) (s0_602 H) (by decide +kernel) (fun h28 e1 D =>
                have T := fj_run_ok _ _ _ _ _ _ H.1 e1
                have H := shp_st H T
                j_vret D rt_711) (fun q30 h28 e1 =>
                j_tx (hx_711 _)))))))
/-! 712 StatuteHouseModel.putSigned(J)V -/
theorem cd_712 : fi_code 712 = prog_69_method_228_code := rfl
theorem hx_712 : ∀ pc, fi_hat 712 pc = none := fun pc => by unfold fi_hat; rw [show fi_hh 712 = [] from rfl]; rfl
theorem rt_712 : fi_ret 712 = none := rfl
theorem nl_712 : fi_nl 712 = 3 := rfl
theorem ow_712 : fi_ow 712 = 29 := rfl
theorem cl_712 : fj_cutT.getD 712 [] = [(38, [0, 1])] := rfl
theorem cut_712_38 : fj_cut 712 38 = some [0, 1] := by decide +kernel
noncomputable def c_712_38 (d : Nat) (x1 : Int) (h : fi_H) : fk_R := gG (fj_run d) 712 38 [(0, (4, 602)), (1, (1, x1))] [] h
theorem e_712_38 (d : Nat) (x1 : Int) {h : fi_H} (H : Shp h) : c_712_38 d x1 h =
  cv_ (fj_run d 696 h [(4, 602), (0, wI (wJ (48 - (lr_ x1 10))))])
    (fun h1 =>
    some (.inl none, h1))
    (fun q3 h1 => tx_ q3 h1) := by
  unfold c_712_38
  exact
    have D : fk_D 712 [(38, some [0, 1], .aload_n 0, 1, 0, 0, 0), (39, none, .ldc2_w 491, 3, 1, 48, 0), (42, none, .lload_n 1, 1, 0, 0, 0), (43, none, .ldc2_w 489, 3, 1, 10, 0), (46, none, .lrem, 1, 0, 0, 0), (47, none, .lsub, 1, 0, 0, 0), (48, none, .l2i, 1, 0, 0, 0), (49, none, .invokevirtual 1274, 3, 1, 475, 0), (52, none, .return_, 1, 0, 0, 0)] := fq_of2 cd_712 ow_712 cl_712 rfl (pc := 38) (by decide +kernel)
    j_aldn (pc := 38) D rfl rfl rfl fun D =>
    j_ldc2 (pc := 39) D rfl fun D =>
    j_lldn (pc := 42) D rfl rfl rfl fun D =>
    j_ldc2 (pc := 43) D rfl fun D =>
    j_lremk (pc := 46) D rfl (by decide) fun D =>
    j_lsub (pc := 47) D rfl fun D =>
    j_l2i (pc := 48) D rfl fun D =>
    j_ivv (pc := 49) (m := 696) (dd := 475) (a := [(0, wI (wJ (48 - (lr_ x1 10))))]) (rest := []) D rfl rfl rfl rfl rfl (by decide) (s0_602 H) (by decide +kernel) (fun h1 e1 D =>
      have T := fj_run_ok _ _ _ _ _ _ H.1 e1
      have H := shp_st H T
      j_vret D rt_712) (fun q3 h1 e1 =>
      j_tx (hx_712 _))
theorem m_712 (d : Nat) (x1 : Int) {h : fi_H} (H : Shp h) : fj_run (d + 1) 712 h [(4, 602), (1, x1)] =
  if lc_ x1 0 < 0 then
    cv_ (fj_run d 696 h [(4, 602), (0, 45)])
      (fun h1 =>
      if lc_ (lq_ x1 10) 0 < 0 then
        cv_ (fj_run d 698 h1 [(4, 602), (1, wJ (-(lq_ x1 10)))])
          (fun h4 =>
          c_712_38 d x1 h4)
          (fun q6 h4 => tx_ q6 h4)
      else
        c_712_38 d x1 h1)
      (fun q3 h1 => tx_ q3 h1)
  else
    cv_ (fj_run d 698 h [(4, 602), (1, x1)])
      (fun h7 =>
      some (.inl none, h7))
      (fun q9 h7 => tx_ q9 h7) := by
  rw [fj_run_eq d (by decide) h [(4, 602), (1, x1)] (Nat.le_of_ble_eq_true (by rw [nl_712]; rfl))]
  show gG (fj_run d) 712 0 [(0, (4, 602)), (1, (1, x1))] [] h = _
  exact
    have D : fk_D 712 [(0, none, .lload_n 1, 1, 0, 0, 0), (1, none, .lconst 0, 1, 0, 0, 0), (2, none, .lcmp, 1, 0, 0, 0), (3, none, .ifCond .lt 9, 3, 12, 0, 0), (6, none, .aload_n 0, 1, 0, 0, 0), (7, none, .lload_n 1, 1, 0, 0, 0), (8, none, .invokevirtual 1276, 3, 1, 476, 0), (11, none, .return_, 1, 0, 0, 0)] := fq_of2 cd_712 ow_712 cl_712 rfl (pc := 0) (by decide +kernel)
    j_lldn (pc := 0) D rfl rfl rfl fun D =>
    j_c0 (pc := 1) (v := (1, 0)) D rfl rfl (by decide +kernel) fun D =>
    j_lcmp (pc := 2) D rfl fun D =>
    j_iflt (pc := 3) D rfl (fun q =>
      have D : fk_D 712 [(12, none, .aload_n 0, 1, 0, 0, 0), (13, none, .bipush 45, 2, 0, 45, 0), (15, none, .invokevirtual 1274, 3, 1, 475, 0), (18, none, .lload_n 1, 1, 0, 0, 0), (19, none, .ldc2_w 489, 3, 1, 10, 0), (22, none, .ldiv, 1, 0, 0, 0), (23, none, .lconst 0, 1, 0, 0, 0), (24, none, .lcmp, 1, 0, 0, 0), (25, none, .ifCond .ge 13, 3, 38, 0, 0), (28, none, .aload_n 0, 1, 0, 0, 0), (29, none, .lload_n 1, 1, 0, 0, 0), (30, none, .ldc2_w 489, 3, 1, 10, 0), (33, none, .ldiv, 1, 0, 0, 0), (34, none, .lneg, 1, 0, 0, 0), (35, none, .invokevirtual 1276, 3, 1, 476, 0)] := fq_of2 cd_712 ow_712 cl_712 rfl (pc := 12) (by decide +kernel)
      j_aldn (pc := 12) D rfl rfl rfl fun D =>
      j_bp (pc := 13) D rfl fun D =>
      j_ivv (pc := 15) (m := 696) (dd := 475) (a := [(0, 45)]) (rest := []) D rfl rfl rfl rfl rfl (by decide) (s0_602 H) (by decide +kernel) (fun h1 e1 D =>
        have T := fj_run_ok _ _ _ _ _ _ H.1 e1
        have H := shp_st H T
        j_lldn (pc := 18) D rfl rfl rfl fun D =>
        j_ldc2 (pc := 19) D rfl fun D =>
        j_ldivk (pc := 22) D rfl (by decide) fun D =>
        j_c0 (pc := 23) (v := (1, 0)) D rfl rfl (by decide +kernel) fun D =>
        j_lcmp (pc := 24) D rfl fun D =>
        j_ifge (pc := 25) D rfl (fun q D =>
          j_aldn (pc := 28) D rfl rfl rfl fun D =>
          j_lldn (pc := 29) D rfl rfl rfl fun D =>
          j_ldc2 (pc := 30) D rfl fun D =>
          j_ldivk (pc := 33) D rfl (by decide) fun D =>
          j_lneg (pc := 34) D rfl fun D =>
          j_ivv (pc := 35) (m := 698) (dd := 476) (a := [(1, wJ (-(lq_ x1 10)))]) (rest := []) D rfl rfl rfl rfl rfl (by decide) (s0_602 H) (by decide +kernel) (fun h4 e1 D =>
            have T := fj_run_ok _ _ _ _ _ _ H.1 e1
            have H := shp_st H T
            fk_jump cut_712_38 rfl rfl) (fun q6 h4 e1 =>
            j_tx (hx_712 _))) (fun q =>
          fk_jump cut_712_38 rfl rfl)) (fun q3 h1 e1 =>
        j_tx (hx_712 _))) (fun q D =>
      j_aldn (pc := 6) D rfl rfl rfl fun D =>
      j_lldn (pc := 7) D rfl rfl rfl fun D =>
      j_ivv (pc := 8) (m := 698) (dd := 476) (a := [(1, x1)]) (rest := []) D rfl rfl rfl rfl rfl (by decide) (s0_602 H) (by decide +kernel) (fun h7 e1 D =>
        have T := fj_run_ok _ _ _ _ _ _ H.1 e1
        have H := shp_st H T
        j_vret D rt_712) (fun q9 h7 e1 =>
        j_tx (hx_712 _)))
/-! 713 StatuteHouseModel.putNone()V -/
theorem cd_713 : fi_code 713 = prog_69_method_230_code := rfl
theorem hx_713 : ∀ pc, fi_hat 713 pc = none := fun pc => by unfold fi_hat; rw [show fi_hh 713 = [] from rfl]; rfl
theorem rt_713 : fi_ret 713 = none := rfl
theorem nl_713 : fi_nl 713 = 1 := rfl
theorem ow_713 : fi_ow 713 = 29 := rfl
theorem cl_713 : fj_cutT.getD 713 [] = [] := rfl
theorem m_713 (d : Nat) {h : fi_H} (H : Shp h) : fj_run (d + 1) 713 h [(4, 602)] =
  cv_ (fj_run d 696 h [(4, 602), (0, 110)])
    (fun h1 =>
    cv_ (fj_run d 696 h1 [(4, 602), (0, 111)])
      (fun h4 =>
      cv_ (fj_run d 696 h4 [(4, 602), (0, 110)])
        (fun h7 =>
        cv_ (fj_run d 696 h7 [(4, 602), (0, 101)])
          (fun h10 =>
          some (.inl none, h10))
          (fun q12 h10 => tx_ q12 h10))
        (fun q9 h7 => tx_ q9 h7))
      (fun q6 h4 => tx_ q6 h4))
    (fun q3 h1 => tx_ q3 h1) := by
  rw [fj_run_eq d (by decide) h [(4, 602)] (Nat.le_of_ble_eq_true (by rw [nl_713]; rfl))]
  show gG (fj_run d) 713 0 [(0, (4, 602))] [] h = _
  exact
    have D : fk_D 713 [(0, none, .aload_n 0, 1, 0, 0, 0), (1, none, .bipush 110, 2, 0, 110, 0), (3, none, .invokevirtual 1274, 3, 1, 475, 0), (6, none, .aload_n 0, 1, 0, 0, 0), (7, none, .bipush 111, 2, 0, 111, 0), (9, none, .invokevirtual 1274, 3, 1, 475, 0), (12, none, .aload_n 0, 1, 0, 0, 0), (13, none, .bipush 110, 2, 0, 110, 0), (15, none, .invokevirtual 1274, 3, 1, 475, 0), (18, none, .aload_n 0, 1, 0, 0, 0), (19, none, .bipush 101, 2, 0, 101, 0), (21, none, .invokevirtual 1274, 3, 1, 475, 0), (24, none, .return_, 1, 0, 0, 0)] := fq_of2 cd_713 ow_713 cl_713 rfl (pc := 0) (by decide +kernel)
    j_aldn (pc := 0) D rfl rfl rfl fun D =>
    j_bp (pc := 1) D rfl fun D =>
    j_ivv (pc := 3) (m := 696) (dd := 475) (a := [(0, 110)]) (rest := []) D rfl rfl rfl rfl rfl (by decide) (s0_602 H) (by decide +kernel) (fun h1 e1 D =>
      have T := fj_run_ok _ _ _ _ _ _ H.1 e1
      have H := shp_st H T
      j_aldn (pc := 6) D rfl rfl rfl fun D =>
      j_bp (pc := 7) D rfl fun D =>
      j_ivv (pc := 9) (m := 696) (dd := 475) (a := [(0, 111)]) (rest := []) D rfl rfl rfl rfl rfl (by decide) (s0_602 H) (by decide +kernel) (fun h4 e1 D =>
        have T := fj_run_ok _ _ _ _ _ _ H.1 e1
        have H := shp_st H T
        j_aldn (pc := 12) D rfl rfl rfl fun D =>
        j_bp (pc := 13) D rfl fun D =>
        j_ivv (pc := 15) (m := 696) (dd := 475) (a := [(0, 110)]) (rest := []) D rfl rfl rfl rfl rfl (by decide) (s0_602 H) (by decide +kernel) (fun h7 e1 D =>
          have T := fj_run_ok _ _ _ _ _ _ H.1 e1
          have H := shp_st H T
          j_aldn (pc := 18) D rfl rfl rfl fun D =>
          j_bp (pc := 19) D rfl fun D =>
          j_ivv (pc := 21) (m := 696) (dd := 475) (a := [(0, 101)]) (rest := []) D rfl rfl rfl rfl rfl (by decide) (s0_602 H) (by decide +kernel) (fun h10 e1 D =>
            have T := fj_run_ok _ _ _ _ _ _ H.1 e1
            have H := shp_st H T
            j_vret D rt_713) (fun q12 h10 e1 =>
            j_tx (hx_713 _))) (fun q9 h7 e1 =>
          j_tx (hx_713 _))) (fun q6 h4 e1 =>
        j_tx (hx_713 _))) (fun q3 h1 e1 =>
      j_tx (hx_713 _))
/-! 714 StatuteHouseModel.out(I)I -/
theorem cd_714 : fi_code 714 = prog_69_method_232_code := rfl
theorem hx_714 : ∀ pc, fi_hat 714 pc = none := fun pc => by unfold fi_hat; rw [show fi_hh 714 = [] from rfl]; rfl
theorem rt_714 : fi_ret 714 = some .int := rfl
theorem nl_714 : fi_nl 714 = 2 := rfl
theorem ow_714 : fi_ow 714 = 29 := rfl
theorem cl_714 : fj_cutT.getD 714 [] = [] := rfl
theorem m_714 (d : Nat) (x1 : Int) {h : fi_H} (H : Shp h) : fj_run (d + 1) 714 h [(4, 602), (0, x1)] =
  ca_ (fj_run d 508 h [(1, wI x1), (1, 0), (1, wI (wI ((h 568 602 0) - 1)))]) 0
    (fun v2 h1 =>
    if v2 = 0 then
      some (.inl (some (0, (-1))), h1)
    else
      if 0 ≤ x1 ∧ x1 < 12000 then
      some (.inl (some (0, h1 8 712 x1.toNat)), h1)
      else none)
    (fun q3 h1 => tx_ q3 h1) := by
  rw [fj_run_eq d (by decide) h [(4, 602), (0, x1)] (Nat.le_of_ble_eq_true (by rw [nl_714]; rfl))]
  show gG (fj_run d) 714 0 [(0, (4, 602)), (1, (0, x1))] [] h = _
  exact
    have D : fk_D 714 [(0, none, .iload_n 1, 1, 0, 0, 0), (1, none, .i2l, 1, 0, 0, 0), (2, none, .lconst 0, 1, 0, 0, 0), (3, none, .aload_n 0, 1, 0, 0, 0), (4, none, .getfield 1315, 3, 568, 129, 10), (7, none, .iconst 1, 1, 0, 1, 0), (8, none, .isub, 1, 0, 0, 0), (9, none, .i2l, 1, 0, 0, 0), (10, none, .invokestatic 434, 3, 3, 508, 1), (13, none, .ifCond .eq 12, 3, 25, 0, 0), (16, none, .aload_n 0, 1, 0, 0, 0), (17, none, .getfield 401, 3, 566, 129, 12), (20, none, .iload_n 1, 1, 0, 0, 0), (21, none, .baload, 1, 0, 0, 0), (22, none, .goto 4, 3, 26, 0, 0)] := fq_of2 cd_714 ow_714 cl_714 rfl (pc := 0) (by decide +kernel)
    j_ildn (pc := 0) D rfl rfl rfl fun D =>
    j_i2l (pc := 1) D rfl fun D =>
    j_c0 (pc := 2) (v := (1, 0)) D rfl rfl (by decide +kernel) fun D =>
    j_aldn (pc := 3) D rfl rfl rfl fun D =>
    j_gf (pc := 4) (a := 602) D rfl rfl (by decide) rfl (s0_602 H) rfl fun D =>
    j_ic (pc := 7) D rfl fun D =>
    j_isub (pc := 8) D rfl fun D =>
    j_i2l (pc := 9) D rfl fun D =>
    j_is (pc := 10) (m := 508) (a := [(1, wI x1), (1, 0), (1, wI (wI ((h 568 602 0) - 1)))]) (rest := []) D rfl rfl rfl rfl (fun v2 h1 e1 D =>
      have T := fj_run_ok _ _ _ _ _ _ H.1 e1
      have H := shp_st H T
      j_ifeq (pc := 13) D rfl (fun q =>
        have D : fk_D 714 [(25, none, .iconst (-1), 1, 0, (-1), 0), (26, none, .ireturn, 1, 0, 0, 0)] := fq_of2 cd_714 ow_714 cl_714 rfl (pc := 25) (by decide +kernel)
        j_ic (pc := 25) D rfl fun D =>
        j_iret D rt_714) (fun q D =>
        j_aldn (pc := 16) D rfl rfl rfl fun D =>
        j_gfc (pc := 17) (a := 602) D rfl rfl (by decide) rfl (s0_602 H) rfl (sf_566_602 H) fun D =>
        j_ildn (pc := 20) D rfl rfl rfl fun D =>
        j_al (pc := 21) (a := 712) (e := 8) D rfl rfl rfl (by decide) (s0_712 H) (s1_712 H) ⟨rfl, rfl, rfl⟩ rfl gn fun qb4 D =>
        j_goto (pc := 22) D rfl <|
        have D : fk_D 714 [(26, none, .ireturn, 1, 0, 0, 0)] := fq_of2 cd_714 ow_714 cl_714 rfl (pc := 26) (by decide +kernel)
        j_iret D rt_714)) (fun q3 h1 e1 =>
      j_tx (hx_714 _))
/-! 715 StatuteHouseModel.differ(IIIIII)I -/
theorem cd_715 : fi_code 715 = prog_69_method_235_code := rfl
theorem hx_715 : ∀ pc, fi_hat 715 pc = none := fun pc => by unfold fi_hat; rw [show fi_hh 715 = [] from rfl]; rfl
theorem rt_715 : fi_ret 715 = some .int := rfl
theorem nl_715 : fi_nl 715 = 14 := rfl
theorem ow_715 : fi_ow 715 = 29 := rfl
theorem cl_715 : fj_cutT.getD 715 [] = [(86, [0, 7, 8]), (110, [0, 7, 8]), (137, [0, 7, 8]), (166, [0, 7, 8, 9]), (187, [0, 7, 8, 9, 10]), (208, [0, 7, 8, 9, 10, 11]), (276, [0, 7, 8, 11, 12]), (305, [0, 7, 8, 11, 12]), (316, [0, 7, 8, 11, 12]), (326, [0, 7, 8, 11, 12]), (336, [0, 7, 8])] := rfl
theorem cut_715_86 : fj_cut 715 86 = some [0, 7, 8] := by decide +kernel
noncomputable def c_715_86 (d : Nat) (x7 x8 : Int) (h : fi_H) : fk_R := gG (fj_run d) 715 86 [(0, (4, 602)), (7, (0, x7)), (8, (0, x8))] [] h
theorem cut_715_110 : fj_cut 715 110 = some [0, 7, 8] := by decide +kernel
noncomputable def c_715_110 (d : Nat) (x7 x8 : Int) (h : fi_H) : fk_R := gG (fj_run d) 715 110 [(0, (4, 602)), (7, (0, x7)), (8, (0, x8))] [] h
theorem cut_715_137 : fj_cut 715 137 = some [0, 7, 8] := by decide +kernel
noncomputable def c_715_137 (d : Nat) (x7 x8 s0 : Int) (h : fi_H) : fk_R := gG (fj_run d) 715 137 [(0, (4, 602)), (7, (0, x7)), (8, (0, x8))] [(0, s0)] h
theorem cut_715_166 : fj_cut 715 166 = some [0, 7, 8, 9] := by decide +kernel
noncomputable def c_715_166 (d : Nat) (x7 x8 x9 s0 : Int) (h : fi_H) : fk_R := gG (fj_run d) 715 166 [(0, (4, 602)), (7, (0, x7)), (8, (0, x8)), (9, (0, x9))] [(0, s0)] h
theorem cut_715_187 : fj_cut 715 187 = some [0, 7, 8, 9, 10] := by decide +kernel
noncomputable def c_715_187 (d : Nat) (x7 x8 x9 x10 s0 : Int) (h : fi_H) : fk_R := gG (fj_run d) 715 187 [(0, (4, 602)), (7, (0, x7)), (8, (0, x8)), (9, (0, x9)), (10, (0, x10))] [(0, s0)] h
theorem cut_715_208 : fj_cut 715 208 = some [0, 7, 8, 9, 10, 11] := by decide +kernel
noncomputable def c_715_208 (d : Nat) (x7 x8 x9 x10 x11 s0 : Int) (h : fi_H) : fk_R := gG (fj_run d) 715 208 [(0, (4, 602)), (7, (0, x7)), (8, (0, x8)), (9, (0, x9)), (10, (0, x10)), (11, (0, x11))] [(0, s0)] h
theorem cut_715_276 : fj_cut 715 276 = some [0, 7, 8, 11, 12] := by decide +kernel
noncomputable def c_715_276 (d : Nat) (x7 x8 x11 x12 s0 : Int) (h : fi_H) : fk_R := gG (fj_run d) 715 276 [(0, (4, 602)), (7, (0, x7)), (8, (0, x8)), (11, (0, x11)), (12, (0, x12))] [(0, s0)] h
theorem cut_715_305 : fj_cut 715 305 = some [0, 7, 8, 11, 12] := by decide +kernel
noncomputable def c_715_305 (d : Nat) (x7 x8 x11 x12 s0 s1 s2 : Int) (h : fi_H) : fk_R := gG (fj_run d) 715 305 [(0, (4, 602)), (7, (0, x7)), (8, (0, x8)), (11, (0, x11)), (12, (0, x12))] [(0, s2), (0, s1), (4, s0)] h
theorem cut_715_316 : fj_cut 715 316 = some [0, 7, 8, 11, 12] := by decide +kernel
noncomputable def c_715_316 (d : Nat) (x7 x8 x11 x12 : Int) (h : fi_H) : fk_R := gG (fj_run d) 715 316 [(0, (4, 602)), (7, (0, x7)), (8, (0, x8)), (11, (0, x11)), (12, (0, x12))] [] h
theorem cut_715_326 : fj_cut 715 326 = some [0, 7, 8, 11, 12] := by decide +kernel
noncomputable def c_715_326 (d : Nat) (x7 x8 x11 x12 : Int) (h : fi_H) : fk_R := gG (fj_run d) 715 326 [(0, (4, 602)), (7, (0, x7)), (8, (0, x8)), (11, (0, x11)), (12, (0, x12))] [] h
theorem cut_715_336 : fj_cut 715 336 = some [0, 7, 8] := by decide +kernel
noncomputable def c_715_336 (d : Nat) (x7 x8 : Int) (h : fi_H) : fk_R := gG (fj_run d) 715 336 [(0, (4, 602)), (7, (0, x7)), (8, (0, x8))] [] h
theorem e_715_86 (d : Nat) (x7 x8 : Int) {h : fi_H} (H : Shp h) : c_715_86 d x7 x8 h =
  if x7 < h 10 647 12 then
    c_715_110 d x7 x8 h
  else
    if x8 < h 10 647 13 then
      c_715_110 d x7 x8 h
    else
      some (.inl (some (0, h 571 602 0)), h) := by
  unfold c_715_86
  exact
    have D : fk_D 715 [(86, some [0, 7, 8], .iload 7, 2, 0, 0, 0), (88, none, .aload_n 0, 1, 0, 0, 0), (89, none, .getfield 156, 3, 455, 129, 12), (92, none, .bipush 12, 2, 0, 12, 0), (94, none, .iaload, 1, 0, 0, 0), (95, none, .if_icmp .lt 15, 3, 110, 0, 0), (98, none, .iload 8, 2, 0, 0, 0), (100, none, .aload_n 0, 1, 0, 0, 0), (101, none, .getfield 156, 3, 455, 129, 12), (104, none, .bipush 13, 2, 0, 13, 0), (106, none, .iaload, 1, 0, 0, 0), (107, none, .if_icmp .ge 232, 3, 339, 0, 0)] := fq_of2 cd_715 ow_715 cl_715 rfl (pc := 86) (by decide +kernel)
    j_ild (pc := 86) D rfl rfl rfl fun D =>
    j_aldn (pc := 88) D rfl rfl rfl fun D =>
    j_gfc (pc := 89) (a := 602) D rfl rfl (by decide) rfl (s0_602 H) rfl (sf_455_602 H) fun D =>
    j_bp (pc := 92) D rfl fun D =>
    j_al (pc := 94) (a := 647) (e := 10) D rfl rfl rfl (by decide) (s0_647 H) (s1_647 H) ⟨rfl, rfl, rfl⟩ rfl (gy (by decide)) fun q D =>
    j_ilt (pc := 95) D rfl (fun q =>
      fk_jump cut_715_110 rfl rfl) (fun q D =>
      j_ild (pc := 98) D rfl rfl rfl fun D =>
      j_aldn (pc := 100) D rfl rfl rfl fun D =>
      j_gfc (pc := 101) (a := 602) D rfl rfl (by decide) rfl (s0_602 H) rfl (sf_455_602 H) fun D =>
      j_bp (pc := 104) D rfl fun D =>
      j_al (pc := 106) (a := 647) (e := 10) D rfl rfl rfl (by decide) (s0_647 H) (s1_647 H) ⟨rfl, rfl, rfl⟩ rfl (gy (by decide)) fun q D =>
      j_ige (pc := 107) D rfl (fun q D =>
        fk_jump cut_715_110 rfl rfl) (fun q =>
        have D : fk_D 715 [(339, none, .aload_n 0, 1, 0, 0, 0), (340, none, .getfield 1333, 3, 571, 129, 10), (343, none, .ireturn, 1, 0, 0, 0)] := fq_of2 cd_715 ow_715 cl_715 rfl (pc := 339) (by decide +kernel)
        j_aldn (pc := 339) D rfl rfl rfl fun D =>
        j_gf (pc := 340) (a := 602) D rfl rfl (by decide) rfl (s0_602 H) rfl fun D =>
        j_iret D rt_715))
theorem e_715_110 (d : Nat) (x7 x8 : Int) {h : fi_H} (H : Shp h) : c_715_110 d x7 x8 h =
  if x7 < h 10 647 12 then
    if 0 ≤ wI (2400 + x7) ∧ wI (2400 + x7) < 3200 then
    c_715_137 d x7 x8 (h 10 646 (wI (2400 + x7)).toNat) h
    else none
  else
    c_715_137 d x7 x8 (-1) h := by
  unfold c_715_110
  exact
    have D : fk_D 715 [(110, some [0, 7, 8], .iload 7, 2, 0, 0, 0), (112, none, .aload_n 0, 1, 0, 0, 0), (113, none, .getfield 156, 3, 455, 129, 12), (116, none, .bipush 12, 2, 0, 12, 0), (118, none, .iaload, 1, 0, 0, 0), (119, none, .if_icmp .ge 17, 3, 136, 0, 0), (122, none, .aload_n 0, 1, 0, 0, 0), (123, none, .getfield 153, 3, 454, 129, 12), (126, none, .sipush 2400, 3, 0, 2400, 0), (129, none, .iload 7, 2, 0, 0, 0), (131, none, .iadd, 1, 0, 0, 0), (132, none, .iaload, 1, 0, 0, 0), (133, none, .goto 4, 3, 137, 0, 0)] := fq_of2 cd_715 ow_715 cl_715 rfl (pc := 110) (by decide +kernel)
    j_ild (pc := 110) D rfl rfl rfl fun D =>
    j_aldn (pc := 112) D rfl rfl rfl fun D =>
    j_gfc (pc := 113) (a := 602) D rfl rfl (by decide) rfl (s0_602 H) rfl (sf_455_602 H) fun D =>
    j_bp (pc := 116) D rfl fun D =>
    j_al (pc := 118) (a := 647) (e := 10) D rfl rfl rfl (by decide) (s0_647 H) (s1_647 H) ⟨rfl, rfl, rfl⟩ rfl (gy (by decide)) fun q D =>
    j_ige (pc := 119) D rfl (fun q D =>
      j_aldn (pc := 122) D rfl rfl rfl fun D =>
      j_gfc (pc := 123) (a := 602) D rfl rfl (by decide) rfl (s0_602 H) rfl (sf_454_602 H) fun D =>
      j_sp (pc := 126) D rfl fun D =>
      j_ild (pc := 129) D rfl rfl rfl fun D =>
      j_iadd (pc := 131) D rfl fun D =>
      j_al (pc := 132) (a := 646) (e := 10) D rfl rfl rfl (by decide) (s0_646 H) (s1_646 H) ⟨rfl, rfl, rfl⟩ rfl gn fun qb1 D =>
      j_goto (pc := 133) D rfl <|
      fk_jump cut_715_137 rfl rfl) (fun q =>
      have D : fk_D 715 [(136, none, .iconst (-1), 1, 0, (-1), 0)] := fq_of2 cd_715 ow_715 cl_715 rfl (pc := 136) (by decide +kernel)
      j_ic (pc := 136) D rfl fun D =>
      fk_jump cut_715_137 rfl rfl)
theorem e_715_137 (d : Nat) (x7 x8 s0 : Int) {h : fi_H} (H : Shp h) : c_715_137 d x7 x8 s0 h =
  if x8 < h 10 647 13 then
    if 0 ≤ wI (2600 + x8) ∧ wI (2600 + x8) < 3200 then
    c_715_166 d x7 x8 s0 (h 10 646 (wI (2600 + x8)).toNat) h
    else none
  else
    c_715_166 d x7 x8 s0 (-1) h := by
  unfold c_715_137
  exact
    have D : fk_D 715 [(137, some [0, 7, 8], .istore 9, 2, 0, 0, 0), (139, none, .iload 8, 2, 0, 0, 0), (141, none, .aload_n 0, 1, 0, 0, 0), (142, none, .getfield 156, 3, 455, 129, 12), (145, none, .bipush 13, 2, 0, 13, 0), (147, none, .iaload, 1, 0, 0, 0), (148, none, .if_icmp .ge 17, 3, 165, 0, 0), (151, none, .aload_n 0, 1, 0, 0, 0), (152, none, .getfield 153, 3, 454, 129, 12), (155, none, .sipush 2600, 3, 0, 2600, 0), (158, none, .iload 8, 2, 0, 0, 0), (160, none, .iadd, 1, 0, 0, 0), (161, none, .iaload, 1, 0, 0, 0), (162, none, .goto 4, 3, 166, 0, 0)] := fq_of2 cd_715 ow_715 cl_715 rfl (pc := 137) (by decide +kernel)
    j_ist (pc := 137) (L' := [(9, (0, s0)), (0, (4, 602)), (7, (0, x7)), (8, (0, x8))]) D rfl nl_715 rfl rfl fun D =>
    j_ild (pc := 139) D rfl rfl rfl fun D =>
    j_aldn (pc := 141) D rfl rfl rfl fun D =>
    j_gfc (pc := 142) (a := 602) D rfl rfl (by decide) rfl (s0_602 H) rfl (sf_455_602 H) fun D =>
    j_bp (pc := 145) D rfl fun D =>
    j_al (pc := 147) (a := 647) (e := 10) D rfl rfl rfl (by decide) (s0_647 H) (s1_647 H) ⟨rfl, rfl, rfl⟩ rfl (gy (by decide)) fun q D =>
    j_ige (pc := 148) D rfl (fun q D =>
      j_aldn (pc := 151) D rfl rfl rfl fun D =>
      j_gfc (pc := 152) (a := 602) D rfl rfl (by decide) rfl (s0_602 H) rfl (sf_454_602 H) fun D =>
      j_sp (pc := 155) D rfl fun D =>
      j_ild (pc := 158) D rfl rfl rfl fun D =>
      j_iadd (pc := 160) D rfl fun D =>
      j_al (pc := 161) (a := 646) (e := 10) D rfl rfl rfl (by decide) (s0_646 H) (s1_646 H) ⟨rfl, rfl, rfl⟩ rfl gn fun qb1 D =>
      j_goto (pc := 162) D rfl <|
      fk_jump cut_715_166 rfl rfl) (fun q =>
      have D : fk_D 715 [(165, none, .iconst (-1), 1, 0, (-1), 0)] := fq_of2 cd_715 ow_715 cl_715 rfl (pc := 165) (by decide +kernel)
      j_ic (pc := 165) D rfl fun D =>
      fk_jump cut_715_166 rfl rfl)
theorem e_715_166 (d : Nat) (x7 x8 x9 s0 : Int) {h : fi_H} (H : Shp h) : c_715_166 d x7 x8 x9 s0 h =
  if x9 = (-1) then
    c_715_187 d x7 x8 x9 s0 2147483647 h
  else
    if 0 ≤ x9 ∧ x9 < 240 then
    c_715_187 d x7 x8 x9 s0 (h 10 635 x9.toNat) h
    else none := by
  unfold c_715_166
  exact
    have D : fk_D 715 [(166, some [0, 7, 8, 9], .istore 10, 2, 0, 0, 0), (168, none, .iload 9, 2, 0, 0, 0), (170, none, .iconst (-1), 1, 0, (-1), 0), (171, none, .if_icmp .ne 9, 3, 180, 0, 0), (174, none, .ldc_w 1101, 3, 0, 2147483647, 0), (177, none, .goto 10, 3, 187, 0, 0)] := fq_of2 cd_715 ow_715 cl_715 rfl (pc := 166) (by decide +kernel)
    j_ist (pc := 166) (L' := [(10, (0, s0)), (0, (4, 602)), (7, (0, x7)), (8, (0, x8)), (9, (0, x9))]) D rfl nl_715 rfl rfl fun D =>
    j_ild (pc := 168) D rfl rfl rfl fun D =>
    j_ic (pc := 170) D rfl fun D =>
    j_ine (pc := 171) D rfl (fun q D =>
      j_ldcw (pc := 174) D rfl fun D =>
      j_goto (pc := 177) D rfl <|
      fk_jump cut_715_187 rfl rfl) (fun q =>
      have D : fk_D 715 [(180, none, .aload_n 0, 1, 0, 0, 0), (181, none, .getfield 116, 3, 440, 129, 12), (184, none, .iload 9, 2, 0, 0, 0), (186, none, .iaload, 1, 0, 0, 0)] := fq_of2 cd_715 ow_715 cl_715 rfl (pc := 180) (by decide +kernel)
      j_aldn (pc := 180) D rfl rfl rfl fun D =>
      j_gfc (pc := 181) (a := 602) D rfl rfl (by decide) rfl (s0_602 H) rfl (sf_440_602 H) fun D =>
      j_ild (pc := 184) D rfl rfl rfl fun D =>
      j_al (pc := 186) (a := 635) (e := 10) D rfl rfl rfl (by decide) (s0_635 H) (s1_635 H) ⟨rfl, rfl, rfl⟩ rfl gn fun qb1 D =>
      fk_jump cut_715_187 rfl rfl)
theorem e_715_187 (d : Nat) (x7 x8 x9 x10 s0 : Int) {h : fi_H} (H : Shp h) : c_715_187 d x7 x8 x9 x10 s0 h =
  if x10 = (-1) then
    c_715_208 d x7 x8 x9 x10 s0 2147483647 h
  else
    if 0 ≤ x10 ∧ x10 < 240 then
    c_715_208 d x7 x8 x9 x10 s0 (h 10 635 x10.toNat) h
    else none := by
  unfold c_715_187
  exact
    have D : fk_D 715 [(187, some [0, 7, 8, 9, 10], .istore 11, 2, 0, 0, 0), (189, none, .iload 10, 2, 0, 0, 0), (191, none, .iconst (-1), 1, 0, (-1), 0), (192, none, .if_icmp .ne 9, 3, 201, 0, 0), (195, none, .ldc_w 1101, 3, 0, 2147483647, 0), (198, none, .goto 10, 3, 208, 0, 0)] := fq_of2 cd_715 ow_715 cl_715 rfl (pc := 187) (by decide +kernel)
    j_ist (pc := 187) (L' := [(11, (0, s0)), (0, (4, 602)), (7, (0, x7)), (8, (0, x8)), (9, (0, x9)), (10, (0, x10))]) D rfl nl_715 rfl rfl fun D =>
    j_ild (pc := 189) D rfl rfl rfl fun D =>
    j_ic (pc := 191) D rfl fun D =>
    j_ine (pc := 192) D rfl (fun q D =>
      j_ldcw (pc := 195) D rfl fun D =>
      j_goto (pc := 198) D rfl <|
      fk_jump cut_715_208 rfl rfl) (fun q =>
      have D : fk_D 715 [(201, none, .aload_n 0, 1, 0, 0, 0), (202, none, .getfield 116, 3, 440, 129, 12), (205, none, .iload 10, 2, 0, 0, 0), (207, none, .iaload, 1, 0, 0, 0)] := fq_of2 cd_715 ow_715 cl_715 rfl (pc := 201) (by decide +kernel)
      j_aldn (pc := 201) D rfl rfl rfl fun D =>
      j_gfc (pc := 202) (a := 602) D rfl rfl (by decide) rfl (s0_602 H) rfl (sf_440_602 H) fun D =>
      j_ild (pc := 205) D rfl rfl rfl fun D =>
      j_al (pc := 207) (a := 635) (e := 10) D rfl rfl rfl (by decide) (s0_635 H) (s1_635 H) ⟨rfl, rfl, rfl⟩ rfl gn fun qb1 D =>
      fk_jump cut_715_208 rfl rfl)
theorem e_715_208 (d : Nat) (x7 x8 x9 x10 x11 s0 : Int) {h : fi_H} (H : Shp h) : c_715_208 d x7 x8 x9 x10 x11 s0 h =
  if x11 = s0 then
    ca_ (fj_run d 716 h [(4, 602), (0, x9), (0, x10)]) 0
      (fun v2 h1 =>
      if v2 = 0 then
        c_715_276 d x7 x8 x11 s0 1 h1
      else
        c_715_276 d x7 x8 x11 s0 0 h1)
      (fun q3 h1 => tx_ q3 h1)
  else
    if x11 < s0 then
      if 0 ≤ x9 ∧ x9 < 240 then
      if 0 < h 10 638 x9.toNat then
        c_715_276 d x7 x8 x11 s0 1 h
      else
        c_715_276 d x7 x8 x11 s0 0 h
      else none
    else
      if 0 ≤ x10 ∧ x10 < 240 then
      if 0 < h 10 638 x10.toNat then
        c_715_276 d x7 x8 x11 s0 1 h
      else
        c_715_276 d x7 x8 x11 s0 0 h
      else none := by
  unfold c_715_208
  exact
    have D : fk_D 715 [(208, some [0, 7, 8, 9, 10, 11], .istore 12, 2, 0, 0, 0), (210, none, .iload 11, 2, 0, 0, 0), (212, none, .iload 12, 2, 0, 0, 0), (214, none, .if_icmp .ne 22, 3, 236, 0, 0), (217, none, .aload_n 0, 1, 0, 0, 0), (218, none, .iload 9, 2, 0, 0, 0), (220, none, .iload 10, 2, 0, 0, 0), (222, none, .invokevirtual 1336, 3, 2, 493, 1), (225, none, .ifCond .ne 7, 3, 232, 0, 0), (228, none, .iconst 1, 1, 0, 1, 0), (229, none, .goto 47, 3, 276, 0, 0)] := fq_of2 cd_715 ow_715 cl_715 rfl (pc := 208) (by decide +kernel)
    j_ist (pc := 208) (L' := [(12, (0, s0)), (0, (4, 602)), (7, (0, x7)), (8, (0, x8)), (9, (0, x9)), (10, (0, x10)), (11, (0, x11))]) D rfl nl_715 rfl rfl fun D =>
    j_ild (pc := 210) D rfl rfl rfl fun D =>
    j_ild (pc := 212) D rfl rfl rfl fun D =>
    j_ine (pc := 214) D rfl (fun q D =>
      j_aldn (pc := 217) D rfl rfl rfl fun D =>
      j_ild (pc := 218) D rfl rfl rfl fun D =>
      j_ild (pc := 220) D rfl rfl rfl fun D =>
      j_iv (pc := 222) (m := 716) (dd := 493) (a := [(0, x9), (0, x10)]) (rest := []) D rfl rfl rfl rfl rfl (by decide) (s0_602 H) (by decide +kernel) (fun v2 h1 e1 D =>
        have T := fj_run_ok _ _ _ _ _ _ H.1 e1
        have H := shp_st H T
        j_ifne (pc := 225) D rfl (fun q D =>
          j_ic (pc := 228) D rfl fun D =>
          j_goto (pc := 229) D rfl <|
          fk_jump cut_715_276 rfl rfl) (fun q =>
          have D : fk_D 715 [(232, none, .iconst 0, 1, 0, 0, 0), (233, none, .goto 43, 3, 276, 0, 0)] := fq_of2 cd_715 ow_715 cl_715 rfl (pc := 232) (by decide +kernel)
          j_ic (pc := 232) D rfl fun D =>
          j_goto (pc := 233) D rfl <|
          fk_jump cut_715_276 rfl rfl)) (fun q3 h1 e1 =>
        j_tx (hx_715 _))) (fun q =>
      have D : fk_D 715 [(236, none, .iload 11, 2, 0, 0, 0), (238, none, .iload 12, 2, 0, 0, 0), (240, none, .if_icmp .ge 21, 3, 261, 0, 0), (243, none, .aload_n 0, 1, 0, 0, 0), (244, none, .getfield 125, 3, 443, 129, 12), (247, none, .iload 9, 2, 0, 0, 0), (249, none, .iaload, 1, 0, 0, 0), (250, none, .ifCond .le 7, 3, 257, 0, 0), (253, none, .iconst 1, 1, 0, 1, 0), (254, none, .goto 22, 3, 276, 0, 0)] := fq_of2 cd_715 ow_715 cl_715 rfl (pc := 236) (by decide +kernel)
      j_ild (pc := 236) D rfl rfl rfl fun D =>
      j_ild (pc := 238) D rfl rfl rfl fun D =>
      j_ige (pc := 240) D rfl (fun q D =>
        j_aldn (pc := 243) D rfl rfl rfl fun D =>
        j_gfc (pc := 244) (a := 602) D rfl rfl (by decide) rfl (s0_602 H) rfl (sf_443_602 H) fun D =>
        j_ild (pc := 247) D rfl rfl rfl fun D =>
        j_al (pc := 249) (a := 638) (e := 10) D rfl rfl rfl (by decide) (s0_638 H) (s1_638 H) ⟨rfl, rfl, rfl⟩ rfl gn fun qb4 D =>
        j_ifle (pc := 250) D rfl (fun q D =>
          j_ic (pc := 253) D rfl fun D =>
          j_goto (pc := 254) D rfl <|
          fk_jump cut_715_276 rfl rfl) (fun q =>
          have D : fk_D 715 [(257, none, .iconst 0, 1, 0, 0, 0), (258, none, .goto 18, 3, 276, 0, 0)] := fq_of2 cd_715 ow_715 cl_715 rfl (pc := 257) (by decide +kernel)
          j_ic (pc := 257) D rfl fun D =>
          j_goto (pc := 258) D rfl <|
          fk_jump cut_715_276 rfl rfl)) (fun q =>
        have D : fk_D 715 [(261, none, .aload_n 0, 1, 0, 0, 0), (262, none, .getfield 125, 3, 443, 129, 12), (265, none, .iload 10, 2, 0, 0, 0), (267, none, .iaload, 1, 0, 0, 0), (268, none, .ifCond .le 7, 3, 275, 0, 0), (271, none, .iconst 1, 1, 0, 1, 0), (272, none, .goto 4, 3, 276, 0, 0)] := fq_of2 cd_715 ow_715 cl_715 rfl (pc := 261) (by decide +kernel)
        j_aldn (pc := 261) D rfl rfl rfl fun D =>
        j_gfc (pc := 262) (a := 602) D rfl rfl (by decide) rfl (s0_602 H) rfl (sf_443_602 H) fun D =>
        j_ild (pc := 265) D rfl rfl rfl fun D =>
        j_al (pc := 267) (a := 638) (e := 10) D rfl rfl rfl (by decide) (s0_638 H) (s1_638 H) ⟨rfl, rfl, rfl⟩ rfl gn fun qb5 D =>
        j_ifle (pc := 268) D rfl (fun q D =>
          j_ic (pc := 271) D rfl fun D =>
          j_goto (pc := 272) D rfl <|
          fk_jump cut_715_276 rfl rfl) (fun q =>
          have D : fk_D 715 [(275, none, .iconst 0, 1, 0, 0, 0)] := fq_of2 cd_715 ow_715 cl_715 rfl (pc := 275) (by decide +kernel)
          j_ic (pc := 275) D rfl fun D =>
          fk_jump cut_715_276 rfl rfl)))
theorem e_715_276 (d : Nat) (x7 x8 x11 x12 s0 : Int) {h : fi_H} (H : Shp h) : c_715_276 d x7 x8 x11 x12 s0 h =
  if s0 = 0 then
    c_715_316 d x7 x8 x11 x12 h
  else
    if x11 < x12 then
      c_715_305 d x7 x8 x11 x12 714 (h 571 602 0) x11 h
    else
      c_715_305 d x7 x8 x11 x12 714 (h 571 602 0) x12 h := by
  unfold c_715_276
  exact
    have D : fk_D 715 [(276, some [0, 7, 8, 11, 12], .istore 13, 2, 0, 0, 0), (278, none, .iload 13, 2, 0, 0, 0), (280, none, .ifCond .eq 36, 3, 316, 0, 0), (283, none, .aload_n 0, 1, 0, 0, 0), (284, none, .getfield 408, 3, 570, 129, 12), (287, none, .aload_n 0, 1, 0, 0, 0), (288, none, .getfield 1333, 3, 571, 129, 10), (291, none, .iload 11, 2, 0, 0, 0), (293, none, .iload 12, 2, 0, 0, 0), (295, none, .if_icmp .ge 8, 3, 303, 0, 0), (298, none, .iload 11, 2, 0, 0, 0), (300, none, .goto 5, 3, 305, 0, 0)] := fq_of2 cd_715 ow_715 cl_715 rfl (pc := 276) (by decide +kernel)
    j_ist (pc := 276) (L' := [(13, (0, s0)), (0, (4, 602)), (7, (0, x7)), (8, (0, x8)), (11, (0, x11)), (12, (0, x12))]) D rfl nl_715 rfl rfl fun D =>
    j_ild (pc := 278) D rfl rfl rfl fun D =>
    j_ifeq (pc := 280) D rfl (fun q =>
      fk_jump cut_715_316 rfl rfl) (fun q D =>
      j_aldn (pc := 283) D rfl rfl rfl fun D =>
      j_gfc (pc := 284) (a := 602) D rfl rfl (by decide) rfl (s0_602 H) rfl (sf_570_602 H) fun D =>
      j_aldn (pc := 287) D rfl rfl rfl fun D =>
      j_gf (pc := 288) (a := 602) D rfl rfl (by decide) rfl (s0_602 H) rfl fun D =>
      j_ild (pc := 291) D rfl rfl rfl fun D =>
      j_ild (pc := 293) D rfl rfl rfl fun D =>
      j_ige (pc := 295) D rfl (fun q D =>
        j_ild (pc := 298) D rfl rfl rfl fun D =>
        j_goto (pc := 300) D rfl <|
        fk_jump cut_715_305 rfl rfl) (fun q =>
        have D : fk_D 715 [(303, none, .iload 12, 2, 0, 0, 0)] := fq_of2 cd_715 ow_715 cl_715 rfl (pc := 303) (by decide +kernel)
        j_ild (pc := 303) D rfl rfl rfl fun D =>
        fk_jump cut_715_305 rfl rfl))
theorem e_715_305 (d : Nat) (x7 x8 x11 x12 s0 s1 s2 : Int) {h : fi_H} (H : Shp h) : c_715_305 d x7 x8 x11 x12 s0 s1 s2 h =
  if 302 < s0 ∧ h 0 s0.toNat 0 = 10 then
  if 0 ≤ s1 ∧ s1 < h 1 s0.toNat 0 then
  lt_ (fi_upd h 10 s0.toNat s1.toNat s2) fun h1 =>
  lt_ (fi_upd h1 571 602 0 (wI ((h1 571 602 0) + 1))) fun h2 =>
  c_715_316 d x7 x8 x11 x12 h2
  else none
  else none := by
  unfold c_715_305
  exact
    have D : fk_D 715 [(305, some [0, 7, 8, 11, 12], .iastore, 1, 0, 0, 0), (306, none, .aload_n 0, 1, 0, 0, 0), (307, none, .dup, 1, 0, 0, 0), (308, none, .getfield 1333, 3, 571, 129, 10), (311, none, .iconst 1, 1, 0, 1, 0), (312, none, .iadd, 1, 0, 0, 0), (313, none, .putfield 1333, 3, 571, 129, 10)] := fq_of2 cd_715 ow_715 cl_715 rfl (pc := 305) (by decide +kernel)
    j_asu (pc := 305) (e := 10) D rfl rfl ⟨rfl, rfl, rfl⟩ rfl gn gn (gy rfl) fun h1 eh1 S q q2 D =>
    have T := fj_hs_ok H.1 S
    have H := shp_st H T
    j_aldn (pc := 306) D rfl rfl rfl fun D =>
    j_sh (pc := 307) D rfl rfl rfl fun D =>
    j_gf (pc := 308) (a := 602) D rfl rfl (by decide) rfl (s0_602 H) rfl fun D =>
    j_ic (pc := 311) D rfl fun D =>
    j_iadd (pc := 312) D rfl fun D =>
    j_pf (pc := 313) (a := 602) D rfl rfl rfl (s0_602 H) rfl rfl (gy (by decide)) (gy rfl) fun h2 eh2 S D =>
    have T := fj_hs_ok H.1 S
    have H := shp_st H T
    fk_jump cut_715_316 rfl rfl
theorem e_715_316 (d : Nat) (x7 x8 x11 x12 : Int) {h : fi_H} (H : Shp h) : c_715_316 d x7 x8 x11 x12 h =
  if x12 < x11 then
    c_715_326 d x7 x8 x11 x12 h
  else
    c_715_326 d (wI (x7 + 1)) x8 x11 x12 h := by
  unfold c_715_316
  exact
    have D : fk_D 715 [(316, some [0, 7, 8, 11, 12], .iload 11, 2, 0, 0, 0), (318, none, .iload 12, 2, 0, 0, 0), (320, none, .if_icmp .gt 6, 3, 326, 0, 0), (323, none, .iinc 7 1, 3, 0, 1, 0)] := fq_of2 cd_715 ow_715 cl_715 rfl (pc := 316) (by decide +kernel)
    j_ild (pc := 316) D rfl rfl rfl fun D =>
    j_ild (pc := 318) D rfl rfl rfl fun D =>
    j_igt (pc := 320) D rfl (fun q =>
      fk_jump cut_715_326 rfl rfl) (fun q D =>
      j_inc (pc := 323) (L' := [(7, (0, wI (x7 + 1))), (0, (4, 602)), (8, (0, x8)), (11, (0, x11)), (12, (0, x12))]) D rfl rfl rfl (by decide +kernel) rfl fun D =>
      fk_jump cut_715_326 rfl rfl)
theorem e_715_326 (d : Nat) (x7 x8 x11 x12 : Int) {h : fi_H} (H : Shp h) : c_715_326 d x7 x8 x11 x12 h =
  if x11 < x12 then
    c_715_336 d x7 x8 h
  else
    c_715_336 d x7 (wI (x8 + 1)) h := by
  unfold c_715_326
  exact
    have D : fk_D 715 [(326, some [0, 7, 8, 11, 12], .iload 12, 2, 0, 0, 0), (328, none, .iload 11, 2, 0, 0, 0), (330, none, .if_icmp .gt 6, 3, 336, 0, 0), (333, none, .iinc 8 1, 3, 0, 1, 0)] := fq_of2 cd_715 ow_715 cl_715 rfl (pc := 326) (by decide +kernel)
    j_ild (pc := 326) D rfl rfl rfl fun D =>
    j_ild (pc := 328) D rfl rfl rfl fun D =>
    j_igt (pc := 330) D rfl (fun q =>
      fk_jump cut_715_336 rfl rfl) (fun q D =>
      j_inc (pc := 333) (L' := [(8, (0, wI (x8 + 1))), (0, (4, 602)), (7, (0, x7)), (11, (0, x11)), (12, (0, x12))]) D rfl rfl rfl (by decide +kernel) rfl fun D =>
      fk_jump cut_715_336 rfl rfl)
theorem e_715_336 (d : Nat) (x7 x8 : Int) {h : fi_H} (H : Shp h) : c_715_336 d x7 x8 h =
  c_715_86 d x7 x8 h := by
  unfold c_715_336
  exact
    have D : fk_D 715 [(336, some [0, 7, 8], .goto (-250), 3, 86, 0, 0)] := fq_of2 cd_715 ow_715 cl_715 rfl (pc := 336) (by decide +kernel)
    j_goto (pc := 336) D rfl <|
    fk_jump cut_715_86 rfl rfl
theorem m_715 (d : Nat) (x1 x2 x3 x4 x5 x6 : Int) {h : fi_H} (H : Shp h) : fj_run (d + 1) 715 h [(4, 602), (0, x1), (0, x2), (0, x3), (0, x4), (0, x5), (0, x6)] =
  ca_ (fj_run d 525 h [(4, 602), (0, x1)]) 0
    (fun v2 h1 =>
    if v2 = 0 then
      some (.inl (some (0, (-2))), h1)
    else
      ca_ (fj_run d 520 h1 [(1, wI x2)]) 0
        (fun v5 h4 =>
        if v5 = 0 then
          some (.inl (some (0, (-2))), h4)
        else
          ca_ (fj_run d 520 h4 [(1, wI x3)]) 0
            (fun v8 h7 =>
            if v8 = 0 then
              some (.inl (some (0, (-2))), h7)
            else
              ca_ (fj_run d 525 h7 [(4, 602), (0, x4)]) 0
                (fun v11 h10 =>
                if v11 = 0 then
                  some (.inl (some (0, (-2))), h10)
                else
                  ca_ (fj_run d 520 h10 [(1, wI x5)]) 0
                    (fun v14 h13 =>
                    if v14 = 0 then
                      some (.inl (some (0, (-2))), h13)
                    else
                      ca_ (fj_run d 520 h13 [(1, wI x6)]) 0
                        (fun v17 h16 =>
                        if v17 = 0 then
                          some (.inl (some (0, (-2))), h16)
                        else
                          cv_ (fj_run d 607 h16 [(4, 602), (0, 12), (0, x1), (0, x2), (0, x3)])
                            (fun h19 =>
                            cv_ (fj_run d 607 h19 [(4, 602), (0, 13), (0, x4), (0, x5), (0, x6)])
                              (fun h22 =>
                              lt_ (fi_upd h22 571 602 0 0) fun h25 =>
                              c_715_86 d 0 0 h25)
                              (fun q24 h22 => tx_ q24 h22))
                            (fun q21 h19 => tx_ q21 h19))
                        (fun q18 h16 => tx_ q18 h16))
                    (fun q15 h13 => tx_ q15 h13))
                (fun q12 h10 => tx_ q12 h10))
            (fun q9 h7 => tx_ q9 h7))
        (fun q6 h4 => tx_ q6 h4))
    (fun q3 h1 => tx_ q3 h1) := by
  rw [fj_run_eq d (by decide) h [(4, 602), (0, x1), (0, x2), (0, x3), (0, x4), (0, x5), (0, x6)] (Nat.le_of_ble_eq_true (by rw [nl_715]; rfl))]
  show gG (fj_run d) 715 0 [(0, (4, 602)), (1, (0, x1)), (2, (0, x2)), (3, (0, x3)), (4, (0, x4)), (5, (0, x5)), (6, (0, x6))] [] h = _
  exact
    have D : fk_D 715 [(0, none, .aload_n 0, 1, 0, 0, 0), (1, none, .iload_n 1, 1, 0, 0, 0), (2, none, .invokevirtual 823, 3, 1, 399, 1), (5, none, .ifCond .eq 46, 3, 51, 0, 0), (8, none, .iload_n 2, 1, 0, 0, 0), (9, none, .i2l, 1, 0, 0, 0), (10, none, .invokestatic 456, 3, 1, 520, 1), (13, none, .ifCond .eq 38, 3, 51, 0, 0), (16, none, .iload_n 3, 1, 0, 0, 0), (17, none, .i2l, 1, 0, 0, 0), (18, none, .invokestatic 456, 3, 1, 520, 1), (21, none, .ifCond .eq 30, 3, 51, 0, 0), (24, none, .aload_n 0, 1, 0, 0, 0), (25, none, .iload 4, 2, 0, 0, 0), (27, none, .invokevirtual 823, 3, 1, 399, 1), (30, none, .ifCond .eq 21, 3, 51, 0, 0), (33, none, .iload 5, 2, 0, 0, 0), (35, none, .i2l, 1, 0, 0, 0), (36, none, .invokestatic 456, 3, 1, 520, 1), (39, none, .ifCond .eq 12, 3, 51, 0, 0)] := fq_of2 cd_715 ow_715 cl_715 rfl (pc := 0) (by decide +kernel)
    j_aldn (pc := 0) D rfl rfl rfl fun D =>
    j_ildn (pc := 1) D rfl rfl rfl fun D =>
    j_iv (pc := 2) (m := 525) (dd := 399) (a := [(0, x1)]) (rest := []) D rfl rfl rfl rfl rfl (by decide) (s0_602 H) (by decide +kernel) (fun v2 h1 e1 D =>
      have T := fj_run_ok _ _ _ _ _ _ H.1 e1
      have H := shp_st H T
      j_ifeq (pc := 5) D rfl (fun q =>
        have D : fk_D 715 [(51, none, .bipush (-2), 2, 0, (-2), 0), (53, none, .ireturn, 1, 0, 0, 0)] := fq_of2 cd_715 ow_715 cl_715 rfl (pc := 51) (by decide +kernel)
        j_bp (pc := 51) D rfl fun D =>
        j_iret D rt_715) (fun q D =>
        j_ildn (pc := 8) D rfl rfl rfl fun D =>
        j_i2l (pc := 9) D rfl fun D =>
        j_is (pc := 10) (m := 520) (a := [(1, wI x2)]) (rest := []) D rfl rfl rfl rfl (fun v5 h4 e1 D =>
          have T := fj_run_ok _ _ _ _ _ _ H.1 e1
          have H := shp_st H T
          j_ifeq (pc := 13) D rfl (fun q =>
            have D : fk_D 715 [(51, none, .bipush (-2), 2, 0, (-2), 0), (53, none, .ireturn, 1, 0, 0, 0)] := fq_of2 cd_715 ow_715 cl_715 rfl (pc := 51) (by decide +kernel)
            j_bp (pc := 51) D rfl fun D =>
            j_iret D rt_715) (fun q D =>
            j_ildn (pc := 16) D rfl rfl rfl fun D =>
            j_i2l (pc := 17) D rfl fun D =>
            j_is (pc := 18) (m := 520) (a := [(1, wI x3)]) (rest := []) D rfl rfl rfl rfl (fun v8 h7 e1 D =>
              have T := fj_run_ok _ _ _ _ _ _ H.1 e1
              have H := shp_st H T
              j_ifeq (pc := 21) D rfl (fun q =>
                have D : fk_D 715 [(51, none, .bipush (-2), 2, 0, (-2), 0), (53, none, .ireturn, 1, 0, 0, 0)] := fq_of2 cd_715 ow_715 cl_715 rfl (pc := 51) (by decide +kernel)
                j_bp (pc := 51) D rfl fun D =>
                j_iret D rt_715) (fun q D =>
                j_aldn (pc := 24) D rfl rfl rfl fun D =>
                j_ild (pc := 25) D rfl rfl rfl fun D =>
                j_iv (pc := 27) (m := 525) (dd := 399) (a := [(0, x4)]) (rest := []) D rfl rfl rfl rfl rfl (by decide) (s0_602 H) (by decide +kernel) (fun v11 h10 e1 D =>
                  have T := fj_run_ok _ _ _ _ _ _ H.1 e1
                  have H := shp_st H T
                  j_ifeq (pc := 30) D rfl (fun q =>
                    have D : fk_D 715 [(51, none, .bipush (-2), 2, 0, (-2), 0), (53, none, .ireturn, 1, 0, 0, 0)] := fq_of2 cd_715 ow_715 cl_715 rfl (pc := 51) (by decide +kernel)
                    j_bp (pc := 51) D rfl fun D =>
                    j_iret D rt_715) (fun q D =>
                    j_ild (pc := 33) D rfl rfl rfl fun D =>
                    j_i2l (pc := 35) D rfl fun D =>
                    j_is (pc := 36) (m := 520) (a := [(1, wI x5)]) (rest := []) D rfl rfl rfl rfl (fun v14 h13 e1 D =>
                      have T := fj_run_ok _ _ _ _ _ _ H.1 e1
                      have H := shp_st H T
                      j_ifeq (pc := 39) D rfl (fun q =>
                        have D : fk_D 715 [(51, none, .bipush (-2), 2, 0, (-2), 0), (53, none, .ireturn, 1, 0, 0, 0)] := fq_of2 cd_715 ow_715 cl_715 rfl (pc := 51) (by decide +kernel)
                        j_bp (pc := 51) D rfl fun D =>
                        j_iret D rt_715) (fun q D =>
                        have D : fk_D 715 [(42, none, .iload 6, 2, 0, 0, 0), (44, none, .i2l, 1, 0, 0, 0), (45, none, .invokestatic 456, 3, 1, 520, 1), (48, none, .ifCond .ne 6, 3, 54, 0, 0), (51, none, .bipush (-2), 2, 0, (-2), 0), (53, none, .ireturn, 1, 0, 0, 0)] := fq_of2 cd_715 ow_715 cl_715 rfl (pc := 42) (by decide +kernel)
                        j_ild (pc := 42) D rfl rfl rfl fun D =>
                        j_i2l (pc := 44) D rfl fun D =>
                        j_is (pc := 45) (m := 520) (a := [(1, wI x6)]) (rest := []) D rfl rfl rfl rfl (fun v17 h16 e1 D =>
                          have T := fj_run_ok _ _ _ _ _ _ H.1 e1
                          have H := shp_st H T
                          j_ifne (pc := 48) D rfl (fun q D =>
                            j_bp (pc := 51) D rfl fun D =>
                            j_iret D rt_715) (fun q =>
                            have D : fk_D 715 [(54, none, .aload_n 0, 1, 0, 0, 0), (55, none, .bipush 12, 2, 0, 12, 0), (57, none, .iload_n 1, 1, 0, 0, 0), (58, none, .iload_n 2, 1, 0, 0, 0), (59, none, .iload_n 3, 1, 0, 0, 0), (60, none, .invokevirtual 896, 3, 4, 407, 0), (63, none, .aload_n 0, 1, 0, 0, 0), (64, none, .bipush 13, 2, 0, 13, 0), (66, none, .iload 4, 2, 0, 0, 0), (68, none, .iload 5, 2, 0, 0, 0), (70, none, .iload 6, 2, 0, 0, 0), (72, none, .invokevirtual 896, 3, 4, 407, 0), (75, none, .aload_n 0, 1, 0, 0, 0), (76, none, .iconst 0, 1, 0, 0, 0), (77, none, .putfield 1333, 3, 571, 129, 10), (80, none, .iconst 0, 1, 0, 0, 0), (81, none, .istore 7, 2, 0, 0, 0), (83, none, .iconst 0, 1, 0, 0, 0), (84, none, .istore 8, 2, 0, 0, 0)] := fq_of2 cd_715 ow_715 cl_715 rfl (pc := 54) (by decide +kernel)
                            j_aldn (pc := 54) D rfl rfl rfl fun D =>
                            j_bp (pc := 55) D rfl fun D =>
                            j_ildn (pc := 57) D rfl rfl rfl fun D =>
                            j_ildn (pc := 58) D rfl rfl rfl fun D =>
                            j_ildn (pc := 59) D rfl rfl rfl fun D =>
                            j_ivv (pc := 60) (m := 607) (dd := 407) (a := [(0, 12), (0, x1), (0, x2), (0, x3)]) (rest := []) D rfl rfl rfl rfl rfl (by decide) (s0_602 H) (by decide +kernel) (fun h19 e1 D =>
                              have T := fj_run_ok _ _ _ _ _ _ H.1 e1
                              have H := shp_st H T
                              j_aldn (pc := 63) D rfl rfl rfl fun D =>
                              j_bp (pc := 64) D rfl fun D =>
                              j_ild (pc := 66) D rfl rfl rfl fun D =>
                              j_ild (pc := 68) D rfl rfl rfl fun D =>
                              j_ild (pc := 70) D rfl rfl rfl fun D =>
                              j_ivv (pc := 72) (m := 607) (dd := 407) (a := [(0, 13), (0, x4), (0, x5), (0, x6)]) (rest := []) D rfl rfl rfl rfl rfl (by decide) (s0_602 H) (by decide +kernel) (fun h22 e1 D =>
                                have T := fj_run_ok _ _ _ _ _ _ H.1 e1
                                have H := shp_st H T
                                j_aldn (pc := 75) D rfl rfl rfl fun D =>
                                j_ic (pc := 76) D rfl fun D =>
                                j_pf (pc := 77) (a := 602) D rfl rfl rfl (s0_602 H) rfl rfl (gy (by decide)) (gy rfl) fun h25 eh25 S D =>
                                have T := fj_hs_ok H.1 S
                                have H := shp_st H T
                                j_ic (pc := 80) D rfl fun D =>
                                j_ist (pc := 81) (L' := [(7, (0, 0)), (0, (4, 602)), (1, (0, x1)), (2, (0, x2)), (3, (0, x3)), (4, (0, x4)), (5, (0, x5)), (6, (0, x6))]) D rfl nl_715 rfl rfl fun D =>
                                j_ic (pc := 83) D rfl fun D =>
                                j_ist (pc := 84) (L' := [(8, (0, 0)), (7, (0, 0)), (0, (4, 602)), (1, (0, x1)), (2, (0, x2)), (3, (0, x3)), (4, (0, x4)), (5, (0, x5)), (6, (0, x6))]) D rfl nl_715 rfl rfl fun D =>
                                fk_jump cut_715_86 rfl rfl) (fun q24 h22 e1 =>
                                j_tx (hx_715 _))) (fun q21 h19 e1 =>
                              j_tx (hx_715 _)))) (fun q18 h16 e1 =>
                          j_tx (hx_715 _)))) (fun q15 h13 e1 =>
                      j_tx (hx_715 _)))) (fun q12 h10 e1 =>
                  j_tx (hx_715 _)))) (fun q9 h7 e1 =>
              j_tx (hx_715 _)))) (fun q6 h4 e1 =>
          j_tx (hx_715 _)))) (fun q3 h1 e1 =>
      j_tx (hx_715 _))
/-! 716 StatuteHouseModel.areAlike(II)Z -/
theorem cd_716 : fi_code 716 = prog_69_method_233_code := rfl
theorem hx_716 : ∀ pc, fi_hat 716 pc = none := fun pc => by unfold fi_hat; rw [show fi_hh 716 = [] from rfl]; rfl
theorem rt_716 : fi_ret 716 = some .boolean := rfl
theorem nl_716 : fi_nl 716 = 4 := rfl
theorem ow_716 : fi_ow 716 = 29 := rfl
theorem cl_716 : fj_cutT.getD 716 [] = [(19, [0, 1, 2, 3])] := rfl
theorem cut_716_19 : fj_cut 716 19 = some [0, 1, 2, 3] := by decide +kernel
noncomputable def c_716_19 (d : Nat) (x1 x2 x3 : Int) (h : fi_H) : fk_R := gG (fj_run d) 716 19 [(0, (4, 602)), (1, (0, x1)), (2, (0, x2)), (3, (0, x3))] [] h
theorem e_716_19 (d : Nat) (x1 x2 x3 : Int) {h : fi_H} (H : Shp h) : c_716_19 d x1 x2 x3 h =
  if 0 ≤ x1 ∧ x1 < 240 then
  if h 10 638 x1.toNat < x3 then
    some (.inl (some (0, 1)), h)
  else
    ca_ (fj_run d 610 h [(4, 602), (0, 12), (0, x1), (0, x3)]) 0
      (fun v3 h2 =>
      ca_ (fj_run d 610 h2 [(4, 602), (0, 13), (0, x2), (0, x3)]) 0
        (fun v6 h5 =>
        ca_ (fj_run d 717 h5 [(4, 602), (0, v3), (0, v6)]) 0
          (fun v9 h8 =>
          if v9 = 0 then
            some (.inl (some (0, 0)), h8)
          else
            c_716_19 d x1 x2 (wI (x3 + 1)) h8)
          (fun q10 h8 => tx_ q10 h8))
        (fun q7 h5 => tx_ q7 h5))
      (fun q4 h2 => tx_ q4 h2)
  else none := by
  unfold c_716_19
  exact
    have D : fk_D 716 [(19, some [0, 1, 2, 3], .iload_n 3, 1, 0, 0, 0), (20, none, .aload_n 0, 1, 0, 0, 0), (21, none, .getfield 125, 3, 443, 129, 12), (24, none, .iload_n 1, 1, 0, 0, 0), (25, none, .iaload, 1, 0, 0, 0), (26, none, .if_icmp .gt 34, 3, 60, 0, 0), (29, none, .aload_n 0, 1, 0, 0, 0), (30, none, .aload_n 0, 1, 0, 0, 0), (31, none, .bipush 12, 2, 0, 12, 0), (33, none, .iload_n 1, 1, 0, 0, 0), (34, none, .iload_n 3, 1, 0, 0, 0), (35, none, .invokevirtual 836, 3, 3, 402, 1), (38, none, .aload_n 0, 1, 0, 0, 0), (39, none, .bipush 13, 2, 0, 13, 0), (41, none, .iload_n 2, 1, 0, 0, 0), (42, none, .iload_n 3, 1, 0, 0, 0), (43, none, .invokevirtual 836, 3, 3, 402, 1), (46, none, .invokevirtual 1330, 3, 2, 492, 1), (49, none, .ifCond .ne 5, 3, 54, 0, 0), (52, none, .iconst 0, 1, 0, 0, 0)] := fq_of2 cd_716 ow_716 cl_716 rfl (pc := 19) (by decide +kernel)
    j_ildn (pc := 19) D rfl rfl rfl fun D =>
    j_aldn (pc := 20) D rfl rfl rfl fun D =>
    j_gfc (pc := 21) (a := 602) D rfl rfl (by decide) rfl (s0_602 H) rfl (sf_443_602 H) fun D =>
    j_ildn (pc := 24) D rfl rfl rfl fun D =>
    j_al (pc := 25) (a := 638) (e := 10) D rfl rfl rfl (by decide) (s0_638 H) (s1_638 H) ⟨rfl, rfl, rfl⟩ rfl gn fun qb1 D =>
    j_igt (pc := 26) D rfl (fun q =>
      have D : fk_D 716 [(60, none, .iconst 1, 1, 0, 1, 0), (61, none, .ireturn, 1, 0, 0, 0)] := fq_of2 cd_716 ow_716 cl_716 rfl (pc := 60) (by decide +kernel)
      j_ic (pc := 60) D rfl fun D =>
      j_zret D rt_716 (gy (by decide))) (fun q D =>
      j_aldn (pc := 29) D rfl rfl rfl fun D =>
      j_aldn (pc := 30) D rfl rfl rfl fun D =>
      j_bp (pc := 31) D rfl fun D =>
      j_ildn (pc := 33) D rfl rfl rfl fun D =>
      j_ildn (pc := 34) D rfl rfl rfl fun D =>
      j_iv (pc := 35) (m := 610) (dd := 402) (a := [(0, 12), (0, x1), (0, x3)]) (rest := [(4, 602)]) D rfl rfl rfl rfl rfl (by decide) (s0_602 H) (by decide +kernel) (fun v3 h2 e1 D =>
        have T := fj_run_ok _ _ _ _ _ _ H.1 e1
        have H := shp_st H T
        j_aldn (pc := 38) D rfl rfl rfl fun D =>
        j_bp (pc := 39) D rfl fun D =>
        j_ildn (pc := 41) D rfl rfl rfl fun D =>
        j_ildn (pc := 42) D rfl rfl rfl fun D =>
        j_iv (pc := 43) (m := 610) (dd := 402) (a := [(0, 13), (0, x2), (0, x3)]) (rest := [(0, v3), (4, 602)]) D rfl rfl rfl rfl rfl (by decide) (s0_602 H) (by decide +kernel) (fun v6 h5 e1 D =>
          have T := fj_run_ok _ _ _ _ _ _ H.1 e1
          have H := shp_st H T
          j_iv (pc := 46) (m := 717) (dd := 492) (a := [(0, v3), (0, v6)]) (rest := []) D rfl rfl rfl rfl rfl (by decide) (s0_602 H) (by decide +kernel) (fun v9 h8 e1 D =>
            have T := fj_run_ok _ _ _ _ _ _ H.1 e1
            have H := shp_st H T
            j_ifne (pc := 49) D rfl (fun q D =>
              j_ic (pc := 52) D rfl fun D =>
              have D : fk_D 716 [(53, none, .ireturn, 1, 0, 0, 0)] := fq_of2 cd_716 ow_716 cl_716 rfl (pc := 53) (by decide +kernel)
              j_zret D rt_716 (gy (by decide))) (fun q =>
              have D : fk_D 716 [(54, none, .iinc 3 1, 3, 0, 1, 0), (57, none, .goto (-38), 3, 19, 0, 0)] := fq_of2 cd_716 ow_716 cl_716 rfl (pc := 54) (by decide +kernel)
              j_inc (pc := 54) (L' := [(3, (0, wI (x3 + 1))), (0, (4, 602)), (1, (0, x1)), (2, (0, x2))]) D rfl rfl rfl (by decide +kernel) rfl fun D =>
              j_goto (pc := 57) D rfl <|
              fk_jump cut_716_19 rfl rfl)) (fun q10 h8 e1 =>
            j_tx (hx_716 _))) (fun q7 h5 e1 =>
          j_tx (hx_716 _))) (fun q4 h2 e1 =>
        j_tx (hx_716 _)))
theorem m_716 (d : Nat) (x1 x2 : Int) {h : fi_H} (H : Shp h) : fj_run (d + 1) 716 h [(4, 602), (0, x1), (0, x2)] =
  if 0 ≤ x1 ∧ x1 < 240 then
  if 0 ≤ x2 ∧ x2 < 240 then
  if h 10 638 x1.toNat = h 10 638 x2.toNat then
    c_716_19 d x1 x2 1 h
  else
    some (.inl (some (0, 0)), h)
  else none
  else none := by
  rw [fj_run_eq d (by decide) h [(4, 602), (0, x1), (0, x2)] (Nat.le_of_ble_eq_true (by rw [nl_716]; rfl))]
  show gG (fj_run d) 716 0 [(0, (4, 602)), (1, (0, x1)), (2, (0, x2))] [] h = _
  exact
    have D : fk_D 716 [(0, none, .aload_n 0, 1, 0, 0, 0), (1, none, .getfield 125, 3, 443, 129, 12), (4, none, .iload_n 1, 1, 0, 0, 0), (5, none, .iaload, 1, 0, 0, 0), (6, none, .aload_n 0, 1, 0, 0, 0), (7, none, .getfield 125, 3, 443, 129, 12), (10, none, .iload_n 2, 1, 0, 0, 0), (11, none, .iaload, 1, 0, 0, 0), (12, none, .if_icmp .eq 5, 3, 17, 0, 0), (15, none, .iconst 0, 1, 0, 0, 0), (16, none, .ireturn, 1, 0, 0, 0)] := fq_of2 cd_716 ow_716 cl_716 rfl (pc := 0) (by decide +kernel)
    j_aldn (pc := 0) D rfl rfl rfl fun D =>
    j_gfc (pc := 1) (a := 602) D rfl rfl (by decide) rfl (s0_602 H) rfl (sf_443_602 H) fun D =>
    j_ildn (pc := 4) D rfl rfl rfl fun D =>
    j_al (pc := 5) (a := 638) (e := 10) D rfl rfl rfl (by decide) (s0_638 H) (s1_638 H) ⟨rfl, rfl, rfl⟩ rfl gn fun qb1 D =>
    j_aldn (pc := 6) D rfl rfl rfl fun D =>
    j_gfc (pc := 7) (a := 602) D rfl rfl (by decide) rfl (s0_602 H) rfl (sf_443_602 H) fun D =>
    j_ildn (pc := 10) D rfl rfl rfl fun D =>
    j_al (pc := 11) (a := 638) (e := 10) D rfl rfl rfl (by decide) (s0_638 H) (s1_638 H) ⟨rfl, rfl, rfl⟩ rfl gn fun qb2 D =>
    j_ieq (pc := 12) D rfl (fun q =>
      have D : fk_D 716 [(17, none, .iconst 1, 1, 0, 1, 0), (18, none, .istore_n 3, 1, 0, 0, 0)] := fq_of2 cd_716 ow_716 cl_716 rfl (pc := 17) (by decide +kernel)
      j_ic (pc := 17) D rfl fun D =>
      j_istn (pc := 18) (L' := [(3, (0, 1)), (0, (4, 602)), (1, (0, x1)), (2, (0, x2))]) D rfl nl_716 rfl rfl fun D =>
      fk_jump cut_716_19 rfl rfl) (fun q D =>
      j_ic (pc := 15) D rfl fun D =>
      j_zret D rt_716 (gy (by decide)))
/-! 717 StatuteHouseModel.likeRules(II)Z -/
theorem cd_717 : fi_code 717 = prog_69_method_234_code := rfl
theorem hx_717 : ∀ pc, fi_hat 717 pc = none := fun pc => by unfold fi_hat; rw [show fi_hh 717 = [] from rfl]; rfl
theorem rt_717 : fi_ret 717 = some .boolean := rfl
theorem nl_717 : fi_nl 717 = 7 := rfl
theorem ow_717 : fi_ow 717 = 29 := rfl
theorem cl_717 : fj_cutT.getD 717 [] = [(15, [1, 2]), (161, [0, 1, 2]), (165, [0, 1, 2, 3, 4]), (260, [0, 1, 2, 4]), (261, [0, 1, 2, 4])] := rfl
theorem cut_717_15 : fj_cut 717 15 = some [1, 2] := by decide +kernel
noncomputable def c_717_15 (d : Nat) (x1 x2 : Int) (h : fi_H) : fk_R := gG (fj_run d) 717 15 [(1, (0, x1)), (2, (0, x2))] [] h
theorem cut_717_161 : fj_cut 717 161 = some [0, 1, 2] := by decide +kernel
noncomputable def c_717_161 (d : Nat) (x1 x2 s0 : Int) (h : fi_H) : fk_R := gG (fj_run d) 717 161 [(0, (4, 602)), (1, (0, x1)), (2, (0, x2))] [(0, s0)] h
theorem cut_717_165 : fj_cut 717 165 = some [0, 1, 2, 3, 4] := by decide +kernel
noncomputable def c_717_165 (d : Nat) (x1 x2 x3 x4 : Int) (h : fi_H) : fk_R := gG (fj_run d) 717 165 [(0, (4, 602)), (1, (0, x1)), (2, (0, x2)), (3, (0, x3)), (4, (0, x4))] [] h
theorem cut_717_260 : fj_cut 717 260 = some [0, 1, 2, 4] := by decide +kernel
noncomputable def c_717_260 (d : Nat) (x1 x2 x4 : Int) (h : fi_H) : fk_R := gG (fj_run d) 717 260 [(0, (4, 602)), (1, (0, x1)), (2, (0, x2)), (4, (0, x4))] [] h
theorem cut_717_261 : fj_cut 717 261 = some [0, 1, 2, 4] := by decide +kernel
noncomputable def c_717_261 (d : Nat) (x1 x2 x4 s0 : Int) (h : fi_H) : fk_R := gG (fj_run d) 717 261 [(0, (4, 602)), (1, (0, x1)), (2, (0, x2)), (4, (0, x4))] [(0, s0)] h
theorem e_717_15 (d : Nat) (x1 x2 : Int) {h : fi_H} (H : Shp h) : c_717_15 d x1 x2 h =
  if x1 = x2 then
    some (.inl (some (0, 1)), h)
  else
    some (.inl (some (0, 0)), h) := by
  unfold c_717_15
  exact
    have D : fk_D 717 [(15, some [1, 2], .iload_n 1, 1, 0, 0, 0), (16, none, .iload_n 2, 1, 0, 0, 0), (17, none, .if_icmp .ne 7, 3, 24, 0, 0), (20, none, .iconst 1, 1, 0, 1, 0), (21, none, .goto 4, 3, 25, 0, 0)] := fq_of2 cd_717 ow_717 cl_717 rfl (pc := 15) (by decide +kernel)
    j_ildn (pc := 15) D rfl rfl rfl fun D =>
    j_ildn (pc := 16) D rfl rfl rfl fun D =>
    j_ine (pc := 17) D rfl (fun q D =>
      j_ic (pc := 20) D rfl fun D =>
      j_goto (pc := 21) D rfl <|
      have D : fk_D 717 [(25, none, .ireturn, 1, 0, 0, 0)] := fq_of2 cd_717 ow_717 cl_717 rfl (pc := 25) (by decide +kernel)
      j_zret D rt_717 (gy (by decide))) (fun q =>
      have D : fk_D 717 [(24, none, .iconst 0, 1, 0, 0, 0), (25, none, .ireturn, 1, 0, 0, 0)] := fq_of2 cd_717 ow_717 cl_717 rfl (pc := 24) (by decide +kernel)
      j_ic (pc := 24) D rfl fun D =>
      j_zret D rt_717 (gy (by decide)))
theorem e_717_161 (d : Nat) (x1 x2 s0 : Int) {h : fi_H} (H : Shp h) : c_717_161 d x1 x2 s0 h =
  c_717_165 d x1 x2 s0 0 h := by
  unfold c_717_161
  exact
    have D : fk_D 717 [(161, some [0, 1, 2], .istore_n 3, 1, 0, 0, 0), (162, none, .iconst 0, 1, 0, 0, 0), (163, none, .istore 4, 2, 0, 0, 0)] := fq_of2 cd_717 ow_717 cl_717 rfl (pc := 161) (by decide +kernel)
    j_istn (pc := 161) (L' := [(3, (0, s0)), (0, (4, 602)), (1, (0, x1)), (2, (0, x2))]) D rfl nl_717 rfl rfl fun D =>
    j_ic (pc := 162) D rfl fun D =>
    j_ist (pc := 163) (L' := [(4, (0, 0)), (3, (0, s0)), (0, (4, 602)), (1, (0, x1)), (2, (0, x2))]) D rfl nl_717 rfl rfl fun D =>
    fk_jump cut_717_165 rfl rfl
theorem e_717_165 (d : Nat) (x1 x2 x3 x4 : Int) {h : fi_H} (H : Shp h) : c_717_165 d x1 x2 x3 x4 h =
  if 0 ≤ x1 ∧ x1 < 560 then
  if x4 < h 10 627 x1.toNat then
    if x3 = 0 then
      if x3 = 0 ∨ x3 = 1 then some (.inl (some (0, x3)), h) else none
    else
      if 0 ≤ x2 ∧ x2 < 560 then
      if 0 ≤ wI ((h 10 626 x1.toNat) + x4) ∧ wI ((h 10 626 x1.toNat) + x4) < 440 then
      if 0 ≤ wI ((h 10 626 x2.toNat) + x4) ∧ wI ((h 10 626 x2.toNat) + x4) < 440 then
      if lc_ (h 11 631 (wI ((h 10 626 x1.toNat) + x4)).toNat) (h 11 631 (wI ((h 10 626 x2.toNat) + x4)).toNat) = 0 then
        if lc_ (h 11 632 (wI ((h 10 626 x1.toNat) + x4)).toNat) (h 11 632 (wI ((h 10 626 x2.toNat) + x4)).toNat) = 0 then
          if lc_ (h 11 633 (wI ((h 10 626 x1.toNat) + x4)).toNat) (h 11 633 (wI ((h 10 626 x2.toNat) + x4)).toNat) = 0 then
            c_717_261 d x1 x2 x4 1 h
          else
            c_717_260 d x1 x2 x4 h
        else
          c_717_260 d x1 x2 x4 h
      else
        c_717_260 d x1 x2 x4 h
      else none
      else none
      else none
  else
    if x3 = 0 ∨ x3 = 1 then some (.inl (some (0, x3)), h) else none
  else none := by
  unfold c_717_165
  exact
    have D : fk_D 717 [(165, some [0, 1, 2, 3, 4], .iload 4, 2, 0, 0, 0), (167, none, .aload_n 0, 1, 0, 0, 0), (168, none, .getfield 92, 3, 430, 129, 12), (171, none, .iload_n 1, 1, 0, 0, 0), (172, none, .iaload, 1, 0, 0, 0), (173, none, .if_icmp .ge 95, 3, 268, 0, 0), (176, none, .iload_n 3, 1, 0, 0, 0), (177, none, .ifCond .eq 91, 3, 268, 0, 0), (180, none, .aload_n 0, 1, 0, 0, 0), (181, none, .getfield 89, 3, 429, 129, 12), (184, none, .iload_n 1, 1, 0, 0, 0), (185, none, .iaload, 1, 0, 0, 0), (186, none, .iload 4, 2, 0, 0, 0), (188, none, .iadd, 1, 0, 0, 0), (189, none, .istore 5, 2, 0, 0, 0), (191, none, .aload_n 0, 1, 0, 0, 0), (192, none, .getfield 89, 3, 429, 129, 12), (195, none, .iload_n 2, 1, 0, 0, 0), (196, none, .iaload, 1, 0, 0, 0), (197, none, .iload 4, 2, 0, 0, 0)] := fq_of2 cd_717 ow_717 cl_717 rfl (pc := 165) (by decide +kernel)
    j_ild (pc := 165) D rfl rfl rfl fun D =>
    j_aldn (pc := 167) D rfl rfl rfl fun D =>
    j_gfc (pc := 168) (a := 602) D rfl rfl (by decide) rfl (s0_602 H) rfl (sf_430_602 H) fun D =>
    j_ildn (pc := 171) D rfl rfl rfl fun D =>
    j_al (pc := 172) (a := 627) (e := 10) D rfl rfl rfl (by decide) (s0_627 H) (s1_627 H) ⟨rfl, rfl, rfl⟩ rfl gn fun qb1 D =>
    j_ige (pc := 173) D rfl (fun q D =>
      j_ildn (pc := 176) D rfl rfl rfl fun D =>
      j_ifeq (pc := 177) D rfl (fun q =>
        have D : fk_D 717 [(268, none, .iload_n 3, 1, 0, 0, 0), (269, none, .ireturn, 1, 0, 0, 0)] := fq_of2 cd_717 ow_717 cl_717 rfl (pc := 268) (by decide +kernel)
        j_ildn (pc := 268) D rfl rfl rfl fun D =>
        j_zret D rt_717 gn) (fun q D =>
        j_aldn (pc := 180) D rfl rfl rfl fun D =>
        j_gfc (pc := 181) (a := 602) D rfl rfl (by decide) rfl (s0_602 H) rfl (sf_429_602 H) fun D =>
        j_ildn (pc := 184) D rfl rfl rfl fun D =>
        j_al (pc := 185) (a := 626) (e := 10) D rfl rfl rfl (by decide) (s0_626 H) (s1_626 H) ⟨rfl, rfl, rfl⟩ rfl (gy qb1) fun q D =>
        j_ild (pc := 186) D rfl rfl rfl fun D =>
        j_iadd (pc := 188) D rfl fun D =>
        j_ist (pc := 189) (L' := [(5, (0, wI ((h 10 626 x1.toNat) + x4))), (0, (4, 602)), (1, (0, x1)), (2, (0, x2)), (3, (0, x3)), (4, (0, x4))]) D rfl nl_717 rfl rfl fun D =>
        j_aldn (pc := 191) D rfl rfl rfl fun D =>
        j_gfc (pc := 192) (a := 602) D rfl rfl (by decide) rfl (s0_602 H) rfl (sf_429_602 H) fun D =>
        j_ildn (pc := 195) D rfl rfl rfl fun D =>
        j_al (pc := 196) (a := 626) (e := 10) D rfl rfl rfl (by decide) (s0_626 H) (s1_626 H) ⟨rfl, rfl, rfl⟩ rfl gn fun qb2 D =>
        j_ild (pc := 197) D rfl rfl rfl fun D =>
        have D : fk_D 717 [(199, none, .iadd, 1, 0, 0, 0), (200, none, .istore 6, 2, 0, 0, 0), (202, none, .aload_n 0, 1, 0, 0, 0), (203, none, .getfield 104, 3, 435, 129, 12), (206, none, .iload 5, 2, 0, 0, 0), (208, none, .laload, 1, 0, 0, 0), (209, none, .aload_n 0, 1, 0, 0, 0), (210, none, .getfield 104, 3, 435, 129, 12), (213, none, .iload 6, 2, 0, 0, 0), (215, none, .laload, 1, 0, 0, 0), (216, none, .lcmp, 1, 0, 0, 0), (217, none, .ifCond .ne 43, 3, 260, 0, 0), (220, none, .aload_n 0, 1, 0, 0, 0), (221, none, .getfield 107, 3, 436, 129, 12), (224, none, .iload 5, 2, 0, 0, 0), (226, none, .laload, 1, 0, 0, 0), (227, none, .aload_n 0, 1, 0, 0, 0), (228, none, .getfield 107, 3, 436, 129, 12), (231, none, .iload 6, 2, 0, 0, 0), (233, none, .laload, 1, 0, 0, 0)] := fq_of2 cd_717 ow_717 cl_717 rfl (pc := 199) (by decide +kernel)
        j_iadd (pc := 199) D rfl fun D =>
        j_ist (pc := 200) (L' := [(6, (0, wI ((h 10 626 x2.toNat) + x4))), (5, (0, wI ((h 10 626 x1.toNat) + x4))), (0, (4, 602)), (1, (0, x1)), (2, (0, x2)), (3, (0, x3)), (4, (0, x4))]) D rfl nl_717 rfl rfl fun D =>
        j_aldn (pc := 202) D rfl rfl rfl fun D =>
        j_gfc (pc := 203) (a := 602) D rfl rfl (by decide) rfl (s0_602 H) rfl (sf_435_602 H) fun D =>
        j_ild (pc := 206) D rfl rfl rfl fun D =>
        j_al (pc := 208) (a := 631) (e := 11) D rfl rfl rfl (by decide) (s0_631 H) (s1_631 H) ⟨rfl, rfl, rfl⟩ rfl gn fun qb3 D =>
        j_aldn (pc := 209) D rfl rfl rfl fun D =>
        j_gfc (pc := 210) (a := 602) D rfl rfl (by decide) rfl (s0_602 H) rfl (sf_435_602 H) fun D =>
        j_ild (pc := 213) D rfl rfl rfl fun D =>
        j_al (pc := 215) (a := 631) (e := 11) D rfl rfl rfl (by decide) (s0_631 H) (s1_631 H) ⟨rfl, rfl, rfl⟩ rfl gn fun qb4 D =>
        j_lcmp (pc := 216) D rfl fun D =>
        j_ifne (pc := 217) D rfl (fun q D =>
          j_aldn (pc := 220) D rfl rfl rfl fun D =>
          j_gfc (pc := 221) (a := 602) D rfl rfl (by decide) rfl (s0_602 H) rfl (sf_436_602 H) fun D =>
          j_ild (pc := 224) D rfl rfl rfl fun D =>
          j_al (pc := 226) (a := 632) (e := 11) D rfl rfl rfl (by decide) (s0_632 H) (s1_632 H) ⟨rfl, rfl, rfl⟩ rfl (gy qb3) fun q D =>
          j_aldn (pc := 227) D rfl rfl rfl fun D =>
          j_gfc (pc := 228) (a := 602) D rfl rfl (by decide) rfl (s0_602 H) rfl (sf_436_602 H) fun D =>
          j_ild (pc := 231) D rfl rfl rfl fun D =>
          j_al (pc := 233) (a := 632) (e := 11) D rfl rfl rfl (by decide) (s0_632 H) (s1_632 H) ⟨rfl, rfl, rfl⟩ rfl (gy qb4) fun q D =>
          have D : fk_D 717 [(234, none, .lcmp, 1, 0, 0, 0), (235, none, .ifCond .ne 25, 3, 260, 0, 0), (238, none, .aload_n 0, 1, 0, 0, 0), (239, none, .getfield 110, 3, 437, 129, 12), (242, none, .iload 5, 2, 0, 0, 0), (244, none, .laload, 1, 0, 0, 0), (245, none, .aload_n 0, 1, 0, 0, 0), (246, none, .getfield 110, 3, 437, 129, 12), (249, none, .iload 6, 2, 0, 0, 0), (251, none, .laload, 1, 0, 0, 0), (252, none, .lcmp, 1, 0, 0, 0), (253, none, .ifCond .ne 7, 3, 260, 0, 0), (256, none, .iconst 1, 1, 0, 1, 0), (257, none, .goto 4, 3, 261, 0, 0)] := fq_of2 cd_717 ow_717 cl_717 rfl (pc := 234) (by decide +kernel)
          j_lcmp (pc := 234) D rfl fun D =>
          j_ifne (pc := 235) D rfl (fun q D =>
            j_aldn (pc := 238) D rfl rfl rfl fun D =>
            j_gfc (pc := 239) (a := 602) D rfl rfl (by decide) rfl (s0_602 H) rfl (sf_437_602 H) fun D =>
            j_ild (pc := 242) D rfl rfl rfl fun D =>
            j_al (pc := 244) (a := 633) (e := 11) D rfl rfl rfl (by decide) (s0_633 H) (s1_633 H) ⟨rfl, rfl, rfl⟩ rfl (gy qb3) fun q D =>
            j_aldn (pc := 245) D rfl rfl rfl fun D =>
            j_gfc (pc := 246) (a := 602) D rfl rfl (by decide) rfl (s0_602 H) rfl (sf_437_602 H) fun D =>
            j_ild (pc := 249) D rfl rfl rfl fun D =>
            j_al (pc := 251) (a := 633) (e := 11) D rfl rfl rfl (by decide) (s0_633 H) (s1_633 H) ⟨rfl, rfl, rfl⟩ rfl (gy qb4) fun q D =>
            j_lcmp (pc := 252) D rfl fun D =>
            j_ifne (pc := 253) D rfl (fun q D =>
              j_ic (pc := 256) D rfl fun D =>
              j_goto (pc := 257) D rfl <|
              fk_jump cut_717_261 rfl rfl) (fun q =>
              fk_jump cut_717_260 rfl rfl)) (fun q =>
            fk_jump cut_717_260 rfl rfl)) (fun q =>
          fk_jump cut_717_260 rfl rfl))) (fun q =>
      have D : fk_D 717 [(268, none, .iload_n 3, 1, 0, 0, 0), (269, none, .ireturn, 1, 0, 0, 0)] := fq_of2 cd_717 ow_717 cl_717 rfl (pc := 268) (by decide +kernel)
      j_ildn (pc := 268) D rfl rfl rfl fun D =>
      j_zret D rt_717 gn)
theorem e_717_260 (d : Nat) (x1 x2 x4 : Int) {h : fi_H} (H : Shp h) : c_717_260 d x1 x2 x4 h =
  c_717_261 d x1 x2 x4 0 h := by
  unfold c_717_260
  exact
    have D : fk_D 717 [(260, some [0, 1, 2, 4], .iconst 0, 1, 0, 0, 0)] := fq_of2 cd_717 ow_717 cl_717 rfl (pc := 260) (by decide +kernel)
    j_ic (pc := 260) D rfl fun D =>
    fk_jump cut_717_261 rfl rfl
theorem e_717_261 (d : Nat) (x1 x2 x4 s0 : Int) {h : fi_H} (H : Shp h) : c_717_261 d x1 x2 x4 s0 h =
  c_717_165 d x1 x2 s0 (wI (x4 + 1)) h := by
  unfold c_717_261
  exact
    have D : fk_D 717 [(261, some [0, 1, 2, 4], .istore_n 3, 1, 0, 0, 0), (262, none, .iinc 4 1, 3, 0, 1, 0), (265, none, .goto (-100), 3, 165, 0, 0)] := fq_of2 cd_717 ow_717 cl_717 rfl (pc := 261) (by decide +kernel)
    j_istn (pc := 261) (L' := [(3, (0, s0)), (0, (4, 602)), (1, (0, x1)), (2, (0, x2)), (4, (0, x4))]) D rfl nl_717 rfl rfl fun D =>
    j_inc (pc := 262) (L' := [(4, (0, wI (x4 + 1))), (3, (0, s0)), (0, (4, 602)), (1, (0, x1)), (2, (0, x2))]) D rfl rfl rfl (by decide +kernel) rfl fun D =>
    j_goto (pc := 265) D rfl <|
    fk_jump cut_717_165 rfl rfl
theorem m_717 (d : Nat) (x1 x2 : Int) {h : fi_H} (H : Shp h) : fj_run (d + 1) 717 h [(4, 602), (0, x1), (0, x2)] =
  if x1 = (-1) then
    c_717_15 d x1 x2 h
  else
    if x2 = (-1) then
      c_717_15 d x1 x2 h
    else
      if x1 = x2 then
        c_717_15 d x1 x2 h
      else
        if 0 ≤ x1 ∧ x1 < 560 then
        if 0 ≤ x2 ∧ x2 < 560 then
        if h 4 630 x1.toNat = h 4 630 x2.toNat then
          if h 10 625 x1.toNat = h 10 625 x2.toNat then
            if h 4 630 x1.toNat = 0 then
              if h 10 628 x1.toNat = h 10 628 x2.toNat then
                if h 10 629 x1.toNat = h 10 629 x2.toNat then
                  ca_ (fj_run d 686 h [(4, 602), (0, h 10 626 x1.toNat), (0, h 10 626 x2.toNat)]) 0
                    (fun v4 h3 =>
                    if v4 = 0 then
                      some (.inl (some (0, 0)), h3)
                    else
                      ca_ (fj_run d 686 h3 [(4, 602), (0, h3 10 627 x1.toNat), (0, h3 10 627 x2.toNat)]) 0
                        (fun v7 h6 =>
                        if v7 = 0 then
                          some (.inl (some (0, 0)), h6)
                        else
                          some (.inl (some (0, 1)), h6))
                        (fun q8 h6 => tx_ q8 h6))
                    (fun q5 h3 => tx_ q5 h3)
                else
                  some (.inl (some (0, 0)), h)
              else
                some (.inl (some (0, 0)), h)
            else
              if h 10 627 x1.toNat = h 10 627 x2.toNat then
                c_717_161 d x1 x2 1 h
              else
                c_717_161 d x1 x2 0 h
          else
            some (.inl (some (0, 0)), h)
        else
          some (.inl (some (0, 0)), h)
        else none
        else none := by
  rw [fj_run_eq d (by decide) h [(4, 602), (0, x1), (0, x2)] (Nat.le_of_ble_eq_true (by rw [nl_717]; rfl))]
  show gG (fj_run d) 717 0 [(0, (4, 602)), (1, (0, x1)), (2, (0, x2))] [] h = _
  exact
    have D : fk_D 717 [(0, none, .iload_n 1, 1, 0, 0, 0), (1, none, .iconst (-1), 1, 0, (-1), 0), (2, none, .if_icmp .eq 13, 3, 15, 0, 0), (5, none, .iload_n 2, 1, 0, 0, 0), (6, none, .iconst (-1), 1, 0, (-1), 0), (7, none, .if_icmp .eq 8, 3, 15, 0, 0), (10, none, .iload_n 1, 1, 0, 0, 0), (11, none, .iload_n 2, 1, 0, 0, 0), (12, none, .if_icmp .ne 14, 3, 26, 0, 0)] := fq_of2 cd_717 ow_717 cl_717 rfl (pc := 0) (by decide +kernel)
    j_ildn (pc := 0) D rfl rfl rfl fun D =>
    j_ic (pc := 1) D rfl fun D =>
    j_ieq (pc := 2) D rfl (fun q =>
      fk_jump cut_717_15 rfl rfl) (fun q D =>
      j_ildn (pc := 5) D rfl rfl rfl fun D =>
      j_ic (pc := 6) D rfl fun D =>
      j_ieq (pc := 7) D rfl (fun q =>
        fk_jump cut_717_15 rfl rfl) (fun q D =>
        j_ildn (pc := 10) D rfl rfl rfl fun D =>
        j_ildn (pc := 11) D rfl rfl rfl fun D =>
        j_ine (pc := 12) D rfl (fun q D =>
          fk_jump cut_717_15 rfl rfl) (fun q =>
          have D : fk_D 717 [(26, none, .aload_n 0, 1, 0, 0, 0), (27, none, .getfield 101, 3, 433, 129, 12), (30, none, .iload_n 1, 1, 0, 0, 0), (31, none, .baload, 1, 0, 0, 0), (32, none, .aload_n 0, 1, 0, 0, 0), (33, none, .getfield 101, 3, 433, 129, 12), (36, none, .iload_n 2, 1, 0, 0, 0), (37, none, .baload, 1, 0, 0, 0), (38, none, .if_icmp .ne 18, 3, 56, 0, 0), (41, none, .aload_n 0, 1, 0, 0, 0), (42, none, .getfield 86, 3, 428, 129, 12), (45, none, .iload_n 1, 1, 0, 0, 0), (46, none, .iaload, 1, 0, 0, 0), (47, none, .aload_n 0, 1, 0, 0, 0), (48, none, .getfield 86, 3, 428, 129, 12), (51, none, .iload_n 2, 1, 0, 0, 0), (52, none, .iaload, 1, 0, 0, 0), (53, none, .if_icmp .eq 5, 3, 58, 0, 0), (56, none, .iconst 0, 1, 0, 0, 0), (57, none, .ireturn, 1, 0, 0, 0)] := fq_of2 cd_717 ow_717 cl_717 rfl (pc := 26) (by decide +kernel)
          j_aldn (pc := 26) D rfl rfl rfl fun D =>
          j_gfc (pc := 27) (a := 602) D rfl rfl (by decide) rfl (s0_602 H) rfl (sf_433_602 H) fun D =>
          j_ildn (pc := 30) D rfl rfl rfl fun D =>
          j_al (pc := 31) (a := 630) (e := 4) D rfl rfl rfl (by decide) (s0_630 H) (s1_630 H) ⟨rfl, rfl, rfl⟩ rfl gn fun qb1 D =>
          j_aldn (pc := 32) D rfl rfl rfl fun D =>
          j_gfc (pc := 33) (a := 602) D rfl rfl (by decide) rfl (s0_602 H) rfl (sf_433_602 H) fun D =>
          j_ildn (pc := 36) D rfl rfl rfl fun D =>
          j_al (pc := 37) (a := 630) (e := 4) D rfl rfl rfl (by decide) (s0_630 H) (s1_630 H) ⟨rfl, rfl, rfl⟩ rfl gn fun qb2 D =>
          j_ine (pc := 38) D rfl (fun q D =>
            j_aldn (pc := 41) D rfl rfl rfl fun D =>
            j_gfc (pc := 42) (a := 602) D rfl rfl (by decide) rfl (s0_602 H) rfl (sf_428_602 H) fun D =>
            j_ildn (pc := 45) D rfl rfl rfl fun D =>
            j_al (pc := 46) (a := 625) (e := 10) D rfl rfl rfl (by decide) (s0_625 H) (s1_625 H) ⟨rfl, rfl, rfl⟩ rfl (gy qb1) fun q D =>
            j_aldn (pc := 47) D rfl rfl rfl fun D =>
            j_gfc (pc := 48) (a := 602) D rfl rfl (by decide) rfl (s0_602 H) rfl (sf_428_602 H) fun D =>
            j_ildn (pc := 51) D rfl rfl rfl fun D =>
            j_al (pc := 52) (a := 625) (e := 10) D rfl rfl rfl (by decide) (s0_625 H) (s1_625 H) ⟨rfl, rfl, rfl⟩ rfl (gy qb2) fun q D =>
            j_ieq (pc := 53) D rfl (fun q =>
              have D : fk_D 717 [(58, none, .aload_n 0, 1, 0, 0, 0), (59, none, .getfield 101, 3, 433, 129, 12), (62, none, .iload_n 1, 1, 0, 0, 0), (63, none, .baload, 1, 0, 0, 0), (64, none, .ifCond .ne 77, 3, 141, 0, 0), (67, none, .aload_n 0, 1, 0, 0, 0), (68, none, .getfield 95, 3, 431, 129, 12), (71, none, .iload_n 1, 1, 0, 0, 0), (72, none, .iaload, 1, 0, 0, 0), (73, none, .aload_n 0, 1, 0, 0, 0), (74, none, .getfield 95, 3, 431, 129, 12), (77, none, .iload_n 2, 1, 0, 0, 0), (78, none, .iaload, 1, 0, 0, 0), (79, none, .if_icmp .ne 60, 3, 139, 0, 0), (82, none, .aload_n 0, 1, 0, 0, 0), (83, none, .getfield 98, 3, 432, 129, 12), (86, none, .iload_n 1, 1, 0, 0, 0), (87, none, .iaload, 1, 0, 0, 0), (88, none, .aload_n 0, 1, 0, 0, 0), (89, none, .getfield 98, 3, 432, 129, 12)] := fq_of2 cd_717 ow_717 cl_717 rfl (pc := 58) (by decide +kernel)
              j_aldn (pc := 58) D rfl rfl rfl fun D =>
              j_gfc (pc := 59) (a := 602) D rfl rfl (by decide) rfl (s0_602 H) rfl (sf_433_602 H) fun D =>
              j_ildn (pc := 62) D rfl rfl rfl fun D =>
              j_al (pc := 63) (a := 630) (e := 4) D rfl rfl rfl (by decide) (s0_630 H) (s1_630 H) ⟨rfl, rfl, rfl⟩ rfl (gy qb1) fun q D =>
              j_ifne (pc := 64) D rfl (fun q D =>
                j_aldn (pc := 67) D rfl rfl rfl fun D =>
                j_gfc (pc := 68) (a := 602) D rfl rfl (by decide) rfl (s0_602 H) rfl (sf_431_602 H) fun D =>
                j_ildn (pc := 71) D rfl rfl rfl fun D =>
                j_al (pc := 72) (a := 628) (e := 10) D rfl rfl rfl (by decide) (s0_628 H) (s1_628 H) ⟨rfl, rfl, rfl⟩ rfl (gy qb1) fun q D =>
                j_aldn (pc := 73) D rfl rfl rfl fun D =>
                j_gfc (pc := 74) (a := 602) D rfl rfl (by decide) rfl (s0_602 H) rfl (sf_431_602 H) fun D =>
                j_ildn (pc := 77) D rfl rfl rfl fun D =>
                j_al (pc := 78) (a := 628) (e := 10) D rfl rfl rfl (by decide) (s0_628 H) (s1_628 H) ⟨rfl, rfl, rfl⟩ rfl (gy qb2) fun q D =>
                j_ine (pc := 79) D rfl (fun q D =>
                  j_aldn (pc := 82) D rfl rfl rfl fun D =>
                  j_gfc (pc := 83) (a := 602) D rfl rfl (by decide) rfl (s0_602 H) rfl (sf_432_602 H) fun D =>
                  j_ildn (pc := 86) D rfl rfl rfl fun D =>
                  j_al (pc := 87) (a := 629) (e := 10) D rfl rfl rfl (by decide) (s0_629 H) (s1_629 H) ⟨rfl, rfl, rfl⟩ rfl (gy qb1) fun q D =>
                  j_aldn (pc := 88) D rfl rfl rfl fun D =>
                  j_gfc (pc := 89) (a := 602) D rfl rfl (by decide) rfl (s0_602 H) rfl (sf_432_602 H) fun D =>
                  have D : fk_D 717 [(92, none, .iload_n 2, 1, 0, 0, 0), (93, none, .iaload, 1, 0, 0, 0), (94, none, .if_icmp .ne 45, 3, 139, 0, 0), (97, none, .aload_n 0, 1, 0, 0, 0), (98, none, .aload_n 0, 1, 0, 0, 0), (99, none, .getfield 89, 3, 429, 129, 12), (102, none, .iload_n 1, 1, 0, 0, 0), (103, none, .iaload, 1, 0, 0, 0), (104, none, .aload_n 0, 1, 0, 0, 0), (105, none, .getfield 89, 3, 429, 129, 12), (108, none, .iload_n 2, 1, 0, 0, 0), (109, none, .iaload, 1, 0, 0, 0), (110, none, .invokevirtual 1244, 3, 2, 469, 1), (113, none, .ifCond .eq 26, 3, 139, 0, 0), (116, none, .aload_n 0, 1, 0, 0, 0), (117, none, .aload_n 0, 1, 0, 0, 0), (118, none, .getfield 92, 3, 430, 129, 12), (121, none, .iload_n 1, 1, 0, 0, 0), (122, none, .iaload, 1, 0, 0, 0), (123, none, .aload_n 0, 1, 0, 0, 0)] := fq_of2 cd_717 ow_717 cl_717 rfl (pc := 92) (by decide +kernel)
                  j_ildn (pc := 92) D rfl rfl rfl fun D =>
                  j_al (pc := 93) (a := 629) (e := 10) D rfl rfl rfl (by decide) (s0_629 H) (s1_629 H) ⟨rfl, rfl, rfl⟩ rfl (gy qb2) fun q D =>
                  j_ine (pc := 94) D rfl (fun q D =>
                    j_aldn (pc := 97) D rfl rfl rfl fun D =>
                    j_aldn (pc := 98) D rfl rfl rfl fun D =>
                    j_gfc (pc := 99) (a := 602) D rfl rfl (by decide) rfl (s0_602 H) rfl (sf_429_602 H) fun D =>
                    j_ildn (pc := 102) D rfl rfl rfl fun D =>
                    j_al (pc := 103) (a := 626) (e := 10) D rfl rfl rfl (by decide) (s0_626 H) (s1_626 H) ⟨rfl, rfl, rfl⟩ rfl (gy qb1) fun q D =>
                    j_aldn (pc := 104) D rfl rfl rfl fun D =>
                    j_gfc (pc := 105) (a := 602) D rfl rfl (by decide) rfl (s0_602 H) rfl (sf_429_602 H) fun D =>
                    j_ildn (pc := 108) D rfl rfl rfl fun D =>
                    j_al (pc := 109) (a := 626) (e := 10) D rfl rfl rfl (by decide) (s0_626 H) (s1_626 H) ⟨rfl, rfl, rfl⟩ rfl (gy qb2) fun q D =>
                    j_iv (pc := 110) (m := 686) (dd := 469) (a := [(0, h 10 626 x1.toNat), (0, h 10 626 x2.toNat)]) (rest := []) D rfl rfl rfl rfl rfl (by decide) (s0_602 H) (by decide +kernel) (fun v4 h3 e1 D =>
                      have T := fj_run_ok _ _ _ _ _ _ H.1 e1
                      have H := shp_st H T
                      j_ifeq (pc := 113) D rfl (fun q =>
                        have D : fk_D 717 [(139, none, .iconst 0, 1, 0, 0, 0), (140, none, .ireturn, 1, 0, 0, 0)] := fq_of2 cd_717 ow_717 cl_717 rfl (pc := 139) (by decide +kernel)
                        j_ic (pc := 139) D rfl fun D =>
                        j_zret D rt_717 (gy (by decide))) (fun q D =>
                        j_aldn (pc := 116) D rfl rfl rfl fun D =>
                        j_aldn (pc := 117) D rfl rfl rfl fun D =>
                        j_gfc (pc := 118) (a := 602) D rfl rfl (by decide) rfl (s0_602 H) rfl (sf_430_602 H) fun D =>
                        j_ildn (pc := 121) D rfl rfl rfl fun D =>
                        j_al (pc := 122) (a := 627) (e := 10) D rfl rfl rfl (by decide) (s0_627 H) (s1_627 H) ⟨rfl, rfl, rfl⟩ rfl (gy qb1) fun q D =>
                        j_aldn (pc := 123) D rfl rfl rfl fun D =>
                        have D : fk_D 717 [(124, none, .getfield 92, 3, 430, 129, 12), (127, none, .iload_n 2, 1, 0, 0, 0), (128, none, .iaload, 1, 0, 0, 0), (129, none, .invokevirtual 1244, 3, 2, 469, 1), (132, none, .ifCond .eq 7, 3, 139, 0, 0), (135, none, .iconst 1, 1, 0, 1, 0), (136, none, .goto 4, 3, 140, 0, 0)] := fq_of2 cd_717 ow_717 cl_717 rfl (pc := 124) (by decide +kernel)
                        j_gfc (pc := 124) (a := 602) D rfl rfl (by decide) rfl (s0_602 H) rfl (sf_430_602 H) fun D =>
                        j_ildn (pc := 127) D rfl rfl rfl fun D =>
                        j_al (pc := 128) (a := 627) (e := 10) D rfl rfl rfl (by decide) (s0_627 H) (s1_627 H) ⟨rfl, rfl, rfl⟩ rfl (gy qb2) fun q D =>
                        j_iv (pc := 129) (m := 686) (dd := 469) (a := [(0, h3 10 627 x1.toNat), (0, h3 10 627 x2.toNat)]) (rest := []) D rfl rfl rfl rfl rfl (by decide) (s0_602 H) (by decide +kernel) (fun v7 h6 e1 D =>
                          have T := fj_run_ok _ _ _ _ _ _ H.1 e1
                          have H := shp_st H T
                          j_ifeq (pc := 132) D rfl (fun q =>
                            have D : fk_D 717 [(139, none, .iconst 0, 1, 0, 0, 0), (140, none, .ireturn, 1, 0, 0, 0)] := fq_of2 cd_717 ow_717 cl_717 rfl (pc := 139) (by decide +kernel)
                            j_ic (pc := 139) D rfl fun D =>
                            j_zret D rt_717 (gy (by decide))) (fun q D =>
                            j_ic (pc := 135) D rfl fun D =>
                            j_goto (pc := 136) D rfl <|
                            have D : fk_D 717 [(140, none, .ireturn, 1, 0, 0, 0)] := fq_of2 cd_717 ow_717 cl_717 rfl (pc := 140) (by decide +kernel)
                            j_zret D rt_717 (gy (by decide)))) (fun q8 h6 e1 =>
                          j_tx (hx_717 _)))) (fun q5 h3 e1 =>
                      j_tx (hx_717 _))) (fun q =>
                    have D : fk_D 717 [(139, none, .iconst 0, 1, 0, 0, 0), (140, none, .ireturn, 1, 0, 0, 0)] := fq_of2 cd_717 ow_717 cl_717 rfl (pc := 139) (by decide +kernel)
                    j_ic (pc := 139) D rfl fun D =>
                    j_zret D rt_717 (gy (by decide)))) (fun q =>
                  have D : fk_D 717 [(139, none, .iconst 0, 1, 0, 0, 0), (140, none, .ireturn, 1, 0, 0, 0)] := fq_of2 cd_717 ow_717 cl_717 rfl (pc := 139) (by decide +kernel)
                  j_ic (pc := 139) D rfl fun D =>
                  j_zret D rt_717 (gy (by decide)))) (fun q =>
                have D : fk_D 717 [(141, none, .aload_n 0, 1, 0, 0, 0), (142, none, .getfield 92, 3, 430, 129, 12), (145, none, .iload_n 1, 1, 0, 0, 0), (146, none, .iaload, 1, 0, 0, 0), (147, none, .aload_n 0, 1, 0, 0, 0), (148, none, .getfield 92, 3, 430, 129, 12), (151, none, .iload_n 2, 1, 0, 0, 0), (152, none, .iaload, 1, 0, 0, 0), (153, none, .if_icmp .ne 7, 3, 160, 0, 0), (156, none, .iconst 1, 1, 0, 1, 0), (157, none, .goto 4, 3, 161, 0, 0)] := fq_of2 cd_717 ow_717 cl_717 rfl (pc := 141) (by decide +kernel)
                j_aldn (pc := 141) D rfl rfl rfl fun D =>
                j_gfc (pc := 142) (a := 602) D rfl rfl (by decide) rfl (s0_602 H) rfl (sf_430_602 H) fun D =>
                j_ildn (pc := 145) D rfl rfl rfl fun D =>
                j_al (pc := 146) (a := 627) (e := 10) D rfl rfl rfl (by decide) (s0_627 H) (s1_627 H) ⟨rfl, rfl, rfl⟩ rfl (gy qb1) fun q D =>
                j_aldn (pc := 147) D rfl rfl rfl fun D =>
                j_gfc (pc := 148) (a := 602) D rfl rfl (by decide) rfl (s0_602 H) rfl (sf_430_602 H) fun D =>
                j_ildn (pc := 151) D rfl rfl rfl fun D =>
                j_al (pc := 152) (a := 627) (e := 10) D rfl rfl rfl (by decide) (s0_627 H) (s1_627 H) ⟨rfl, rfl, rfl⟩ rfl (gy qb2) fun q D =>
                j_ine (pc := 153) D rfl (fun q D =>
                  j_ic (pc := 156) D rfl fun D =>
                  j_goto (pc := 157) D rfl <|
                  fk_jump cut_717_161 rfl rfl) (fun q =>
                  have D : fk_D 717 [(160, none, .iconst 0, 1, 0, 0, 0)] := fq_of2 cd_717 ow_717 cl_717 rfl (pc := 160) (by decide +kernel)
                  j_ic (pc := 160) D rfl fun D =>
                  fk_jump cut_717_161 rfl rfl))) (fun q D =>
              j_ic (pc := 56) D rfl fun D =>
              j_zret D rt_717 (gy (by decide)))) (fun q =>
            have D : fk_D 717 [(56, none, .iconst 0, 1, 0, 0, 0), (57, none, .ireturn, 1, 0, 0, 0)] := fq_of2 cd_717 ow_717 cl_717 rfl (pc := 56) (by decide +kernel)
            j_ic (pc := 56) D rfl fun D =>
            j_zret D rt_717 (gy (by decide))))))
/-! 718 StatuteHouseModel.differs(I)I -/
theorem cd_718 : fi_code 718 = prog_69_method_236_code := rfl
theorem hx_718 : ∀ pc, fi_hat 718 pc = none := fun pc => by unfold fi_hat; rw [show fi_hh 718 = [] from rfl]; rfl
theorem rt_718 : fi_ret 718 = some .int := rfl
theorem nl_718 : fi_nl 718 = 2 := rfl
theorem ow_718 : fi_ow 718 = 29 := rfl
theorem cl_718 : fj_cutT.getD 718 [] = [] := rfl
theorem m_718 (d : Nat) (x1 : Int) {h : fi_H} (H : Shp h) : fj_run (d + 1) 718 h [(4, 602), (0, x1)] =
  ca_ (fj_run d 508 h [(1, wI x1), (1, 0), (1, wI (wI ((h 571 602 0) - 1)))]) 0
    (fun v2 h1 =>
    if v2 = 0 then
      some (.inl (some (0, (-1))), h1)
    else
      if 0 ≤ x1 ∧ x1 < 400 then
      some (.inl (some (0, h1 10 714 x1.toNat)), h1)
      else none)
    (fun q3 h1 => tx_ q3 h1) := by
  rw [fj_run_eq d (by decide) h [(4, 602), (0, x1)] (Nat.le_of_ble_eq_true (by rw [nl_718]; rfl))]
  show gG (fj_run d) 718 0 [(0, (4, 602)), (1, (0, x1))] [] h = _
  exact
    have D : fk_D 718 [(0, none, .iload_n 1, 1, 0, 0, 0), (1, none, .i2l, 1, 0, 0, 0), (2, none, .lconst 0, 1, 0, 0, 0), (3, none, .aload_n 0, 1, 0, 0, 0), (4, none, .getfield 1333, 3, 571, 129, 10), (7, none, .iconst 1, 1, 0, 1, 0), (8, none, .isub, 1, 0, 0, 0), (9, none, .i2l, 1, 0, 0, 0), (10, none, .invokestatic 434, 3, 3, 508, 1), (13, none, .ifCond .eq 12, 3, 25, 0, 0), (16, none, .aload_n 0, 1, 0, 0, 0), (17, none, .getfield 408, 3, 570, 129, 12), (20, none, .iload_n 1, 1, 0, 0, 0), (21, none, .iaload, 1, 0, 0, 0), (22, none, .goto 4, 3, 26, 0, 0)] := fq_of2 cd_718 ow_718 cl_718 rfl (pc := 0) (by decide +kernel)
    j_ildn (pc := 0) D rfl rfl rfl fun D =>
    j_i2l (pc := 1) D rfl fun D =>
    j_c0 (pc := 2) (v := (1, 0)) D rfl rfl (by decide +kernel) fun D =>
    j_aldn (pc := 3) D rfl rfl rfl fun D =>
    j_gf (pc := 4) (a := 602) D rfl rfl (by decide) rfl (s0_602 H) rfl fun D =>
    j_ic (pc := 7) D rfl fun D =>
    j_isub (pc := 8) D rfl fun D =>
    j_i2l (pc := 9) D rfl fun D =>
    j_is (pc := 10) (m := 508) (a := [(1, wI x1), (1, 0), (1, wI (wI ((h 571 602 0) - 1)))]) (rest := []) D rfl rfl rfl rfl (fun v2 h1 e1 D =>
      have T := fj_run_ok _ _ _ _ _ _ H.1 e1
      have H := shp_st H T
      j_ifeq (pc := 13) D rfl (fun q =>
        have D : fk_D 718 [(25, none, .iconst (-1), 1, 0, (-1), 0), (26, none, .ireturn, 1, 0, 0, 0)] := fq_of2 cd_718 ow_718 cl_718 rfl (pc := 25) (by decide +kernel)
        j_ic (pc := 25) D rfl fun D =>
        j_iret D rt_718) (fun q D =>
        j_aldn (pc := 16) D rfl rfl rfl fun D =>
        j_gfc (pc := 17) (a := 602) D rfl rfl (by decide) rfl (s0_602 H) rfl (sf_570_602 H) fun D =>
        j_ildn (pc := 20) D rfl rfl rfl fun D =>
        j_al (pc := 21) (a := 714) (e := 10) D rfl rfl rfl (by decide) (s0_714 H) (s1_714 H) ⟨rfl, rfl, rfl⟩ rfl gn fun qb4 D =>
        j_goto (pc := 22) D rfl <|
        have D : fk_D 718 [(26, none, .ireturn, 1, 0, 0, 0)] := fq_of2 cd_718 ow_718 cl_718 rfl (pc := 26) (by decide +kernel)
        j_iret D rt_718)) (fun q3 h1 e1 =>
      j_tx (hx_718 _))
/-! 719 StatuteHouseModel.count(I)I -/
theorem cd_719 : fi_code 719 = prog_69_method_237_code := rfl
theorem hx_719 : ∀ pc, fi_hat 719 pc = none := fun pc => by unfold fi_hat; rw [show fi_hh 719 = [] from rfl]; rfl
theorem rt_719 : fi_ret 719 = some .int := rfl
theorem nl_719 : fi_nl 719 = 2 := rfl
theorem ow_719 : fi_ow 719 = 29 := rfl
theorem cl_719 : fj_cutT.getD 719 [] = [(92, [0]), (97, [0]), (102, [0]), (107, [0]), (112, [0]), (117, [0]), (122, [0]), (127, [0]), (132, [0, 1]), (142, [0]), (147, [0]), (152, [0]), (157, [0]), (162, [0]), (167, [0]), (172, [0]), (177, [])] := rfl
theorem cut_719_92 : fj_cut 719 92 = some [0] := by decide +kernel
noncomputable def c_719_92 (d : Nat) (h : fi_H) : fk_R := gG (fj_run d) 719 92 [(0, (4, 602))] [] h
theorem cut_719_97 : fj_cut 719 97 = some [0] := by decide +kernel
noncomputable def c_719_97 (d : Nat) (h : fi_H) : fk_R := gG (fj_run d) 719 97 [(0, (4, 602))] [] h
theorem cut_719_102 : fj_cut 719 102 = some [0] := by decide +kernel
noncomputable def c_719_102 (d : Nat) (h : fi_H) : fk_R := gG (fj_run d) 719 102 [(0, (4, 602))] [] h
theorem cut_719_107 : fj_cut 719 107 = some [0] := by decide +kernel
noncomputable def c_719_107 (d : Nat) (h : fi_H) : fk_R := gG (fj_run d) 719 107 [(0, (4, 602))] [] h
theorem cut_719_112 : fj_cut 719 112 = some [0] := by decide +kernel
noncomputable def c_719_112 (d : Nat) (h : fi_H) : fk_R := gG (fj_run d) 719 112 [(0, (4, 602))] [] h
theorem cut_719_117 : fj_cut 719 117 = some [0] := by decide +kernel
noncomputable def c_719_117 (d : Nat) (h : fi_H) : fk_R := gG (fj_run d) 719 117 [(0, (4, 602))] [] h
theorem cut_719_122 : fj_cut 719 122 = some [0] := by decide +kernel
noncomputable def c_719_122 (d : Nat) (h : fi_H) : fk_R := gG (fj_run d) 719 122 [(0, (4, 602))] [] h
theorem cut_719_127 : fj_cut 719 127 = some [0] := by decide +kernel
noncomputable def c_719_127 (d : Nat) (h : fi_H) : fk_R := gG (fj_run d) 719 127 [(0, (4, 602))] [] h
theorem cut_719_132 : fj_cut 719 132 = some [0, 1] := by decide +kernel
noncomputable def c_719_132 (d : Nat) (x1 : Int) (h : fi_H) : fk_R := gG (fj_run d) 719 132 [(0, (4, 602)), (1, (0, x1))] [] h
theorem cut_719_142 : fj_cut 719 142 = some [0] := by decide +kernel
noncomputable def c_719_142 (d : Nat) (h : fi_H) : fk_R := gG (fj_run d) 719 142 [(0, (4, 602))] [] h
theorem cut_719_147 : fj_cut 719 147 = some [0] := by decide +kernel
noncomputable def c_719_147 (d : Nat) (h : fi_H) : fk_R := gG (fj_run d) 719 147 [(0, (4, 602))] [] h
theorem cut_719_152 : fj_cut 719 152 = some [0] := by decide +kernel
noncomputable def c_719_152 (d : Nat) (h : fi_H) : fk_R := gG (fj_run d) 719 152 [(0, (4, 602))] [] h
theorem cut_719_157 : fj_cut 719 157 = some [0] := by decide +kernel
noncomputable def c_719_157 (d : Nat) (h : fi_H) : fk_R := gG (fj_run d) 719 157 [(0, (4, 602))] [] h
theorem cut_719_162 : fj_cut 719 162 = some [0] := by decide +kernel
noncomputable def c_719_162 (d : Nat) (h : fi_H) : fk_R := gG (fj_run d) 719 162 [(0, (4, 602))] [] h
theorem cut_719_167 : fj_cut 719 167 = some [0] := by decide +kernel
noncomputable def c_719_167 (d : Nat) (h : fi_H) : fk_R := gG (fj_run d) 719 167 [(0, (4, 602))] [] h
theorem cut_719_172 : fj_cut 719 172 = some [0] := by decide +kernel
noncomputable def c_719_172 (d : Nat) (h : fi_H) : fk_R := gG (fj_run d) 719 172 [(0, (4, 602))] [] h
theorem cut_719_177 : fj_cut 719 177 = some [] := by decide +kernel
noncomputable def c_719_177 (d : Nat) (h : fi_H) : fk_R := gG (fj_run d) 719 177 [] [] h
theorem e_719_92 (d : Nat) {h : fi_H} (H : Shp h) : c_719_92 d h =
  some (.inl (some (0, h 449 602 0)), h) := by
  unfold c_719_92
  exact
    have D : fk_D 719 [(92, some [0], .aload_n 0, 1, 0, 0, 0), (93, none, .getfield 141, 3, 449, 129, 10), (96, none, .ireturn, 1, 0, 0, 0)] := fq_of2 cd_719 ow_719 cl_719 rfl (pc := 92) (by decide +kernel)
    j_aldn (pc := 92) D rfl rfl rfl fun D =>
    j_gf (pc := 93) (a := 602) D rfl rfl (by decide) rfl (s0_602 H) rfl fun D =>
    j_iret D rt_719
theorem e_719_97 (d : Nat) {h : fi_H} (H : Shp h) : c_719_97 d h =
  some (.inl (some (0, h 413 602 0)), h) := by
  unfold c_719_97
  exact
    have D : fk_D 719 [(97, some [0], .aload_n 0, 1, 0, 0, 0), (98, none, .getfield 579, 3, 413, 129, 10), (101, none, .ireturn, 1, 0, 0, 0)] := fq_of2 cd_719 ow_719 cl_719 rfl (pc := 97) (by decide +kernel)
    j_aldn (pc := 97) D rfl rfl rfl fun D =>
    j_gf (pc := 98) (a := 602) D rfl rfl (by decide) rfl (s0_602 H) rfl fun D =>
    j_iret D rt_719
theorem e_719_102 (d : Nat) {h : fi_H} (H : Shp h) : c_719_102 d h =
  some (.inl (some (0, h 459 602 0)), h) := by
  unfold c_719_102
  exact
    have D : fk_D 719 [(102, some [0], .aload_n 0, 1, 0, 0, 0), (103, none, .getfield 169, 3, 459, 129, 10), (106, none, .ireturn, 1, 0, 0, 0)] := fq_of2 cd_719 ow_719 cl_719 rfl (pc := 102) (by decide +kernel)
    j_aldn (pc := 102) D rfl rfl rfl fun D =>
    j_gf (pc := 103) (a := 602) D rfl rfl (by decide) rfl (s0_602 H) rfl fun D =>
    j_iret D rt_719
theorem e_719_107 (d : Nat) {h : fi_H} (H : Shp h) : c_719_107 d h =
  some (.inl (some (0, h 468 602 0)), h) := by
  unfold c_719_107
  exact
    have D : fk_D 719 [(107, some [0], .aload_n 0, 1, 0, 0, 0), (108, none, .getfield 878, 3, 468, 129, 10), (111, none, .ireturn, 1, 0, 0, 0)] := fq_of2 cd_719 ow_719 cl_719 rfl (pc := 107) (by decide +kernel)
    j_aldn (pc := 107) D rfl rfl rfl fun D =>
    j_gf (pc := 108) (a := 602) D rfl rfl (by decide) rfl (s0_602 H) rfl fun D =>
    j_iret D rt_719
theorem e_719_112 (d : Nat) {h : fi_H} (H : Shp h) : c_719_112 d h =
  some (.inl (some (0, h 473 602 0)), h) := by
  unfold c_719_112
  exact
    have D : fk_D 719 [(112, some [0], .aload_n 0, 1, 0, 0, 0), (113, none, .getfield 875, 3, 473, 129, 10), (116, none, .ireturn, 1, 0, 0, 0)] := fq_of2 cd_719 ow_719 cl_719 rfl (pc := 112) (by decide +kernel)
    j_aldn (pc := 112) D rfl rfl rfl fun D =>
    j_gf (pc := 113) (a := 602) D rfl rfl (by decide) rfl (s0_602 H) rfl fun D =>
    j_iret D rt_719
theorem e_719_117 (d : Nat) {h : fi_H} (H : Shp h) : c_719_117 d h =
  some (.inl (some (0, h 528 602 0)), h) := by
  unfold c_719_117
  exact
    have D : fk_D 719 [(117, some [0], .aload_n 0, 1, 0, 0, 0), (118, none, .getfield 1095, 3, 528, 129, 10), (121, none, .ireturn, 1, 0, 0, 0)] := fq_of2 cd_719 ow_719 cl_719 rfl (pc := 117) (by decide +kernel)
    j_aldn (pc := 117) D rfl rfl rfl fun D =>
    j_gf (pc := 118) (a := 602) D rfl rfl (by decide) rfl (s0_602 H) rfl fun D =>
    j_iret D rt_719
theorem e_719_122 (d : Nat) {h : fi_H} (H : Shp h) : c_719_122 d h =
  some (.inl (some (0, h 542 602 0)), h) := by
  unfold c_719_122
  exact
    have D : fk_D 719 [(122, some [0], .aload_n 0, 1, 0, 0, 0), (123, none, .getfield 1098, 3, 542, 129, 10), (126, none, .ireturn, 1, 0, 0, 0)] := fq_of2 cd_719 ow_719 cl_719 rfl (pc := 122) (by decide +kernel)
    j_aldn (pc := 122) D rfl rfl rfl fun D =>
    j_gf (pc := 123) (a := 602) D rfl rfl (by decide) rfl (s0_602 H) rfl fun D =>
    j_iret D rt_719
theorem e_719_127 (d : Nat) {h : fi_H} (H : Shp h) : c_719_127 d h =
  some (.inl (some (0, h 390 602 0)), h) := by
  unfold c_719_127
  exact
    have D : fk_D 719 [(127, some [0], .aload_n 0, 1, 0, 0, 0), (128, none, .getfield 463, 3, 390, 129, 10), (131, none, .ireturn, 1, 0, 0, 0)] := fq_of2 cd_719 ow_719 cl_719 rfl (pc := 127) (by decide +kernel)
    j_aldn (pc := 127) D rfl rfl rfl fun D =>
    j_gf (pc := 128) (a := 602) D rfl rfl (by decide) rfl (s0_602 H) rfl fun D =>
    j_iret D rt_719
theorem e_719_132 (d : Nat) (x1 : Int) {h : fi_H} (H : Shp h) : c_719_132 d x1 h =
  if 0 ≤ wI (x1 - 8) ∧ wI (x1 - 8) < 4 then
  some (.inl (some (0, h 10 642 (wI (x1 - 8)).toNat)), h)
  else none := by
  unfold c_719_132
  exact
    have D : fk_D 719 [(132, some [0, 1], .aload_n 0, 1, 0, 0, 0), (133, none, .getfield 137, 3, 448, 129, 12), (136, none, .iload_n 1, 1, 0, 0, 0), (137, none, .bipush 8, 2, 0, 8, 0), (139, none, .isub, 1, 0, 0, 0), (140, none, .iaload, 1, 0, 0, 0), (141, none, .ireturn, 1, 0, 0, 0)] := fq_of2 cd_719 ow_719 cl_719 rfl (pc := 132) (by decide +kernel)
    j_aldn (pc := 132) D rfl rfl rfl fun D =>
    j_gfc (pc := 133) (a := 602) D rfl rfl (by decide) rfl (s0_602 H) rfl (sf_448_602 H) fun D =>
    j_ildn (pc := 136) D rfl rfl rfl fun D =>
    j_bp (pc := 137) D rfl fun D =>
    j_isub (pc := 139) D rfl fun D =>
    j_al (pc := 140) (a := 642) (e := 10) D rfl rfl rfl (by decide) (s0_642 H) (s1_642 H) ⟨rfl, rfl, rfl⟩ rfl gn fun qb1 D =>
    j_iret D rt_719
theorem e_719_142 (d : Nat) {h : fi_H} (H : Shp h) : c_719_142 d h =
  some (.inl (some (0, h 481 602 0)), h) := by
  unfold c_719_142
  exact
    have D : fk_D 719 [(142, some [0], .aload_n 0, 1, 0, 0, 0), (143, none, .getfield 851, 3, 481, 129, 10), (146, none, .ireturn, 1, 0, 0, 0)] := fq_of2 cd_719 ow_719 cl_719 rfl (pc := 142) (by decide +kernel)
    j_aldn (pc := 142) D rfl rfl rfl fun D =>
    j_gf (pc := 143) (a := 602) D rfl rfl (by decide) rfl (s0_602 H) rfl fun D =>
    j_iret D rt_719
theorem e_719_147 (d : Nat) {h : fi_H} (H : Shp h) : c_719_147 d h =
  some (.inl (some (0, h 495 602 0)), h) := by
  unfold c_719_147
  exact
    have D : fk_D 719 [(147, some [0], .aload_n 0, 1, 0, 0, 0), (148, none, .getfield 860, 3, 495, 129, 10), (151, none, .ireturn, 1, 0, 0, 0)] := fq_of2 cd_719 ow_719 cl_719 rfl (pc := 147) (by decide +kernel)
    j_aldn (pc := 147) D rfl rfl rfl fun D =>
    j_gf (pc := 148) (a := 602) D rfl rfl (by decide) rfl (s0_602 H) rfl fun D =>
    j_iret D rt_719
theorem e_719_152 (d : Nat) {h : fi_H} (H : Shp h) : c_719_152 d h =
  some (.inl (some (0, h 392 602 0)), h) := by
  unfold c_719_152
  exact
    have D : fk_D 719 [(152, some [0], .aload_n 0, 1, 0, 0, 0), (153, none, .getfield 573, 3, 392, 129, 10), (156, none, .ireturn, 1, 0, 0, 0)] := fq_of2 cd_719 ow_719 cl_719 rfl (pc := 152) (by decide +kernel)
    j_aldn (pc := 152) D rfl rfl rfl fun D =>
    j_gf (pc := 153) (a := 602) D rfl rfl (by decide) rfl (s0_602 H) rfl fun D =>
    j_iret D rt_719
theorem e_719_157 (d : Nat) {h : fi_H} (H : Shp h) : c_719_157 d h =
  some (.inl (some (0, h 426 602 0)), h) := by
  unfold c_719_157
  exact
    have D : fk_D 719 [(157, some [0], .aload_n 0, 1, 0, 0, 0), (158, none, .getfield 670, 3, 426, 129, 10), (161, none, .ireturn, 1, 0, 0, 0)] := fq_of2 cd_719 ow_719 cl_719 rfl (pc := 157) (by decide +kernel)
    j_aldn (pc := 157) D rfl rfl rfl fun D =>
    j_gf (pc := 158) (a := 602) D rfl rfl (by decide) rfl (s0_602 H) rfl fun D =>
    j_iret D rt_719
theorem e_719_162 (d : Nat) {h : fi_H} (H : Shp h) : c_719_162 d h =
  some (.inl (some (0, h 453 602 0)), h) := by
  unfold c_719_162
  exact
    have D : fk_D 719 [(162, some [0], .aload_n 0, 1, 0, 0, 0), (163, none, .getfield 833, 3, 453, 129, 10), (166, none, .ireturn, 1, 0, 0, 0)] := fq_of2 cd_719 ow_719 cl_719 rfl (pc := 162) (by decide +kernel)
    j_aldn (pc := 162) D rfl rfl rfl fun D =>
    j_gf (pc := 163) (a := 602) D rfl rfl (by decide) rfl (s0_602 H) rfl fun D =>
    j_iret D rt_719
theorem e_719_167 (d : Nat) {h : fi_H} (H : Shp h) : c_719_167 d h =
  some (.inl (some (0, h 439 602 0)), h) := by
  unfold c_719_167
  exact
    have D : fk_D 719 [(167, some [0], .aload_n 0, 1, 0, 0, 0), (168, none, .getfield 815, 3, 439, 129, 10), (171, none, .ireturn, 1, 0, 0, 0)] := fq_of2 cd_719 ow_719 cl_719 rfl (pc := 167) (by decide +kernel)
    j_aldn (pc := 167) D rfl rfl rfl fun D =>
    j_gf (pc := 168) (a := 602) D rfl rfl (by decide) rfl (s0_602 H) rfl fun D =>
    j_iret D rt_719
theorem e_719_172 (d : Nat) {h : fi_H} (H : Shp h) : c_719_172 d h =
  some (.inl (some (0, h 434 602 0)), h) := by
  unfold c_719_172
  exact
    have D : fk_D 719 [(172, some [0], .aload_n 0, 1, 0, 0, 0), (173, none, .getfield 805, 3, 434, 129, 10), (176, none, .ireturn, 1, 0, 0, 0)] := fq_of2 cd_719 ow_719 cl_719 rfl (pc := 172) (by decide +kernel)
    j_aldn (pc := 172) D rfl rfl rfl fun D =>
    j_gf (pc := 173) (a := 602) D rfl rfl (by decide) rfl (s0_602 H) rfl fun D =>
    j_iret D rt_719
theorem e_719_177 (d : Nat) {h : fi_H} (H : Shp h) : c_719_177 d h =
  some (.inl (some (0, (-1))), h) := by
  unfold c_719_177
  exact
    have D : fk_D 719 [(177, some [], .iconst (-1), 1, 0, (-1), 0), (178, none, .ireturn, 1, 0, 0, 0)] := fq_of2 cd_719 ow_719 cl_719 rfl (pc := 177) (by decide +kernel)
    j_ic (pc := 177) D rfl fun D =>
    j_iret D rt_719
theorem m_719 (d : Nat) (x1 : Int) {h : fi_H} (H : Shp h) : fj_run (d + 1) 719 h [(4, 602), (0, x1)] =
  if x1 = 0 then
    c_719_92 d h
  else if x1 = 1 then
    c_719_97 d h
  else if x1 = 2 then
    c_719_102 d h
  else if x1 = 3 then
    c_719_107 d h
  else if x1 = 4 then
    c_719_112 d h
  else if x1 = 5 then
    c_719_117 d h
  else if x1 = 6 then
    c_719_122 d h
  else if x1 = 7 then
    c_719_127 d h
  else if x1 = 8 then
    c_719_132 d x1 h
  else if x1 = 9 then
    c_719_132 d x1 h
  else if x1 = 10 then
    c_719_132 d x1 h
  else if x1 = 11 then
    c_719_132 d x1 h
  else if x1 = 12 then
    c_719_142 d h
  else if x1 = 13 then
    c_719_147 d h
  else if x1 = 14 then
    c_719_152 d h
  else if x1 = 15 then
    c_719_157 d h
  else if x1 = 16 then
    c_719_162 d h
  else if x1 = 17 then
    c_719_167 d h
  else if x1 = 18 then
    c_719_172 d h
  else 
    c_719_177 d h := by
  rw [fj_run_eq d (by decide) h [(4, 602), (0, x1)] (Nat.le_of_ble_eq_true (by rw [nl_719]; rfl))]
  show gG (fj_run d) 719 0 [(0, (4, 602)), (1, (0, x1))] [] h = _
  exact
    have D : fk_D 719 [(0, none, .iload_n 1, 1, 0, 0, 0), (1, none, .tableswitch 176 0 18 #[91, 96, 101, 106, 111, 116, 121, 126, 131, 131, 131, 131, 141, 146, 151, 156, 161, 166, 171], 91, 0, 0, 0)] := fq_of3 cd_719 ow_719 cl_719 rfl (pc := 0) (by decide +kernel)
    j_ildn (pc := 0) D rfl rfl rfl fun D =>
    have N : fk_ni (x1) [] := trivial
    j_tc (pc := 1) 0 (t := 92) D N rfl (by decide +kernel) (fun q =>
      fk_jump cut_719_92 rfl rfl) (fun N =>
      j_tc 1 (t := 97) D N rfl (by decide +kernel) (fun q =>
        fk_jump cut_719_97 rfl rfl) (fun N =>
        j_tc 2 (t := 102) D N rfl (by decide +kernel) (fun q =>
          fk_jump cut_719_102 rfl rfl) (fun N =>
          j_tc 3 (t := 107) D N rfl (by decide +kernel) (fun q =>
            fk_jump cut_719_107 rfl rfl) (fun N =>
            j_tc 4 (t := 112) D N rfl (by decide +kernel) (fun q =>
              fk_jump cut_719_112 rfl rfl) (fun N =>
              j_tc 5 (t := 117) D N rfl (by decide +kernel) (fun q =>
                fk_jump cut_719_117 rfl rfl) (fun N =>
                j_tc 6 (t := 122) D N rfl (by decide +kernel) (fun q =>
                  fk_jump cut_719_122 rfl rfl) (fun N =>
                  j_tc 7 (t := 127) D N rfl (by decide +kernel) (fun q =>
                    fk_jump cut_719_127 rfl rfl) (fun N =>
                    j_tc 8 (t := 132) D N rfl (by decide +kernel) (fun q =>
                      fk_jump cut_719_132 rfl rfl) (fun N =>
                      j_tc 9 (t := 132) D N rfl (by decide +kernel) (fun q =>
                        fk_jump cut_719_132 rfl rfl) (fun N =>
                        j_tc 10 (t := 132) D N rfl (by decide +kernel) (fun q =>
                          fk_jump cut_719_132 rfl rfl) (fun N =>
                          j_tc 11 (t := 132) D N rfl (by decide +kernel) (fun q =>
                            fk_jump cut_719_132 rfl rfl) (fun N =>
                            j_tc 12 (t := 142) D N rfl (by decide +kernel) (fun q =>
                              fk_jump cut_719_142 rfl rfl) (fun N =>
                              j_tc 13 (t := 147) D N rfl (by decide +kernel) (fun q =>
                                fk_jump cut_719_147 rfl rfl) (fun N =>
                                j_tc 14 (t := 152) D N rfl (by decide +kernel) (fun q =>
                                  fk_jump cut_719_152 rfl rfl) (fun N =>
                                  j_tc 15 (t := 157) D N rfl (by decide +kernel) (fun q =>
                                    fk_jump cut_719_157 rfl rfl) (fun N =>
                                    j_tc 16 (t := 162) D N rfl (by decide +kernel) (fun q =>
                                      fk_jump cut_719_162 rfl rfl) (fun N =>
                                      j_tc 17 (t := 167) D N rfl (by decide +kernel) (fun q =>
                                        fk_jump cut_719_167 rfl rfl) (fun N =>
                                        j_tc 18 (t := 172) D N rfl (by decide +kernel) (fun q =>
                                          fk_jump cut_719_172 rfl rfl) (fun N =>
                                          j_td (t := 177) D N rfl (by decide +kernel) (by decide +kernel) <|
                                          fk_jump cut_719_177 rfl rfl)))))))))))))))))))
